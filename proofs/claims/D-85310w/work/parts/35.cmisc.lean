/-! THE COMPONENT: small things: casts' sense, Strings, Math, opaque statics, stores of references, copies -/
set_option maxRecDepth 100000
section CM
variable {p : Program} {l : Launch} {e : Env} {R : Room} {s : State} {m : MethodId} {args : Array Value} {below : List Frame} {meth : Method} {c : Code} {H : Heap} {locs : List Loc} {cells slots : Nat} {Q : State → Prop}
variable {cc : ByteArray} {pc nL lev0 : Nat} {ls : Array Slot} {rest st : List Value} {own : String} {E : gX} {G G0 G1 : GH} {rv : Option Value} {g : JFrame}
theorem c_castM {t a : Nat} {u : Unit} (h : cCast G [t] a = some u) : cT G a = t := by
  unfold cCast at h
  split at h
  · next hc => exact List.mem_singleton.mp hc
  · cases h
theorem c_castL {ts : List Nat} {a : Nat} {u : Unit} (h : cCast G ts a = some u) : cT G a ∈ ts := by
  unfold cCast at h
  split at h
  · next hc => exact hc
  · cases h
theorem c_recvS {a : Nat} (hE : gEnv E s) (hG : gC E G H) (ht : cT G a = 5) : ∃ cell : Cell, H[a]? = some cell ∧ cell.vm.isStatics = false ∧ s.vm.findClass "java/lang/String" = some cell.cls := by
  obtain ⟨-, cell, h1, -, h3, h4, -⟩ := (hG.1 a (by omega)).2.2.2.2 (Or.inl ht)
  exact ⟨cell, h1, h3, by rw [(h4 ht).1]; exact (hE.K.1 4 _ rfl).2.1⟩
theorem c_getS {a k idx : Nat} {v : Value} (hdg : decode cc pc = .ok (.getfield idx, 3)) (w : cLk own idx RJ9 (TJ9 k).2.1 (TJ9 k).2.2.1) (hin : ∀ w ∈ u_ws RJ9 TJ9 2, w ∈ lw_all) (hk : k < 2) (hT : (TJ9 k).1 = RJ9) (hv : cVal G a 4 k = v) (S : CallFix p m c cc nL s args lw_all own) (hE : gEnv E s) (hG : gC E G H) (ht : cT G a = 5)
    (kk : W p l e R s m args below meth c H locs cells slots Q (F0 m (pc + 3) ls (v :: rest))) : W p l e R s m args below meth c H locs cells slots Q (F0 m pc ls (.ref a :: rest)) := by
  obtain ⟨-, cell, h1, h2, -, h4, -⟩ := (hG.1 a (by omega)).2.2.2.2 (Or.inl ht)
  obtain ⟨-, h5⟩ := h4 ht
  obtain ⟨hS, hfc, kC, hkC, hkind⟩ := hE.K.1 4 _ rfl
  obtain ⟨cf, kf, fi, f, hi, hsl⟩ := hS k hk
  have h6 := h5 k hk
  rw [hv, ← hsl] at h6
  rw [hT] at hi
  have hst := (u_facts hfc hkC (u_lays S.2.2.2.2 hin hk) (by rw [hT]; exact hi)).1
  rcases w with w | ⟨host, w⟩
  · exact W.getf S.1 S.2.1 S.2.2.2.1 (S.2.2.2.2 _ w) hi hst h1 h2 (v := v) h6 rfl rfl hdg kk
  · exact va_Wgetf S.1 S.2.1 S.2.2.2.1 (va_Nw.use rfl (hE.nw w)) hi hst h1 h2 (v := v) h6 rfl rfl hdg kk
theorem c_opq {C n d : String} {A : Nat → Prop} {U : State} {H : Heap} (h : va_Zq C n d A U H) : ∃ o : Option Nat, va_Z C n d (va_rf o) A U H := by
  rcases h with h | ⟨t, h⟩
  · exact ⟨none, h⟩
  · exact ⟨some t, h⟩
theorem c_math_max {idx : Nat} {x y : Int32} (w : Cond.methodLink own idx Lib.Math.max.name ∈ lw_all) (hdg : decode cc pc = .ok (.invokestatic idx, 3)) (S : CallFix p m c cc nL s args lw_all own) (hls : ls.size = nL) (hC0 : gC E G0 s.heap) (hG : gC E G H) (hS : va_S (gx_C E) s.heap H locs) (hroom : 1 ≤ lev0) (hst : (rest.map fun v => v.category).sum + 13 ≤ 64)
    (kk : WC E p l e (gRm lev0 (cBx G0) (cBs G0)) s m args below meth c H locs Q (F0 m (pc + 3) ls (.int (if x < y then y else x) :: rest))) : WC E p l e (gRm lev0 (cBx G0) (cBs G0)) s m args below meth c H locs Q (F0 m pc ls (.int y :: .int x :: rest)) := by
  refine c_know hC0.2.2.2.2.2 fun hsl => ?_
  have h1 := c_fit (lev0 := lev0) hC0 hG hS hsl
  exact va_mmax S.1 S.2.1 (S.2.2.1.trans hls.symm) S.2.2.2.1 (S.2.2.2.2 _ w) (S.2.2.2.2 _ q426) (S.2.2.2.2 _ q134) (S.2.2.2.2 _ q427) hroom (by show _ ≤ 64 * lev0; omega) (by have := h1.1; omega) (by have := h1.2; omega) hdg kk
theorem c_math_min {idx : Nat} {x y : Int32} (w : Cond.methodLink own idx Lib.Math.min.name ∈ lw_all) (hdg : decode cc pc = .ok (.invokestatic idx, 3)) (S : CallFix p m c cc nL s args lw_all own) (hls : ls.size = nL) (hC0 : gC E G0 s.heap) (hG : gC E G H) (hS : va_S (gx_C E) s.heap H locs) (hroom : 1 ≤ lev0) (hst : (rest.map fun v => v.category).sum + 13 ≤ 64)
    (kk : WC E p l e (gRm lev0 (cBx G0) (cBs G0)) s m args below meth c H locs Q (F0 m (pc + 3) ls (.int (if y < x then y else x) :: rest))) : WC E p l e (gRm lev0 (cBx G0) (cBs G0)) s m args below meth c H locs Q (F0 m pc ls (.int y :: .int x :: rest)) := by
  refine c_know hC0.2.2.2.2.2 fun hsl => ?_
  have h1 := c_fit (lev0 := lev0) hC0 hG hS hsl
  exact va_mmin S.1 S.2.1 (S.2.2.1.trans hls.symm) S.2.2.2.1 (S.2.2.2.2 _ w) (S.2.2.2.2 _ q444) (S.2.2.2.2 _ q134) (S.2.2.2.2 _ q445) hroom (by show _ ≤ 64 * lev0; omega) (by have := h1.1; omega) (by have := h1.2; omega) hdg kk
/-- tags of objects that go into a row of Objects -/
def cObL : List Nat := [11, 12, 13, 14, 15, 16, 17, 18, 19, 20, 21, 22, 23, 24, 25, 26, 27, 28, 29, 30, 31, 32, 33, 34, 35, 36, 37, 38]
theorem c_any {ci v : Nat} {C : String} {T : u_T} {N : Nat} (hE : gEnv E s) (hG : gC E G H) (hc : gCl[ci]? = some (C, T, N)) (h4 : ci ≠ 4) (ht : cT G v = ci + 1) (hcs : Cond.castable C "java/lang/Object" ∈ gNwL) : va_Any "java/lang/Object" s H v := by
  obtain ⟨cell, h1, h2, h3⟩ := c_recv hE hG hc h4 ht
  obtain ⟨kC, hkC, -⟩ := Vm.findClass_spec h3
  obtain ⟨c0, t0, f1, f2, f3⟩ := Cond.castable_spec (va_Nw.use (A := #[]) rfl (hE.nw hcs))
  refine ⟨cell, h1, h2, ⟨kC, hkC⟩, fun comp hcomp => ?_⟩
  cases h3.symm.trans f1
  cases f2.symm.trans hcomp
  exact f3
theorem c_anyL {v : Nat} (hE : gEnv E s) (hG : gC E G H) (h : cT G v ∈ cObL) : va_Any "java/lang/Object" s H v := by
  unfold cObL at h
  simp only [List.mem_cons, List.not_mem_nil, or_false] at h
  rcases h with ht | ht | ht | ht | ht | ht | ht | ht | ht | ht | ht | ht | ht | ht | ht | ht | ht | ht | ht | ht | ht | ht | ht | ht | ht | ht | ht | ht
  · exact c_any (ci := 10) hE hG rfl (by decide) ht (lw_nw q3415 rfl)
  · exact c_any (ci := 11) hE hG rfl (by decide) ht (lw_nw q3419 rfl)
  · exact c_any (ci := 12) hE hG rfl (by decide) ht (lw_nw q3420 rfl)
  · exact c_any (ci := 13) hE hG rfl (by decide) ht (lw_nw q3421 rfl)
  · exact c_any (ci := 14) hE hG rfl (by decide) ht (lw_nw q3422 rfl)
  · exact c_any (ci := 15) hE hG rfl (by decide) ht (lw_nw q3423 rfl)
  · exact c_any (ci := 16) hE hG rfl (by decide) ht (lw_nw q3424 rfl)
  · exact c_any (ci := 17) hE hG rfl (by decide) ht (lw_nw q3425 rfl)
  · exact c_any (ci := 18) hE hG rfl (by decide) ht (lw_nw q3426 rfl)
  · exact c_any (ci := 19) hE hG rfl (by decide) ht (lw_nw q3427 rfl)
  · exact c_any (ci := 20) hE hG rfl (by decide) ht (lw_nw q3428 rfl)
  · exact c_any (ci := 21) hE hG rfl (by decide) ht (lw_nw q3429 rfl)
  · exact c_any (ci := 22) hE hG rfl (by decide) ht (lw_nw q3430 rfl)
  · exact c_any (ci := 23) hE hG rfl (by decide) ht (lw_nw q3431 rfl)
  · exact c_any (ci := 24) hE hG rfl (by decide) ht (lw_nw q3432 rfl)
  · exact c_any (ci := 25) hE hG rfl (by decide) ht (lw_nw q3433 rfl)
  · exact c_any (ci := 26) hE hG rfl (by decide) ht (lw_nw q3434 rfl)
  · exact c_any (ci := 27) hE hG rfl (by decide) ht (lw_nw q3435 rfl)
  · exact c_any (ci := 28) hE hG rfl (by decide) ht (lw_nw q3436 rfl)
  · exact c_any (ci := 29) hE hG rfl (by decide) ht (lw_nw q3437 rfl)
  · exact c_any (ci := 30) hE hG rfl (by decide) ht (lw_nw q3438 rfl)
  · exact c_any (ci := 31) hE hG rfl (by decide) ht (lw_nw q3439 rfl)
  · exact c_any (ci := 32) hE hG rfl (by decide) ht (lw_nw q3440 rfl)
  · exact c_any (ci := 33) hE hG rfl (by decide) ht (lw_nw q3441 rfl)
  · exact c_any (ci := 34) hE hG rfl (by decide) ht (lw_nw q3442 rfl)
  · exact c_any (ci := 35) hE hG rfl (by decide) ht (lw_nw q3443 rfl)
  · exact c_any (ci := 36) hE hG rfl (by decide) ht (lw_nw q3444 rfl)
  · exact c_any (ci := 37) hE hG rfl (by decide) ht (lw_nw q3445 rfl)
theorem in_J9s : ∀ w ∈ u_ws RJ9 TJ9 2, w ∈ lw_all := fun w h => in_J9 w (by
  obtain ⟨k, hk, hw⟩ := List.mem_map.mp h
  exact List.mem_map.mpr ⟨k, List.mem_range.mpr (by have := List.mem_range.mp hk; omega), hw⟩)
/-- a row of Objects takes any object of these classes -/
def cAstR (G : GH) (a : Nat) (i : Int32) (v : Nat) : Option GH := if cT G a = 104 ∧ ¬ (i < 0 ∨ cN G a ≤ i.toNatClampNeg) ∧ cT G v ∈ cObL then some (cSetR G a i.toNatClampNeg (some v)) else none
theorem c_astR {a v : Nat} {i : Int32} (hdg : decode cc pc = .ok (.aastore, 1)) (S : CallFix p m c cc nL s args lw_all own) (hE : gEnv E s) (hG : gC E G H) (hS : va_S (gx_C E) s.heap H locs) (hC0 : gC E G0 s.heap) (hv : cAstR G a i v = some G1)
    (kk : ∀ (H1 : Heap) (locs1 : List Loc), gC E G1 H1 → va_S (gx_C E) s.heap H1 locs1 → WC E p l e R s m args below meth c H1 locs1 Q (F0 m (pc + 1) ls rest)) : WC E p l e R s m args below meth c H locs Q (F0 m pc ls (.ref v :: .int i :: .ref a :: rest)) := by
  unfold cAstR at hv
  split at hv
  · next hc =>
    obtain ⟨ht, hin, hob⟩ := hc
    cases hv
    have hx : H[a]? = some (vp_cell (E.2.1 4) (cN G a, .inr (.inr (.inr (.inr (cR G a)))))) := c_cell hG (by unfold cArr; rw [ht] <;> rfl)
    have hA : gx_C E a := (hG.1 a (by omega)).2.2.1 (by omega) (by omega)
    obtain ⟨cellV, g1, g3, ⟨kC, hkC⟩, hasg⟩ := c_anyL hE hG hob
    obtain ⟨kA, comp, k1, k2, k3, -⟩ := (hE.K.2 4 _ rfl).2
    obtain ⟨kE, hkE, -⟩ := Vm.findClass_spec k3
    have hlt : i.toNatClampNeg < cN G a := Nat.not_le.mp fun q => hin (Or.inr q)
    refine W.aast S.1 S.2.1 hx (fun q h => by cases h) (fun h => by cases h) k1 k2 rfl hkE ⟨fun q => hin (Or.inl q), by show _ < (arrV _ _ _).slots.size; rw [arrV_size]; exact hlt⟩ g1 (fun q h => by rw [h] at g3; cases g3) hkC (hasg comp k3) rfl rfl hdg fun H1 e z oq => ?_
    have ex : (vp_cell (E.2.1 4) (cN G a, .inr (.inr (.inr (.inr (cR G a)))))).setSlot i.toNatClampNeg (.ref v) = vp_cell (E.2.1 4) (cN G a, .inr (.inr (.inr (.inr (cUp (cR G) a i.toNatClampNeg (some v) a))))) := by
      rw [vp_cell_q, vp_cell_q, arrV_store]
      congr 2
      funext q
      by_cases hq : q = i.toNatClampNeg
      · subst hq; simp [updV, cUp, va_rf]
      · simp [updV, cUp, hq]
    rw [ex] at e
    exact g_sync hC0.2.2.2.2.2 (kk H1 _ (c_setA hG (by omega) (by omega) rfl rfl rfl rfl rfl rfl c_othR oq z hx e (by rw [vp_cell_q, vp_cell_q, arrV_size, arrV_size]) (by unfold cArr; rw [show cT (cSetR G a i.toNatClampNeg (some v)) a = 104 from ht] <;> rfl)) (hS.put z oq hA))
  · cases hv
/-- System.arraycopy between two arrays of bytes -/
def cCopy (G : GH) (a : Nat) (sp : Int32) (b : Nat) (dp n : Int32) : Option GH := if ¬ sp < 0 ∧ ¬ dp < 0 ∧ ¬ n < 0 ∧ sp.toNatClampNeg + n.toNatClampNeg ≤ cN G a ∧ dp.toNatClampNeg + n.toNatClampNeg ≤ cN G b ∧ a ≠ b ∧ cT G a = 102 ∧ cT G b = 102 ∧ (∀ k, k < n.toNatClampNeg → -128 ≤ cI G a (sp.toNatClampNeg + k) ∧ cI G a (sp.toNatClampNeg + k) ≤ 127) then
    some (cT G, cN G, (fun x k => if x = b ∧ dp.toNatClampNeg ≤ k ∧ k < dp.toNatClampNeg + n.toNatClampNeg then cI G a (sp.toNatClampNeg + (k - dp.toNatClampNeg)) else cI G x k), cJ G, cR G, cK G, cX G, cBx G, cBs G) else none
theorem c_nn {z : Int32} (hz : ¬ z < 0) : z.toInt = (z.toNatClampNeg : Int) := by
  have hz0 : (0 : Int) ≤ z.toInt := by
    have := Int32.not_lt.mp hz
    simpa using Int32.le_iff_toInt_le.mp this
  show z.toInt = ((z.toInt.toNat : Nat) : Int)
  omega
theorem c_copy {a b idx : Nat} {sp dp n : Int32} (w : Cond.methodLink own idx ⟨"java/lang/System", "arraycopy", "(Ljava/lang/Object;ILjava/lang/Object;II)V"⟩ ∈ lw_all) (hdg : decode cc pc = .ok (.invokestatic idx, 3)) (S : CallFix p m c cc nL s args lw_all own) (hE : gEnv E s) (hG : gC E G H) (hS : va_S (gx_C E) s.heap H locs) (hC0 : gC E G0 s.heap) (hls : ls.size = nL) (h1 : 1 ≤ lev0) (h2 : 2 ≤ lev0) (hv : cCopy G a sp b dp n = some G1) (hW : (rest.map fun v => v.category).sum ≤ 8)
    (kk : ∀ (H1 : Heap) (locs1 : List Loc), gC E G1 H1 → va_S (gx_C E) s.heap H1 locs1 → WC E p l e (gRm lev0 (cBx G0) (cBs G0)) s m args below meth c H1 locs1 Q (F0 m (pc + 3) ls rest)) : WC E p l e (gRm lev0 (cBx G0) (cBs G0)) s m args below meth c H locs Q (F0 m pc ls (.int n :: .int dp :: .ref b :: .int sp :: .ref a :: rest)) := by
  unfold cCopy at hv
  split at hv
  · next hcond =>
    obtain ⟨n1, n2, n3, l1, l2, hab, ta, tb, hf⟩ := hcond
    cases hv
    have xa : H[a]? = some (vp_cell (E.2.1 2) (cN G a, .inl (cI G a))) := c_cell hG (by unfold cArr; rw [ta] <;> rfl)
    have xb : H[b]? = some (vp_cell (E.2.1 2) (cN G b, .inl (cI G b))) := c_cell hG (by unfold cArr; rw [tb] <;> rfl)
    have hA : gx_C E b := (hG.1 b (by omega)).2.2.1 (by omega) (by omega)
    obtain ⟨-, k0, hk0, cm0, hkk0⟩ := (hE.K.2 2 _ rfl).1 (cN G a) (fun j => .int (cI G a j))
    obtain ⟨-, k1, hk1, cm1, hkk1⟩ := (hE.K.2 2 _ rfl).1 (cN G b) (fun j => .int (cI G b j))
    intro T hT X
    obtain ⟨vm', X', step⟩ := X.arraycopy S.1 S.2.2.2.1 (S.2.2.2.2 _ w) (S.2.2.2.2 _ q448) (S.2.2.2.2 _ q447) (S.2.2.2.2 _ q136) (src := a) (dst := b) (cs := vp_cell (E.2.1 2) (cN G a, .inl (cI G a))) (cd := vp_cell (E.2.1 2) (cN G b, .inl (cI G b))) (srcPos := sp) (destPos := dp) (n := n) (by rw [hT]; exact xa) (by rw [hT]; exact xb)
      (fun _ h => by cases h) (fun _ h => by cases h) (fun h => by cases h) (fun h => by cases h) hk0 hk1 hkk0 hkk1 rfl n1 n2 n3
      (by rw [c_nn n1, c_nn n3]; show ¬ _ > ((arrV _ _ _).slots.size : Int); rw [arrV_size]; omega)
      (by rw [c_nn n2, c_nn n3]; show ¬ _ > ((arrV _ _ _).slots.size : Int); rw [arrV_size]; omega)
      (fun vm₁ _ i hi => by
        have e : (vp_cell (E.2.1 2) (cN G a, .inl (cI G a))).slots.getD (sp.toNatClampNeg + i) .null = .int (cI G a (sp.toNatClampNeg + i)) := by
          show (arrV (E.2.1 2) (cN G a) (fun j => .int (cI G a j))).slots.getD _ _ = _
          rw [Array.getD_eq_getD_getElem?, arrV_read _ _ (by omega)]
          rfl
        rw [e]
        exact ⟨by obtain ⟨q1, q2⟩ := hf i hi; simp [fits, q1, q2], trivial⟩)
      (g := F0 m pc ls (.int n :: .int dp :: .ref b :: .int sp :: .ref a :: rest)) rfl (by rw [S.2.2.1]; exact hls) (rest := rest) rfl (by rw [S.2.1]; exact hdg) (by show 1 ≤ lev0; exact h1) (by
        have e0 : nativeFrameWords "java/lang/System" "arraycopy" 5 ≤ 60 := by decide +kernel
        show 2 * 0 + _ + _ ≤ 64 * lev0; omega)
    have e1 : copied (vp_cell (E.2.1 2) (cN G a, .inl (cI G a))) (vp_cell (E.2.1 2) (cN G b, .inl (cI G b))) sp dp n = vp_cell (E.2.1 2) (cN G b, .inl (va_cpy (cI G a) (cI G b) sp.toNatClampNeg dp.toNatClampNeg n.toNatClampNeg)) := va_copied (fun z => .int z) (E.2.1 2) (E.2.1 2) (cI G a) (cI G b) l1
    rw [e1] at X' step
    have hl : b < H.size := (Array.getElem?_eq_some_iff.mp xb).1
    have hheap : ((T.setVm vm').setCell b (vp_cell (E.2.1 2) (cN G b, .inl (va_cpy (cI G a) (cI G b) sp.toNatClampNeg dp.toNatClampNeg n.toNatClampNeg)))).heap = H.setIfInBounds b (vp_cell (E.2.1 2) (cN G b, .inl (va_cpy (cI G a) (cI G b) sp.toNatClampNeg dp.toNatClampNeg n.toNatClampNeg))) := by rw [← hT]; rfl
    have oq : ∀ q : Nat, q ≠ b → (H.setIfInBounds b (vp_cell (E.2.1 2) (cN G b, .inl (va_cpy (cI G a) (cI G b) sp.toNatClampNeg dp.toNatClampNeg n.toNatClampNeg))))[q]? = H[q]? := fun q hq => by simp [Array.getElem?_setIfInBounds, Ne.symm hq]
    have zz : (H.setIfInBounds b (vp_cell (E.2.1 2) (cN G b, .inl (va_cpy (cI G a) (cI G b) sp.toNatClampNeg dp.toNatClampNeg n.toNatClampNeg)))).size = H.size := by simp
    have hb1 : (H.setIfInBounds b (vp_cell (E.2.1 2) (cN G b, .inl (va_cpy (cI G a) (cI G b) sp.toNatClampNeg dp.toNatClampNeg n.toNatClampNeg))))[b]? = some (vp_cell (E.2.1 2) (cN G b, .inl (va_cpy (cI G a) (cI G b) sp.toNatClampNeg dp.toNatClampNeg n.toNatClampNeg))) := by simp [Array.getElem?_setIfInBounds, hl]
    have fin := kk _ (locs ++ ((vp_cell (E.2.1 2) (cN G a, .inl (cI G a))).stretch sp.toNatClampNeg n.toNatClampNeg).zipIdx.map fun q => ⟨b, dp.toNatClampNeg + q.2⟩) (c_setA (a := b) hG (by omega) (by omega) rfl rfl rfl rfl rfl rfl (fun x hx => ⟨funext fun k => if_neg fun z => hx z.1, rfl, rfl⟩) oq zz xb hb1 (by show (arrV _ _ _).slots.size = (arrV _ _ _).slots.size; rw [arrV_size, arrV_size]) (by
        have tb' : cT ((cT G, cN G, (fun x k => if x = b ∧ dp.toNatClampNeg ≤ k ∧ k < dp.toNatClampNeg + n.toNatClampNeg then cI G a (sp.toNatClampNeg + (k - dp.toNatClampNeg)) else cI G x k), cJ G, cR G, cK G, cX G, cBx G, cBs G) : GH) b = 102 := tb
        unfold cArr
        rw [tb']
        show some (vp_cell (E.2.1 2) (cN G b, .inl (fun k => if b = b ∧ dp.toNatClampNeg ≤ k ∧ k < dp.toNatClampNeg + n.toNatClampNeg then cI G a (sp.toNatClampNeg + (k - dp.toNatClampNeg)) else cI G b k))) = _
        congr 3
        congr 2
        funext k
        unfold va_cpy
        by_cases hk : dp.toNatClampNeg ≤ k ∧ k < dp.toNatClampNeg + n.toNatClampNeg
        · rw [if_pos ⟨rfl, hk⟩, if_pos hk]
        · rw [if_neg fun z => hk z.2, if_neg hk])) ⟨by rw [zz]; exact hS.1, fun q g1 g2 => by
          rw [oq q (fun e => g2 (by rw [e]; exact hA))]
          exact hS.2.1 q g1 g2, fun q hq => by
          rcases List.mem_append.mp hq with h | h
          · exact hS.2.2 q h
          · obtain ⟨z, -, hz⟩ := List.mem_map.mp h
            rw [← hz]
            exact hA⟩
    obtain ⟨t, a1, b1⟩ := g_sync hC0.2.2.2.2.2 fin _ hheap X'
    exact ⟨t, step t a1, b1⟩
  · cases hv
/-- a row of Objects, its first places copied into another row's -/
def cCpR (G : GH) (a b n : Nat) : GH := (cT G, cN G, cI G, cJ G, (fun x k => if x = b ∧ k < n then cR G a k else cR G x k), cK G, cX G, cBx G, cBs G)
theorem c_copyR {a b idx : Nat} {n : Int32} (w : Cond.methodLink own idx ⟨"java/lang/System", "arraycopy", "(Ljava/lang/Object;ILjava/lang/Object;II)V"⟩ ∈ lw_all) (hdg : decode cc pc = .ok (.invokestatic idx, 3)) (S : CallFix p m c cc nL s args lw_all own) (hE : gEnv E s) (hG : gC E G H) (hS : va_S (gx_C E) s.heap H locs) (hC0 : gC E G0 s.heap) (hls : ls.size = nL) (h1 : 1 ≤ lev0)
    (n3 : ¬ n < 0) (l1 : n.toNatClampNeg ≤ cN G a) (l2 : n.toNatClampNeg ≤ cN G b) (hab : a ≠ b) (ta : cT G a = 104) (tb : cT G b = 104) (hf : ∀ k, k < n.toNatClampNeg → ∀ v, cR G a k = some v → cT G v ∈ cObL)
    (hW : (rest.map fun v => v.category).sum ≤ 4)
    (kk : ∀ (H1 : Heap) (locs1 : List Loc), gC E (cCpR G a b n.toNatClampNeg) H1 → va_S (gx_C E) s.heap H1 locs1 → WC E p l e (gRm lev0 (cBx G0) (cBs G0)) s m args below meth c H1 locs1 Q (F0 m (pc + 3) ls rest)) : WC E p l e (gRm lev0 (cBx G0) (cBs G0)) s m args below meth c H locs Q (F0 m pc ls (.int n :: .int 0 :: .ref b :: .int 0 :: .ref a :: rest)) := by
  have xa : H[a]? = some (vp_cell (E.2.1 4) (cN G a, .inr (.inr (.inr (.inr (cR G a)))))) := c_cell hG (by unfold cArr; rw [ta] <;> rfl)
  have xb : H[b]? = some (vp_cell (E.2.1 4) (cN G b, .inr (.inr (.inr (.inr (cR G b)))))) := c_cell hG (by unfold cArr; rw [tb] <;> rfl)
  have hA : gx_C E b := (hG.1 b (by omega)).2.2.1 (by omega) (by omega)
  obtain ⟨-, k0, hk0, cm0, hkk0⟩ := (hE.K.2 4 _ rfl).1 (cN G a) (fun j => va_rf (cR G a j))
  obtain ⟨-, k1, hk1, cm1, hkk1⟩ := (hE.K.2 4 _ rfl).1 (cN G b) (fun j => va_rf (cR G b j))
  have z0 : (0 : Int32).toNatClampNeg = 0 := rfl
  have zn : ¬ (0 : Int32) < 0 := by decide
  intro T hT X
  obtain ⟨vm', X', step⟩ := X.arraycopy S.1 S.2.2.2.1 (S.2.2.2.2 _ w) (S.2.2.2.2 _ q448) (S.2.2.2.2 _ q447) (S.2.2.2.2 _ q136) (src := a) (dst := b) (cs := vp_cell (E.2.1 4) (cN G a, .inr (.inr (.inr (.inr (cR G a)))))) (cd := vp_cell (E.2.1 4) (cN G b, .inr (.inr (.inr (.inr (cR G b)))))) (srcPos := 0) (destPos := 0) (n := n) (by rw [hT]; exact xa) (by rw [hT]; exact xb)
    (fun _ h => by cases h) (fun _ h => by cases h) (fun h => by cases h) (fun h => by cases h) hk0 hk1 hkk0 hkk1 rfl zn zn n3
    (by rw [c_nn zn, c_nn n3, z0]; show ¬ _ > ((arrV _ _ _).slots.size : Int); rw [arrV_size]; omega)
    (by rw [c_nn zn, c_nn n3, z0]; show ¬ _ > ((arrV _ _ _).slots.size : Int); rw [arrV_size]; omega)
    (fun vm₁ hal i hi => by
      have e : (vp_cell (E.2.1 4) (cN G a, .inr (.inr (.inr (.inr (cR G a)))))).slots.getD ((0 : Int32).toNatClampNeg + i) .null = va_rf (cR G a i) := by
        show (arrV (E.2.1 4) (cN G a) (fun j => va_rf (cR G a j))).slots.getD _ _ = _
        rw [z0, Nat.zero_add, Array.getD_eq_getD_getElem?, arrV_read _ _ (by omega)]
        rfl
      rw [e]
      cases hy : cR G a i with
      | none => exact ⟨rfl, trivial⟩
      | some y =>
        obtain ⟨cellV, g1, g3, ⟨kC, hkC⟩, hasg⟩ := c_anyL hE hG (hf i hi y hy)
        obtain ⟨kA, comp, r1, r2, r3, -⟩ := (hE.K.2 4 _ rfl).2
        cases hk1.symm.trans r1
        cases hkk1.symm.trans r2
        obtain ⟨kE, hkE, -⟩ := Vm.findClass_spec r3
        obtain ⟨kC', hkC', -⟩ := hal.2.2 _ _ hkC
        obtain ⟨kE', hkE', -⟩ := hal.2.2 _ _ hkE
        refine ⟨rfl, cellV, (show T.heap[y]? = some cellV by rw [hT]; exact g1), (fun q h => by rw [h] at g3; cases g3), ⟨kC', hkC'⟩, ⟨kE', hkE'⟩, ?_⟩
        show vm₁.assignable _ _ = true
        rw [hal.assignable]
        exact hasg _ r3)
    (g := F0 m pc ls (.int n :: .int 0 :: .ref b :: .int 0 :: .ref a :: rest)) rfl (by rw [S.2.2.1]; exact hls) (rest := rest) rfl (by rw [S.2.1]; exact hdg) (by show 1 ≤ lev0; exact h1) (by
      have e0 : nativeFrameWords "java/lang/System" "arraycopy" 5 ≤ 49 := by decide +kernel
      show 2 * 0 + _ + _ ≤ 64 * lev0; omega)
  have e1 : copied (vp_cell (E.2.1 4) (cN G a, .inr (.inr (.inr (.inr (cR G a)))))) (vp_cell (E.2.1 4) (cN G b, .inr (.inr (.inr (.inr (cR G b)))))) 0 0 n = vp_cell (E.2.1 4) (cN G b, .inr (.inr (.inr (.inr (va_cpy (cR G a) (cR G b) (0 : Int32).toNatClampNeg (0 : Int32).toNatClampNeg n.toNatClampNeg))))) := va_copied (fun z => va_rf z) (E.2.1 4) (E.2.1 4) (cR G a) (cR G b) (by rw [z0]; omega)
  rw [e1] at X' step
  have hl : b < H.size := (Array.getElem?_eq_some_iff.mp xb).1
  have hheap : ((T.setVm vm').setCell b (vp_cell (E.2.1 4) (cN G b, .inr (.inr (.inr (.inr (va_cpy (cR G a) (cR G b) (0 : Int32).toNatClampNeg (0 : Int32).toNatClampNeg n.toNatClampNeg))))))).heap = H.setIfInBounds b (vp_cell (E.2.1 4) (cN G b, .inr (.inr (.inr (.inr (va_cpy (cR G a) (cR G b) (0 : Int32).toNatClampNeg (0 : Int32).toNatClampNeg n.toNatClampNeg)))))) := by rw [← hT]; rfl
  have ec : vp_cell (E.2.1 4) (cN G b, .inr (.inr (.inr (.inr (va_cpy (cR G a) (cR G b) (0 : Int32).toNatClampNeg (0 : Int32).toNatClampNeg n.toNatClampNeg))))) = vp_cell (E.2.1 4) (cN (cCpR G a b n.toNatClampNeg) b, .inr (.inr (.inr (.inr (cR (cCpR G a b n.toNatClampNeg) b))))) := by
    have ef : va_cpy (cR G a) (cR G b) (0 : Int32).toNatClampNeg (0 : Int32).toNatClampNeg n.toNatClampNeg = cR (cCpR G a b n.toNatClampNeg) b := by
      funext k
      show va_cpy (cR G a) (cR G b) 0 0 n.toNatClampNeg k = (if b = b ∧ k < n.toNatClampNeg then cR G a k else cR G b k)
      unfold va_cpy
      by_cases hk : k < n.toNatClampNeg
      · rw [if_pos ⟨Nat.zero_le _, by omega⟩, if_pos ⟨rfl, hk⟩]; congr 1; omega
      · rw [if_neg fun z => hk (by omega), if_neg fun z => hk z.2]
    rw [ef]
    rfl
  rw [ec] at hheap X' step
  have oq : ∀ q : Nat, q ≠ b → (H.setIfInBounds b (vp_cell (E.2.1 4) (cN (cCpR G a b n.toNatClampNeg) b, .inr (.inr (.inr (.inr (cR (cCpR G a b n.toNatClampNeg) b)))))))[q]? = H[q]? := fun q hq => by simp [Array.getElem?_setIfInBounds, Ne.symm hq]
  have zz : (H.setIfInBounds b (vp_cell (E.2.1 4) (cN (cCpR G a b n.toNatClampNeg) b, .inr (.inr (.inr (.inr (cR (cCpR G a b n.toNatClampNeg) b))))))).size = H.size := by simp
  have hb1 : (H.setIfInBounds b (vp_cell (E.2.1 4) (cN (cCpR G a b n.toNatClampNeg) b, .inr (.inr (.inr (.inr (cR (cCpR G a b n.toNatClampNeg) b)))))))[b]? = some (vp_cell (E.2.1 4) (cN (cCpR G a b n.toNatClampNeg) b, .inr (.inr (.inr (.inr (cR (cCpR G a b n.toNatClampNeg) b)))))) := by simp [Array.getElem?_setIfInBounds, hl]
  have fin := kk _ (locs ++ ((vp_cell (E.2.1 4) (cN G a, .inr (.inr (.inr (.inr (cR G a)))))).stretch (0 : Int32).toNatClampNeg n.toNatClampNeg).zipIdx.map fun q => ⟨b, (0 : Int32).toNatClampNeg + q.2⟩) (c_setA (a := b) hG (by omega) (by omega) rfl rfl rfl rfl rfl rfl (fun x hx => ⟨rfl, rfl, funext fun k => if_neg fun z => hx z.1⟩) oq zz xb hb1 (by show (arrV _ (cN (cCpR G a b n.toNatClampNeg) b) _).slots.size = (arrV _ (cN G b) _).slots.size; rw [arrV_size, arrV_size]; rfl) (by
      have tb' : cT (cCpR G a b n.toNatClampNeg) b = 104 := tb
      unfold cArr
      rw [tb'] <;> rfl)) ⟨by rw [zz]; exact hS.1, fun q g1 g2 => by
        rw [oq q (fun e => g2 (by rw [e]; exact hA))]
        exact hS.2.1 q g1 g2, fun q hq => by
        rcases List.mem_append.mp hq with h | h
        · exact hS.2.2 q h
        · obtain ⟨z, -, hz⟩ := List.mem_map.mp h
          rw [← hz]
          exact hA⟩
  obtain ⟨t, a1, b1⟩ := g_sync hC0.2.2.2.2.2 fin _ hheap X'
  exact ⟨t, step t a1, b1⟩
end CM
/-- Arrays.copyOf of a row of Objects: a new row, the old one's first places in it -/
def cCopyOf (G : GH) (a : Nat) (n : Int32) : Option (Nat × GH) := if cT G a = 104 ∧ cN G a ≤ 1000000 ∧ (∀ k, k < cN G a → ∀ v ∈ cR G a k, cT G v ∈ cObL) then
    Option.map (fun q => (q.1, ((cT q.2, cN q.2, cI q.2, cJ q.2, (fun x k => if x = q.1 ∧ k < cN G a ∧ k < n.toNatClampNeg then cR G a k else cR q.2 x k), cK q.2, cX q.2, cBx q.2, cBs q.2) : GH))) (cNewA G 104 n) else none
theorem dcpO2_0 : decode cJ13_copyOf_2 0 = .ok (.aload_n 0, 1) := by decide +kernel
theorem dcpO2_1 : decode cJ13_copyOf_2 1 = .ok (.iload_n 1, 1) := by decide +kernel
theorem dcpO2_2 : decode cJ13_copyOf_2 2 = .ok (.aload_n 0, 1) := by decide +kernel
theorem dcpO2_3 : decode cJ13_copyOf_2 3 = .ok (.invokevirtual 86, 3) := by decide +kernel
theorem dcpO2_6 : decode cJ13_copyOf_2 6 = .ok (.invokestatic 300, 3) := by decide +kernel
theorem dcpO2_9 : decode cJ13_copyOf_2 9 = .ok (.areturn, 1) := by decide +kernel
theorem dcpO3_0 : decode cJ13_copyOf_3 0 = .ok (.aload_n 2, 1) := by decide +kernel
theorem dcpO3_1 : decode cJ13_copyOf_3 1 = .ok (.ldc 110, 2) := by decide +kernel
theorem dcpO3_3 : decode cJ13_copyOf_3 3 = .ok (.if_acmp .ne 10, 3) := by decide +kernel
theorem dcpO3_6 : decode cJ13_copyOf_3 6 = .ok (.iload_n 1, 1) := by decide +kernel
theorem dcpO3_7 : decode cJ13_copyOf_3 7 = .ok (.anewarray 2, 3) := by decide +kernel
theorem dcpO3_10 : decode cJ13_copyOf_3 10 = .ok (.goto 14, 3) := by decide +kernel
theorem dcpO3_24 : decode cJ13_copyOf_3 24 = .ok (.astore_n 3, 1) := by decide +kernel
theorem dcpO3_25 : decode cJ13_copyOf_3 25 = .ok (.aload_n 0, 1) := by decide +kernel
theorem dcpO3_26 : decode cJ13_copyOf_3 26 = .ok (.iconst 0, 1) := by decide +kernel
theorem dcpO3_27 : decode cJ13_copyOf_3 27 = .ok (.aload_n 3, 1) := by decide +kernel
theorem dcpO3_28 : decode cJ13_copyOf_3 28 = .ok (.iconst 0, 1) := by decide +kernel
theorem dcpO3_29 : decode cJ13_copyOf_3 29 = .ok (.aload_n 0, 1) := by decide +kernel
theorem dcpO3_30 : decode cJ13_copyOf_3 30 = .ok (.arraylength, 1) := by decide +kernel
theorem dcpO3_31 : decode cJ13_copyOf_3 31 = .ok (.iload_n 1, 1) := by decide +kernel
theorem dcpO3_32 : decode cJ13_copyOf_3 32 = .ok (.invokestatic 304, 3) := by decide +kernel
theorem dcpO3_35 : decode cJ13_copyOf_3 35 = .ok (.invokestatic 150, 3) := by decide +kernel
theorem dcpO3_38 : decode cJ13_copyOf_3 38 = .ok (.aload_n 3, 1) := by decide +kernel
theorem dcpO3_39 : decode cJ13_copyOf_3 39 = .ok (.areturn, 1) := by decide +kernel

theorem wm_cpO3 (E : gX) (l : Launch) (a q : Nat) (n : Int32) (Gz G' : GH) (h : cCopyOf Gz a n = some (q, G')) : gMetC E l yJ13_copyOf_3 cJ13_copyOf_3 4 (some (Jvm.ClassFile.FieldType.array (Jvm.ClassFile.FieldType.object "java/lang/Object"))) 1 [.ref a, .int n, .ref (E.2.2 30)] Gz G' (some (.ref q)) := by
  refine gMetC.of (own := RJ13) (by decide +kernel) (Nat.le_of_ble_eq_true rfl) rfl ?_
  intro p e s m args below meth c S hr hk hnm hE hC0 hG hS ls hl
  have hl : lv_has ls 4 [(0, .ref a), (1, .int n), (2, .ref (E.2.2 30))] := hl
  have hx := S.1
  have hb := S.2.1
  unfold cCopyOf at h
  split at h
  · next hc =>
    obtain ⟨ta, hbig, hob⟩ := hc
    obtain ⟨⟨qq, Gn⟩, hn, h⟩ := Option.map_eq_some_iff.mp h
    have hn0 := hn
    unfold cNewA at hn0
    split at hn0
    · next hh =>
      obtain ⟨ho, hnn, hx1, hs1, hb1⟩ := hh
      cases hn0
      cases h
      have hne : a ≠ cX Gz := fun e => by have := hG.lt (a := a) (by omega); omega
      refine lv_aload_n hx hb dcpO3_0 rfl (lv_at hl 2 rfl) ?_
      refine va_ldcM hx hb S.2.2.2.1 (S.2.2.2.2 _ q985) hE.mi dcpO3_1 ?_
      refine lv_acmp_ne (rx := some (E.2.2 30)) (ry := some (E.2.2 30)) (tgt := 13) hx hb dcpO3_3 (by decide) (fun h => absurd rfl h) (fun _ => ?_)
      refine lv_iload_n hx hb dcpO3_6 rfl (lv_at hl 1 rfl) ?_
      refine c_newO q986 dcpO3_7 S hE hG hS hC0 hn (fun H locs hG hS => ?_)
      refine lv_goto (tgt := 24) hx hb dcpO3_10 (by decide) ?_
      refine lv_astore_n (lv' := [(3, .ref (cX Gz)), (0, .ref a), (1, .int n), (2, .ref (E.2.2 30))]) hx hb dcpO3_24 rfl hl (by decide) rfl (fun ls hl => ?_)
      refine lv_aload_n hx hb dcpO3_25 rfl (lv_at hl 1 rfl) ?_
      refine lv_iconst (v := 0) hx hb dcpO3_26 (by decide) ?_
      refine lv_aload_n hx hb dcpO3_27 rfl (lv_at hl 0 rfl) ?_
      refine lv_iconst (v := 0) hx hb dcpO3_28 (by decide) ?_
      refine lv_aload_n hx hb dcpO3_29 rfl (lv_at hl 1 rfl) ?_
      have tM : cT (cMk Gz 104 n.toNatClampNeg n.toNatClampNeg) a = 104 := by simp [cMk, cT, hne]; exact ta
      have nM : cN (cMk Gz 104 n.toNatClampNeg n.toNatClampNeg) a = cN Gz a := by simp [cMk, cN, hne]
      have rM : cR (cMk Gz 104 n.toNatClampNeg n.toNatClampNeg) a = cR Gz a := by funext k; simp [cMk, cR, hne]
      refine c_len (v := nI (cN Gz a)) dcpO3_30 S hE hG (by unfold cLen; rw [tM, nM]; rfl) ?_
      refine lv_iload_n hx hb dcpO3_31 rfl (lv_at hl 2 rfl) ?_
      refine c_math_min q443 dcpO3_32 S hl.1 hC0 hG hS (by decide) (Nat.le_of_ble_eq_true rfl) ?_
      obtain ⟨mm, hmm⟩ : ∃ mm : Int32, (if n < nI (cN Gz a) then n else nI (cN Gz a)) = mm := ⟨_, rfl⟩
      have hcn : (nI (cN Gz a)).toNatClampNeg = cN Gz a := by
        show (Int32.ofNat (cN Gz a)).toInt.toNat = _
        rw [Int32.toInt_ofNat_of_lt (by omega)]
        rfl
      have hm0 : ¬ nI (cN Gz a) < 0 := by
        intro z
        have z2 := Int32.lt_iff_toInt_lt.mp z
        have : (nI (cN Gz a)).toInt = cN Gz a := Int32.toInt_ofNat_of_lt (by omega)
        rw [this] at z2
        have : (0 : Int32).toInt = 0 := rfl
        omega
      have hm : ¬ mm < 0 ∧ mm.toNatClampNeg ≤ cN Gz a ∧ mm.toNatClampNeg ≤ n.toNatClampNeg ∧ ∀ k, (k < mm.toNatClampNeg ↔ k < cN Gz a ∧ k < n.toNatClampNeg) := by
        have l1 : (nI (cN Gz a)).toInt = cN Gz a := Int32.toInt_ofNat_of_lt (by omega)
        have l2 := c_nn hnn
        by_cases y : n < nI (cN Gz a)
        · rw [if_pos y] at hmm
          subst hmm
          have y2 := Int32.lt_iff_toInt_lt.mp y
          rw [l1, l2] at y2
          exact ⟨hnn, by omega, Nat.le_refl _, fun k => by omega⟩
        · rw [if_neg y] at hmm
          subst hmm
          have y2 : ¬ n.toInt < (nI (cN Gz a)).toInt := fun z => y (Int32.lt_iff_toInt_lt.mpr z)
          rw [l1, l2] at y2
          exact ⟨hm0, by omega, by omega, fun k => by omega⟩
      rw [hmm]
      refine c_copyR q446 dcpO3_35 S hE hG hS hC0 hl.1 (by decide) hm.1 (by rw [nM]; exact hm.2.1) (by show _ ≤ (if cX Gz = cX Gz then n.toNatClampNeg else _); rw [if_pos rfl]; exact hm.2.2.1) hne tM (by show (if cX Gz = cX Gz then 104 else _) = 104; rw [if_pos rfl]) (fun k hk v hv => ?_) (by decide) (fun H locs hG hS => ?_)
      · rw [rM] at hv
        have z := hob k (by omega) v hv
        have hv9 : v ≠ cX Gz := fun e => by
          have hz0 : cT Gz v ≠ 0 := fun z0 => by rw [z0] at z; revert z; decide
          have := hC0.lt (a := v) hz0
          omega
        show (if v = cX Gz then 104 else cT Gz v) ∈ cObL
        rw [if_neg hv9]; exact z
      refine lv_aload_n hx hb dcpO3_38 rfl (lv_at hl 0 rfl) ?_
      refine c_aretW dcpO3_39 (Or.inr ⟨_, rfl⟩) S hr hk hC0 hG hS ?_
      have key : ∀ (F : Nat → Nat → Option Nat), F = (fun x k => if x = cX Gz ∧ k < cN Gz a ∧ k < n.toNatClampNeg then cR Gz a k else cR (cMk Gz 104 n.toNatClampNeg n.toNatClampNeg) x k) → some (cX Gz, ((cT (cMk Gz 104 n.toNatClampNeg n.toNatClampNeg), cN (cMk Gz 104 n.toNatClampNeg n.toNatClampNeg), cI (cMk Gz 104 n.toNatClampNeg n.toNatClampNeg), cJ (cMk Gz 104 n.toNatClampNeg n.toNatClampNeg), F, cK (cMk Gz 104 n.toNatClampNeg n.toNatClampNeg), cX (cMk Gz 104 n.toNatClampNeg n.toNatClampNeg), cBx (cMk Gz 104 n.toNatClampNeg n.toNatClampNeg), cBs (cMk Gz 104 n.toNatClampNeg n.toNatClampNeg)) : GH)) = some (cX Gz, _) := fun F hF => by rw [hF]
      refine key _ ?_
      funext x k
      show (if x = cX Gz ∧ k < mm.toNatClampNeg then cR (cMk Gz 104 n.toNatClampNeg n.toNatClampNeg) a k else _) = _
      rw [rM]
      by_cases y : x = cX Gz ∧ k < mm.toNatClampNeg
      · rw [if_pos y, if_pos ⟨y.1, ((hm.2.2.2 k).mp y.2).1, ((hm.2.2.2 k).mp y.2).2⟩]
      · rw [if_neg y, if_neg fun z => y ⟨z.1, (hm.2.2.2 k).mpr z.2⟩]
    · cases hn0
  · cases h
theorem wm_cpO2 (E : gX) (l : Launch) (a q : Nat) (n : Int32) (Gz G' : GH) (h : cCopyOf Gz a n = some (q, G')) : gMetC E l yJ13_copyOf_2 cJ13_copyOf_2 2 (some (Jvm.ClassFile.FieldType.array (Jvm.ClassFile.FieldType.object "java/lang/Object"))) 2 [.ref a, .int n] Gz G' (some (.ref q)) := by
  refine gMetC.of (own := RJ13) (by decide +kernel) (Nat.le_of_ble_eq_true rfl) rfl ?_
  intro p e s m args below meth c S hr hk hnm hE hC0 hG hS ls hl
  have hl : lv_has ls 2 [(0, .ref a), (1, .int n)] := hl
  have hx := S.1
  have hb := S.2.1
  have ta : cT Gz a = 104 := by
    unfold cCopyOf at h
    split at h
    · next hc => exact hc.1
    · cases h
  have xa : s.heap[a]? = some (vp_cell (E.2.1 4) (cN Gz a, .inr (.inr (.inr (.inr (cR Gz a)))))) := c_cell hG (by unfold cArr; rw [ta] <;> rfl)
  refine lv_aload_n hx hb dcpO2_0 rfl (lv_at hl 0 rfl) ?_
  refine lv_iload_n hx hb dcpO2_1 rfl (lv_at hl 1 rfl) ?_
  refine lv_aload_n hx hb dcpO2_2 rfl (lv_at hl 0 rfl) ?_
  refine va_getC (C := "[Ljava/lang/Object;") hx hb (S.2.2.1.trans hl.1.symm) S.2.2.2.1 (S.2.2.2.2 _ q940) (va_Nw.use (A := args) rfl (hE.nw (lw_nw q3452 rfl))) (S.2.2.2.2 _ q3451) (S.2.2.2.2 _ q941) (S.2.2.2.2 _ q981) hE.mi ⟨_, xa, rfl, va_nmO (hE.K.2 4 _ rfl).2 rfl⟩ (by show 1 ≤ 2; decide) (Nat.le_of_ble_eq_true rfl) dcpO2_3 ?_
  refine c_cS (y := yJ13_copyOf_3) (rest := []) dcpO2_6 q982 q983 q135 q984 (n := 3) ⟨by decide +kernel, by decide +kernel, by decide +kernel⟩ S hE hG hS hC0 hl.1 rfl (wm_cpO3 E l a q n Gz G' h) rfl (Nat.le_of_ble_eq_true rfl) ⟨Nat.le_of_ble_eq_true rfl, Nat.le_of_ble_eq_true rfl⟩ (fun H locs hG hS => ?_)
  exact c_aretW dcpO2_9 (Or.inr ⟨_, rfl⟩) S hr hk hC0 hG hS rfl
section CMZ
variable {p : Program} {l : Launch} {e : Env} {s : State} {m : MethodId} {args : Array Value} {below : List Frame} {meth : Method} {c : Code} {H : Heap} {locs : List Loc} {Q : State → Prop}
variable {cc : ByteArray} {pc nL lev0 : Nat} {ls : Array Slot} {rest : List Value} {own : String} {E : gX} {G G0 G1 : GH}
theorem c_special_cCopyOf {a idx q : Nat} {n : Int32} {st : List Value} (w : Cond.methodLink own idx ⟨"java/util/Arrays", "copyOf", "([Ljava/lang/Object;I)[Ljava/lang/Object;"⟩ ∈ lw_all) (hdg : decode cc pc = .ok (.invokestatic idx, 3)) (S : CallFix p m c cc nL s args lw_all own) (hE : gEnv E s) (hG : gC E G H) (hS : va_S (gx_C E) s.heap H locs) (hC0 : gC E G0 s.heap) (hls : ls.size = nL) (hv : cCopyOf G a n = some (q, G1)) (hst : st = .int n :: .ref a :: rest) (hW : (rest.map fun v => v.category).sum ≤ 8) (hl : 3 ≤ lev0)
    (kk : ∀ (H1 : Heap) (locs1 : List Loc), gC E G1 H1 → va_S (gx_C E) s.heap H1 locs1 → WC E p l e (gRm lev0 (cBx G0) (cBs G0)) s m args below meth c H1 locs1 Q (F0 m (pc + 3) ls (.ref q :: rest))) : WC E p l e (gRm lev0 (cBx G0) (cBs G0)) s m args below meth c H locs Q (F0 m pc ls st) :=
  c_cS (y := yJ13_copyOf_2) (rest := rest) (lev := 2) hdg w q938 q135 q939 (n := 2) ⟨by decide +kernel, by decide +kernel, by decide +kernel⟩ S hE hG hS hC0 hls rfl (wm_cpO2 E l a q n G G1 hv) hst hW ⟨hl, by omega⟩ kk
end CMZ
