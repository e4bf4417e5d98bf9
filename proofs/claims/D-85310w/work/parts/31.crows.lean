/-! THE COMPONENT's ROWS -/
set_option maxRecDepth 100000
/-- a walk with its counters read off the heap -/
abbrev WC (E : gX) (p : Program) (l : Launch) (e : Env) (R : Room) (s : State) (m : MethodId) (args : Array Value) (below : List Frame) (meth : Method) (c : Code) (H : Heap) (locs : List Loc) (Q : State → Prop) (g : JFrame) : Prop :=
  W p l e R s m args below meth c H locs (H.size - s.heap.size) (gSl E H - gSl E s.heap) Q g
def gMetC (E : gX) (l : Launch) (y : MethodName) (b : ByteArray) (L : Nat) (ret : Option FieldType) (lev : Nat) (As : List Value) (G G' : GH) (rv : Option Value) : Prop :=
  gMet E l y b L ret lev (cBx G) (cBs G) (gx_C E) As (gC E G) (gC E G') rv
section CR
variable {p : Program} {l : Launch} {e : Env} {R : Room} {s : State} {m : MethodId} {args : Array Value} {below : List Frame} {meth : Method} {c : Code} {H : Heap} {locs : List Loc} {cells slots : Nat} {Q : State → Prop}
variable {cc : ByteArray} {pc nL : Nat} {ls : Array Slot} {rest st : List Value} {own : String} {E : gX} {G G0 : GH} {rv : Option Value} {g : JFrame}
/-- the counters are what the heap says -/
theorem g_sync (hb : gx_b E ≤ s.heap.size) (kk : WC E p l e R s m args below meth c H locs Q g) : W p l e R s m args below meth c H locs cells slots Q g := by
  intro T hT X
  refine kk T hT { X with same := ?_ }
  obtain ⟨h1, h2, h3, h4, h5, h6⟩ := X.same
  have hh : (T.setVm s.vm).heap = H := hT
  rw [hh] at h2
  have hk : ∀ (a : Nat) (c : Cell), s.heap[a]? = some c → ∃ c' : Cell, H[a]? = some c' ∧ c'.slots.size = c.slots.size := fun a c hc => by
    obtain ⟨c', x1, -, x3, -⟩ := h6 a c hc
    rw [hh] at x1
    exact ⟨c', x1, x3⟩
  refine ⟨h1, by rw [hh]; exact h2, by rw [hh]; omega, h4, ?_, h6⟩
  rw [hh]
  have := gSl_split hb h2 hk
  omega
theorem gMetC.of {y : MethodName} {b : ByteArray} {L : Nat} {ret : Option FieldType} {lev : Nat} {As : List Value} {G' : GH} (hy : plainName y.cls = true) (hL : (lg_sl As).length ≤ L) (hown : y.cls = own)
    (body : ∀ (p : Program) (e : Env) (s : State) (m : MethodId) (args : Array Value) (below : List Frame) (meth : Method) (c : Code), CallFix p m c b L s args lw_all own → meth.sig.returnType = ret → meth.locks = false → meth.name = y.name → gEnv E s → gC E G s.heap → gC E G s.heap → va_S (gx_C E) s.heap s.heap [] →
      ∀ ls : Array Slot, lv_has ls L (lv_args 0 As) → WC E p l e (gRm lev (cBx G) (cBs G)) s m args below meth c s.heap [] (MQ below (gQ rv (gC E G') (gx_C E)) args s (cBx G) (cBs G) (gx_C E)) (F0 m 0 ls [])) : gMetC E l y b L ret lev As G G' rv :=
  gMet.of hy hL hown fun p e s m args below meth c S hr hk hn hE hP hS ls hl => W.widen (Nat.zero_le _) (Nat.zero_le _) (body p e s m args below meth c S hr hk hn hE hP hP hS ls hl)
theorem c_room (hC0 : gC E G0 s.heap) (hG : gC E G H) (hS : va_S (gx_C E) s.heap H locs) : (H.size - s.heap.size) + cBx G = cBx G0 := by
  have := hC0.2.1; have := hC0.2.2.1; have := hG.2.1; have := hG.2.2.1; have := hS.1
  omega
/-- the slots' book never shrinks -/
theorem c_slots {T : State} (hb : gx_b E ≤ s.heap.size) (X : Stand p l e R s m args below meth c T locs cells slots) (hT : T.heap = H) : gSl E s.heap ≤ gSl E H := by
  obtain ⟨h1, h2, h3, h4, h5, h6⟩ := X.same
  have hh : (T.setVm s.vm).heap = H := hT
  rw [hh] at h2
  have hk : ∀ (a : Nat) (c : Cell), s.heap[a]? = some c → ∃ c' : Cell, H[a]? = some c' ∧ c'.slots.size = c.slots.size := fun a c hc => by
    obtain ⟨c', x1, -, x3, -⟩ := h6 a c hc
    rw [hh] at x1
    exact ⟨c', x1, x3⟩
  have := gSl_split hb h2 hk
  omega
theorem c_know (hb : gx_b E ≤ s.heap.size) (kk : gSl E s.heap ≤ gSl E H → W p l e R s m args below meth c H locs cells slots Q g) : W p l e R s m args below meth c H locs cells slots Q g := by
  intro T hT X
  exact kk (c_slots hb X hT) T hT X
/-- an object's slot -/
theorem c_slot {ci k a : Nat} {C : String} {T : u_T} {N : Nat} (hE : gEnv E s) (hG : gC E G H) (hc : gCl[ci]? = some (C, T, N)) (h4 : ci ≠ 4) (ht : cT G a = ci + 1) (hk : k < N) : ∃ (cf : ClassId) (kf : Class) (fi : Nat) (f : Field) (cell : Cell), s.fieldFound? (T k).1 (T k).2.1 (T k).2.2.1 = some (cf, kf, fi, f) ∧ H[a]? = some cell ∧ cell.vm = .none ∧ cell.slots[f.slot]? = some (cVal G a ci k) ∧ cell.cls = E.1.1 ci ∧ f.slot = E.1.2 ci k ∧ (∀ j, j < N → cell.slots[E.1.2 ci j]? = some (cVal G a ci j)) := by
  obtain ⟨cell, q1, q2, q3, q4⟩ := (hG.1 a (by omega)).1 ci _ ht h4 hc
  obtain ⟨hS, -⟩ := hE.K.1 ci _ hc
  obtain ⟨cf, kf, fi, f, hi, hsl⟩ := hS k hk
  exact ⟨cf, kf, fi, f, cell, hi, q1, q3, by rw [hsl]; exact q4 k hk, q2, hsl, q4⟩
theorem c_recv {ci a : Nat} {C : String} {T : u_T} {N : Nat} (hE : gEnv E s) (hG : gC E G H) (hc : gCl[ci]? = some (C, T, N)) (h4 : ci ≠ 4) (ht : cT G a = ci + 1) : ∃ cell : Cell, H[a]? = some cell ∧ cell.vm.isStatics = false ∧ s.vm.findClass C = some cell.cls := by
  obtain ⟨cell, q1, q2, q3, -⟩ := (hG.1 a (by omega)).1 ci _ ht h4 hc
  exact ⟨cell, q1, by rw [q3]; rfl, by rw [q2]; exact (hE.K.1 ci _ hc).2.1⟩
/-- a field's link: of the class's own, or of a nest mate's -/
def cLk (own : String) (idx : Nat) (ref nm ds : String) : Prop := Cond.fieldLink own idx ref nm ds ∈ lw_all ∨ ∃ host : String, Cond.fieldLinkNest own idx ref nm ds host ∈ gNwL
theorem c_getv {ci a k : Nat} {C ref : String} {T : u_T} {N idx : Nat} (hdg : decode cc pc = .ok (.getfield idx, 3)) (w : cLk own idx ref (T k).2.1 (T k).2.2.1) (hc : gCl[ci]? = some (C, T, N)) (hin : ∀ w ∈ u_ws C T N, w ∈ lw_all) (h4 : ci ≠ 4) (hk : k < N) (hT : (T k).1 = ref ∨ Cond.sameField ref (T k).1 (T k).2.1 (T k).2.2.1 ∈ lw_all) {v : Value} (hv : cVal G a ci k = v) (S : CallFix p m c cc nL s args lw_all own) (hE : gEnv E s) (hG : gC E G H) (ht : cT G a = ci + 1)
    (kk : W p l e R s m args below meth c H locs cells slots Q (F0 m (pc + 3) ls (v :: rest))) : W p l e R s m args below meth c H locs cells slots Q (F0 m pc ls (.ref a :: rest)) := by
  obtain ⟨cf, kf, fi, f, cell, hi, h1, h2, h3, -⟩ := c_slot hE hG hc h4 ht hk
  obtain ⟨hS, hfc, kC, hkC, hkind⟩ := hE.K.1 ci _ hc
  rw [hv] at h3
  have hst := (u_facts hfc hkC (u_lays S.2.2.2.2 hin hk) hi).1
  have hi : s.fieldFound? ref (T k).2.1 (T k).2.2.1 = some (cf, kf, fi, f) := by
    rcases hT with hT | hT
    · rw [← hT]; exact hi
    · exact u_same (S.2.2.2.2 _ hT) _ hi
  rcases w with w | ⟨host, w⟩
  · exact W.getf S.1 S.2.1 S.2.2.2.1 (S.2.2.2.2 _ w) hi hst h1 (by rw [h2]; exact fun h => by cases h) (v := v) h3 rfl rfl hdg kk
  · exact va_Wgetf S.1 S.2.1 S.2.2.2.1 (va_Nw.use rfl (hE.nw w)) hi hst h1 (by rw [h2]; exact fun h => by cases h) (v := v) h3 rfl rfl hdg kk
/-- an object's new state -/
theorem c_setO {ci a k : Nat} {C : String} {T : u_T} {N : Nat} {G' : GH} {H1 : Heap} {v : Value} {cell : Cell} (hG : gC E G H) (hc : gCl[ci]? = some (C, T, N)) (h4 : ci ≠ 4) (ht : cT G a = ci + 1) (hci : ci < 90) (hT : cT G' = cT G) (hN : cN G' = cN G) (hK : cK G' = cK G) (hX : cX G' = cX G) (hBx : cBx G' = cBx G) (hBs : cBs G' = cBs G) (oth : ∀ b, b ≠ a → cI G' b = cI G b ∧ cJ G' b = cJ G b ∧ cR G' b = cR G b)
    (hv : ∀ j, j < N → updV (cVal G a ci) k v j = cVal G' a ci j) (oq : ∀ q : Nat, q ≠ a → H1[q]? = H[q]?) (z : H1.size = H.size) {i : Nat} {w : Value} (h0 : H[a]? = some cell) (h1 : H1[a]? = some (cell.setSlot i w)) (hob : t_OB a (E.1.1 ci) N (E.1.2 ci) H1 (updV (cVal G a ci) k v)) : gC E G' H1 := by
  have hat := hG.1 a (by omega)
  refine c_upd (a := a) hG hT hN hK hX hBx hBs oth oq z (by rw [h0, h1]; simp [Cell.setSlot]) ⟨fun cj r hj _ hr => ?_, fun x hx => ?_, fun h1 h2 => ?_, by rw [z]; exact hat.2.2.2.1, fun h9 => absurd h9 (by rw [hT, ht]; omega)⟩
  · rw [hT, ht] at hj
    have : ci = cj := by omega
    subst this
    cases hr.symm.trans hc
    exact hob.to hv
  · unfold cArr at hx
    rw [hT, ht] at hx
    split at hx <;> first | omega | cases hx
  · rw [hT] at h1 h2
    exact hat.2.2.1 h1 h2
theorem c_putv {ci a k : Nat} {C ref : String} {T : u_T} {N idx : Nat} {G' : GH} {v : Value} {ty : FieldType} {ty0 : Nat → FieldType} (hdg : decode cc pc = .ok (.putfield idx, 3)) (w : cLk own idx ref (T k).2.1 (T k).2.2.1) (hc : gCl[ci]? = some (C, T, N)) (hin : ∀ w ∈ u_ws C T N, w ∈ lw_all) (hty0 : ∀ k, k < N → parseFieldDescriptor (T k).2.2.1 = some (ty0 k)) (hnm : ∀ a, a < N → ∀ b, b < N → a ≠ b → (T a).2.1 ≠ (T b).2.1) (hk : k < N) (hT : (T k).1 = ref ∨ Cond.sameField ref (T k).1 (T k).2.1 (T k).2.2.1 ∈ lw_all) (hci : ci < 90)
    (hfin : (T k).2.2.2 = false ∨ (meth.name = "<init>" ∧ (T k).1 = own ∧ Cond.fieldLink own idx ref (T k).2.1 (T k).2.2.1 ∈ lw_all)) (hty : parseFieldDescriptor (T k).2.2.1 = some ty) (hn : narrow ty v = v) (hfit : fits ty v = true) (S : CallFix p m c cc nL s args lw_all own) (hE : gEnv E s) (hG : gC E G H) (hS : va_S (gx_C E) s.heap H locs) (ht : cT G a = ci + 1) (h4 : ci ≠ 4)
    (gT : cT G' = cT G) (gN : cN G' = cN G) (gK : cK G' = cK G) (gX : cX G' = cX G) (gBx : cBx G' = cBx G) (gBs : cBs G' = cBs G) (oth : ∀ b, b ≠ a → cI G' b = cI G b ∧ cJ G' b = cJ G b ∧ cR G' b = cR G b) (hv : ∀ j, j < N → updV (cVal G a ci) k v j = cVal G' a ci j) (hb : gx_b E ≤ s.heap.size)
    (kk : ∀ (H1 : Heap) (locs1 : List Loc), gC E G' H1 → va_S (gx_C E) s.heap H1 locs1 → WC E p l e R s m args below meth c H1 locs1 Q (F0 m (pc + 3) ls rest)) : WC E p l e R s m args below meth c H locs Q (F0 m pc ls (v :: .ref a :: rest)) := by
  have hap := va_apart (own := own) S.2.2.2.2 hin ty0 hty0 hnm hE.K (ci := ci) hc
  obtain ⟨cf, kf, fi, f, cell, hi, q1, q3, q4, q2, hsl, q5⟩ := c_slot hE hG hc h4 ht hk
  obtain ⟨hS0, hfc, kC, hkC, hkind⟩ := hE.K.1 ci _ hc
  have hst := (u_facts hfc hkC (u_lays S.2.2.2.2 hin hk) hi).1
  have hi' : s.fieldFound? ref (T k).2.1 (T k).2.2.1 = some (cf, kf, fi, f) := by
    rcases hT with hT | hT
    · rw [← hT]; exact hi
    · exact u_same (S.2.2.2.2 _ hT) _ hi
  have hA : gx_C E a := (hG.1 a (by omega)).2.2.1 (by omega) (by omega)
  have fin : ∀ H' : Heap, H'[a]? = some (cell.setSlot f.slot v) → H'.size = H.size → (∀ q, q ≠ a → H'[q]? = H[q]?) → W p l e R s m args below meth c H' (locs ++ [⟨a, f.slot⟩]) (H.size - s.heap.size) (gSl E H - gSl E s.heap) Q { F0 m pc ls (v :: .ref a :: rest) with pc := pc + 3, stack := rest } := fun H' e1 e2 e3 => by
    have e3 : ∀ q : Nat, q ≠ a → H'[q]? = H[q]? := e3
    refine g_sync hb (kk H' _ (c_setO (v := v) hG hc h4 ht hci gT gN gK gX gBx gBs oth hv e3 e2 q1 e1 ?_) (hS.put e2 e3 hA))
    rw [hsl] at e1
    exact ⟨_, e1, q2, q3, t_set q5 hap hk v⟩
  rcases hfin with hfin | ⟨hin2, hdecl, w⟩
  · have hlay := S.2.2.2.2 _ (hin _ (u_in_lay hk))
    unfold u_lay at hlay
    rw [if_neg (by rw [hfin]; decide)] at hlay
    have h6 := u_store hfc hkC hkind hlay hi hty hn hfit
    rcases w with w | ⟨host, w⟩
    · exact W.putK S.1 S.2.1 (f := f) ⟨S.2.2.2.1, S.2.2.2.2 _ w, ⟨_, _, _, hi'⟩, hst⟩ (by rw [q2]; exact h6) q1 q3 (by rw [hsl]; exact k2_hasslot (q5 k hk)) rfl rfl hdg fin
    · exact va_WputK S.1 S.2.1 (f := f) S.2.2.2.1 (va_Nw.use rfl (hE.nw w)) hi' hst (by rw [q2]; exact h6) q1 q3 (by rw [hsl]; exact k2_hasslot (q5 k hk)) rfl rfl hdg fin
  · by_cases hf2 : (T k).2.2.2 = true
    · have hlay := S.2.2.2.2 _ (hin _ (u_in_lay hk))
      unfold u_lay at hlay
      rw [if_pos hf2] at hlay
      have hcf : m.cls = cf := by
        obtain ⟨_, _, c', _, _, _, -, -, hf', -, -, -, hown2, -⟩ := Cond.laysFinal_spec hlay
        have e1 : c' = cf := by have := hi.symm.trans hf'; simp at this; exact this.1.symm
        rw [hdecl] at hown2
        rw [← e1]; exact Option.some.inj (S.2.2.2.1.symm.trans hown2)
      have h6 := u_fits hfc hkC hkind (Or.inr hlay) hi hty hn hfit
      exact W.putFinK S.1 S.2.1 S.2.2.2.1 (S.2.2.2.2 _ w) hi' hst hcf hin2 (by rw [q2]; exact h6) q1 q3 (by rw [hsl]; exact k2_hasslot (q5 k hk)) rfl rfl hdg fin
    · have hfin : (T k).2.2.2 = false := by simpa using hf2
      have hlay := S.2.2.2.2 _ (hin _ (u_in_lay hk))
      unfold u_lay at hlay
      rw [if_neg (by rw [hfin]; decide)] at hlay
      have h6 := u_store hfc hkC hkind hlay hi hty hn hfit
      exact W.putK S.1 S.2.1 (f := f) ⟨S.2.2.2.1, S.2.2.2.2 _ w, ⟨_, _, _, hi'⟩, hst⟩ (by rw [q2]; exact h6) q1 q3 (by rw [hsl]; exact k2_hasslot (q5 k hk)) rfl rfl hdg fin
end CR
