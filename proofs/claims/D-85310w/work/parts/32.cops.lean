/-! THE COMPONENT's OPERATIONS on the functional heap, and their rows -/
set_option maxRecDepth 100000
def cGetI (G : GH) (ts : List Nat) (a k : Nat) : Option Int32 := if cT G a ∈ ts then some (cI G a k) else none
def cGetJ (G : GH) (ts : List Nat) (a k : Nat) : Option Int64 := if cT G a ∈ ts then some (cJ G a k) else none
def cGetR (G : GH) (ts : List Nat) (a k : Nat) : Option Nat := if cT G a ∈ ts then cR G a k else none
def cGetQ (G : GH) (ts : List Nat) (a k : Nat) : Option (Option Nat) := if cT G a ∈ ts then some (cR G a k) else none
def cPutI (G : GH) (ts : List Nat) (a k : Nat) (v : Int32) : Option GH := if cT G a ∈ ts then some (cSetI G a k v) else none
def cPutZ (G : GH) (ts : List Nat) (a k : Nat) (v : Int32) : Option GH := if cT G a ∈ ts ∧ (v = 0 ∨ v = 1) then some (cSetI G a k v) else none
def cPutJ (G : GH) (ts : List Nat) (a k : Nat) (v : Int64) : Option GH := if cT G a ∈ ts then some (cSetJ G a k v) else none
def cPutR (G : GH) (ts : List Nat) (a k : Nat) (v : Option Nat) : Option GH := if cT G a ∈ ts then some (cSetR G a k v) else none
def cAldI (G : GH) (a : Nat) (i : Int32) : Option Int32 := if cT G a = 100 ∧ ¬ (i < 0 ∨ cN G a ≤ i.toNatClampNeg) then some (cI G a i.toNatClampNeg) else none
def cAldB (G : GH) (a : Nat) (i : Int32) : Option Int32 := if (cT G a = 101 ∨ cT G a = 102 ∨ cT G a = 112) ∧ ¬ (i < 0 ∨ cN G a ≤ i.toNatClampNeg) then some (cI G a i.toNatClampNeg) else none
def cAldJ (G : GH) (a : Nat) (i : Int32) : Option Int64 := if cT G a = 103 ∧ ¬ (i < 0 ∨ cN G a ≤ i.toNatClampNeg) then some (cJ G a i.toNatClampNeg) else none
def cAldR (G : GH) (a : Nat) (i : Int32) : Option (Option Nat) := if (cT G a = 104 ∨ cT G a = 105) ∧ ¬ (i < 0 ∨ cN G a ≤ i.toNatClampNeg) then some (cR G a i.toNatClampNeg) else none
def cAstI (G : GH) (a : Nat) (i v : Int32) : Option GH := if cT G a = 100 ∧ ¬ (i < 0 ∨ cN G a ≤ i.toNatClampNeg) then some (cSetI G a i.toNatClampNeg v) else none
/-- a byte or a boolean -/
def cAstB (G : GH) (a : Nat) (i v : Int32) : Option GH := if ¬ (i < 0 ∨ cN G a ≤ i.toNatClampNeg) then (if cT G a = 102 then some (cSetI G a i.toNatClampNeg v.toInt8.toInt32) else if cT G a = 101 ∧ (v = 0 ∨ v = 1) then some (cSetI G a i.toNatClampNeg v) else none) else none
def cAstJ (G : GH) (a : Nat) (i : Int32) (v : Int64) : Option GH := if cT G a = 103 ∧ ¬ (i < 0 ∨ cN G a ≤ i.toNatClampNeg) then some (cSetJ G a i.toNatClampNeg v) else none
def cLen (G : GH) (a : Nat) : Option Int32 := if 100 ≤ cT G a ∧ cT G a < 106 ∨ cT G a = 112 ∨ cT G a = 114 then some (nI (cN G a)) else none
/-- a new object; a new array: not among the model's cells -/
def cNew (G : GH) (ci n : Nat) : Option (Nat × GH) := if (cX G < cK G 1 ∨ cK G 1 + 59 ≤ cX G) ∧ 1 ≤ cBx G ∧ n ≤ cBs G then some (cX G, cMk G (ci + 1) 0 n) else none
def cNewA (G : GH) (t : Nat) (n : Int32) : Option (Nat × GH) := if (cX G < cK G 1 ∨ cK G 1 + 59 ≤ cX G) ∧ ¬ n < 0 ∧ 1 ≤ cBx G ∧ n.toNatClampNeg ≤ cBs G ∧ n.toNatClampNeg ≤ 100000 then some (cX G, cMk G t n.toNatClampNeg n.toNatClampNeg) else none
def cCast (G : GH) (ts : List Nat) (a : Nat) : Option Unit := if cT G a ∈ ts then some () else none
def cCastQ (G : GH) (ts : List Nat) (o : Option Nat) : Option Unit := match o with
  | none => some ()
  | some a => cCast G ts a
def cInst (G : GH) (ys ns : List Nat) (a : Nat) : Option Int32 := if cT G a ∈ ys then some 1 else if cT G a ∈ ns then some 0 else none
def cInstQ (G : GH) (ys ns : List Nat) (o : Option Nat) : Option Int32 := match o with
  | none => some 0
  | some a => cInst G ys ns a
/-- what a method of small type may answer -/
def cCr {α : Type} (v : Int32) (r : α) : Option α := if ¬ v < 0 ∧ v ≤ 65535 then some r else none
def cBr {α : Type} (v : Int32) (r : α) : Option α := if v.toInt8.toInt32 = v then some r else none
section CO
variable {p : Program} {l : Launch} {e : Env} {R : Room} {s : State} {m : MethodId} {args : Array Value} {below : List Frame} {meth : Method} {c : Code} {H : Heap} {locs : List Loc} {cells slots : Nat} {Q : State → Prop}
variable {cc : ByteArray} {pc nL : Nat} {ls : Array Slot} {rest st : List Value} {own : String} {E : gX} {G G0 G1 : GH} {rv : Option Value}
theorem c_inI {a : Nat} {i : Int32} {P : Prop} (h : P ∧ ¬ (i < 0 ∨ cN G a ≤ i.toNatClampNeg)) : vp_in i (cN G a) := h.2
theorem c_cell {a : Nat} {x : Cell} (hG : gC E G H) (h : cArr E G a = some x) : H[a]? = some x := by
  refine (hG.1 a (fun h0 => ?_)).2.1 x h
  unfold cArr at h
  rw [h0] at h
  cases h
theorem c_isArr {cell : Cell} (hE : gEnv E s) (j : Nat) (ty : FieldType) (hj : (gTys E)[j]? = some (E.2.1 j, ty)) (hc : cell.cls = E.2.1 j) (hv : cell.vm.isStatics = false) : s.isArrayOf cell ty := by
  obtain ⟨-, k, hk, cm, hkk⟩ := (hE.K.2 j _ hj).1 0 (fun _ => .null)
  exact ⟨fun z h => (by rw [h] at hv; cases hv), k, (by rw [hc]; exact hk), cm, hkk⟩
theorem c_aldI {a : Nat} {i v : Int32} (hdg : decode cc pc = .ok (.iaload, 1)) (S : CallFix p m c cc nL s args lw_all own) (hE : gEnv E s) (hG : gC E G H) (hv : cAldI G a i = some v)
    (kk : W p l e R s m args below meth c H locs cells slots Q (F0 m (pc + 1) ls (.int v :: rest))) : W p l e R s m args below meth c H locs cells slots Q (F0 m pc ls (.int i :: .ref a :: rest)) := by
  unfold cAldI at hv
  split at hv
  · next hc =>
    cases hv
    have hx : H[a]? = some (vp_cell (E.2.1 0) (cN G a, .inl (cI G a))) := c_cell hG (by unfold cArr; rw [hc.1] <;> rfl)
    exact va_iald S.1 S.2.1 (ws := [(a, .inl (E.2.1 0, cN G a, .inl (cI G a)))]) hE.K (fun j q hj => by cases j with | zero => cases hj; exact hx | succ j => cases hj) 0 0 rfl rfl hc.2 hdg kk
  · cases hv
theorem c_aldB {a : Nat} {i v : Int32} (hdg : decode cc pc = .ok (.baload, 1)) (S : CallFix p m c cc nL s args lw_all own) (hE : gEnv E s) (hG : gC E G H) (hv : cAldB G a i = some v)
    (kk : W p l e R s m args below meth c H locs cells slots Q (F0 m (pc + 1) ls (.int v :: rest))) : W p l e R s m args below meth c H locs cells slots Q (F0 m pc ls (.int i :: .ref a :: rest)) := by
  unfold cAldB at hv
  split at hv
  · next hc =>
    cases hv
    rcases hc.1 with ht | ht | ht
    · have hx : H[a]? = some (vp_cell (E.2.1 1) (cN G a, .inl (cI G a))) := c_cell hG (by unfold cArr; rw [ht] <;> rfl)
      exact va_zald S.1 S.2.1 (ws := [(a, .inl (E.2.1 1, cN G a, .inl (cI G a)))]) hE.K (fun j q hj => by cases j with | zero => cases hj; exact hx | succ j => cases hj) 0 1 rfl rfl hc.2 hdg kk
    · have hx : H[a]? = some (vp_cell (E.2.1 2) (cN G a, .inl (cI G a))) := c_cell hG (by unfold cArr; rw [ht] <;> rfl)
      exact va_bald S.1 S.2.1 (ws := [(a, .inl (E.2.1 2, cN G a, .inl (cI G a)))]) hE.K (fun j q hj => by cases j with | zero => cases hj; exact hx | succ j => cases hj) 0 2 rfl rfl hc.2 hdg kk
    · obtain ⟨-, cell, h1, h2, h3, -, h4⟩ := (hG.1 a (by omega)).2.2.2.2 (Or.inr (Or.inl ht))
      obtain ⟨g1, g2, g3, g4⟩ := h4 (by omega)
      rw [if_pos ht] at g1
      have hlt : i.toNatClampNeg < cN G a := Nat.not_le.mp fun q => hc.2 (Or.inr q)
      exact W.bald (v := .int (cI G a i.toNatClampNeg)) S.1 S.2.1 h1 (c_isArr hE 2 .byte rfl g1 h3) h2 (fun q => hc.2 (q.imp id (fun q => Nat.le_trans g2 q))) (by have := g4 _ hlt; rw [if_pos ht] at this; exact this) rfl rfl hdg kk
  · cases hv
theorem c_aldJ {a : Nat} {i : Int32} {v : Int64} (hdg : decode cc pc = .ok (.laload, 1)) (S : CallFix p m c cc nL s args lw_all own) (hE : gEnv E s) (hG : gC E G H) (hv : cAldJ G a i = some v)
    (kk : W p l e R s m args below meth c H locs cells slots Q (F0 m (pc + 1) ls (.long v :: rest))) : W p l e R s m args below meth c H locs cells slots Q (F0 m pc ls (.int i :: .ref a :: rest)) := by
  unfold cAldJ at hv
  split at hv
  · next hc =>
    cases hv
    have hx : H[a]? = some (vp_cell (E.2.1 3) (cN G a, .inr (.inl (cJ G a)))) := c_cell hG (by unfold cArr; rw [hc.1] <;> rfl)
    exact va_lald S.1 S.2.1 (ws := [(a, .inl (E.2.1 3, cN G a, .inr (.inl (cJ G a))))]) hE.K (fun j q hj => by cases j with | zero => cases hj; exact hx | succ j => cases hj) 0 3 rfl rfl hc.2 hdg kk
  · cases hv
theorem c_aldR {a : Nat} {i : Int32} {o : Option Nat} (hdg : decode cc pc = .ok (.aaload, 1)) (S : CallFix p m c cc nL s args lw_all own) (hE : gEnv E s) (hG : gC E G H) (hv : cAldR G a i = some o)
    (kk : W p l e R s m args below meth c H locs cells slots Q (F0 m (pc + 1) ls (va_rf o :: rest))) : W p l e R s m args below meth c H locs cells slots Q (F0 m pc ls (.int i :: .ref a :: rest)) := by
  unfold cAldR at hv
  split at hv
  · next hc =>
    cases hv
    rcases hc.1 with ht | ht
    · have hx : H[a]? = some (vp_cell (E.2.1 4) (cN G a, .inr (.inr (.inr (.inr (cR G a)))))) := c_cell hG (by unfold cArr; rw [ht] <;> rfl)
      exact va_aldq S.1 S.2.1 (ws := [(a, .inl (E.2.1 4, cN G a, .inr (.inr (.inr (.inr (cR G a))))))]) hE.K (fun j q hj => by cases j with | zero => cases hj; exact hx | succ j => cases hj) 0 4 rfl rfl hc.2 hdg kk
    · have hx : H[a]? = some (vp_cell (E.2.1 5) (cN G a, .inr (.inr (.inr (.inr (cR G a)))))) := c_cell hG (by unfold cArr; rw [ht] <;> rfl)
      exact va_aldq S.1 S.2.1 (ws := [(a, .inl (E.2.1 5, cN G a, .inr (.inr (.inr (.inr (cR G a))))))]) hE.K (fun j q hj => by cases j with | zero => cases hj; exact hx | succ j => cases hj) 0 5 rfl rfl hc.2 hdg kk
  · cases hv
theorem c_len {a : Nat} {v : Int32} (hdg : decode cc pc = .ok (.arraylength, 1)) (S : CallFix p m c cc nL s args lw_all own) (hE : gEnv E s) (hG : gC E G H) (hv : cLen G a = some v)
    (kk : W p l e R s m args below meth c H locs cells slots Q (F0 m (pc + 1) ls (.int v :: rest))) : W p l e R s m args below meth c H locs cells slots Q (F0 m pc ls (.ref a :: rest)) := by
  have go : ∀ (j : Nat) (y : (Nat → Int32) ⊕ (Nat → Int64) ⊕ (Nat → UInt32) ⊕ (Nat → UInt64) ⊕ (Nat → Option Nat)) (ty : FieldType), (gTys E)[j]? = some (E.2.1 j, ty) → cArr E G a = some (vp_cell (E.2.1 j) (cN G a, y)) → nI (cN G a) = v → W p l e R s m args below meth c H locs cells slots Q (F0 m pc ls (.ref a :: rest)) := fun j y ty hj hx hn =>
    va_alen S.1 S.2.1 (ws := [(a, .inl (E.2.1 j, cN G a, y))]) hE.K (fun i q hi => by cases i with | zero => cases hi; exact c_cell hG hx | succ i => cases hi) 0 j rfl hj hn hdg kk
  unfold cLen at hv
  split at hv
  · next hc =>
    have hv := Option.some.inj hv
    have ht : cT G a = 100 ∨ cT G a = 101 ∨ cT G a = 102 ∨ cT G a = 103 ∨ cT G a = 104 ∨ cT G a = 105 ∨ cT G a = 112 ∨ cT G a = 114 := by omega
    rcases ht with ht | ht | ht | ht | ht | ht | ht | ht
    · exact go 0 (.inl (cI G a)) .int rfl (by unfold cArr; rw [ht] <;> rfl) hv
    · exact go 1 (.inl (cI G a)) .boolean rfl (by unfold cArr; rw [ht] <;> rfl) hv
    · exact go 2 (.inl (cI G a)) .byte rfl (by unfold cArr; rw [ht] <;> rfl) hv
    · exact go 3 (.inr (.inl (cJ G a))) .long rfl (by unfold cArr; rw [ht] <;> rfl) hv
    · exact go 4 (.inr (.inr (.inr (.inr (cR G a))))) (.object "java/lang/Object") rfl (by unfold cArr; rw [ht] <;> rfl) hv
    · exact go 5 (.inr (.inr (.inr (.inr (cR G a))))) (.object "java/lang/String") rfl (by unfold cArr; rw [ht] <;> rfl) hv
    · obtain ⟨-, cell, h1, h2, h3, -, h4⟩ := (hG.1 a (by omega)).2.2.2.2 (Or.inr (Or.inl ht))
      obtain ⟨g1, g2, g3, -⟩ := h4 (by omega)
      rw [if_pos ht] at g1
      exact W.alen (n := v) S.1 S.2.1 h1 (c_isArr hE 2 .byte rfl g1 h3) (g3.trans hv) rfl rfl hdg kk
    · obtain ⟨-, cell, h1, h2, h3, -, h4⟩ := (hG.1 a (by omega)).2.2.2.2 (Or.inr (Or.inr ht))
      obtain ⟨g1, g2, g3, -⟩ := h4 (by omega)
      rw [if_neg (by omega)] at g1
      exact W.alen (n := v) S.1 S.2.1 h1 (c_isArr hE 4 (.object "java/lang/Object") rfl g1 h3) (g3.trans hv) rfl rfl hdg kk
  · cases hv
/-- an array's new state -/
theorem c_setA {a : Nat} {G' : GH} {H1 : Heap} {x x' : Cell} (hG : gC E G H) (ht : 100 ≤ cT G a) (ht2 : cT G a < 110) (hT : cT G' = cT G) (hN : cN G' = cN G) (hK : cK G' = cK G) (hX : cX G' = cX G) (hBx : cBx G' = cBx G) (hBs : cBs G' = cBs G) (oth : ∀ b, b ≠ a → cI G' b = cI G b ∧ cJ G' b = cJ G b ∧ cR G' b = cR G b)
    (oq : ∀ q : Nat, q ≠ a → H1[q]? = H[q]?) (z : H1.size = H.size) (h0 : H[a]? = some x) (h1 : H1[a]? = some x') (hs : x'.slots.size = x.slots.size) (he : cArr E G' a = some x') : gC E G' H1 := by
  have hat := hG.1 a (by omega)
  refine c_upd (a := a) hG hT hN hK hX hBx hBs oth oq z (by rw [h0, h1]; simp [hs]) ⟨fun ci r hc _ hr => ?_, fun y hy => ?_, fun h1 h2 => ?_, by rw [z]; exact hat.2.2.2.1, fun h9 => absurd h9 (by rw [hT]; omega)⟩
  · rw [hT] at hc
    have : gCl[ci]? = none := List.getElem?_eq_none (by show 39 ≤ ci; omega)
    rw [this] at hr
    cases hr
  · rw [he] at hy
    cases hy
    exact h1
  · rw [hT] at h1 h2
    exact hat.2.2.1 h1 h2
theorem c_astI {a : Nat} {i v : Int32} (hdg : decode cc pc = .ok (.iastore, 1)) (S : CallFix p m c cc nL s args lw_all own) (hE : gEnv E s) (hG : gC E G H) (hS : va_S (gx_C E) s.heap H locs) (hC0 : gC E G0 s.heap) (hv : cAstI G a i v = some G1)
    (kk : ∀ (H1 : Heap) (locs1 : List Loc), gC E G1 H1 → va_S (gx_C E) s.heap H1 locs1 → WC E p l e R s m args below meth c H1 locs1 Q (F0 m (pc + 1) ls rest)) : WC E p l e R s m args below meth c H locs Q (F0 m pc ls (.int v :: .int i :: .ref a :: rest)) := by
  unfold cAstI at hv
  split at hv
  · next hc =>
    cases hv
    have hx : H[a]? = some (vp_cell (E.2.1 0) (cN G a, .inl (cI G a))) := c_cell hG (by unfold cArr; rw [hc.1] <;> rfl)
    have hA : gx_C E a := (hG.1 a (by omega)).2.2.1 (by omega) (by omega)
    refine W.iast S.1 S.2.1 hx ((hE.K.2 0 _ rfl).1 (cN G a) (fun j => .int (cI G a j))) (fun q => by cases q) (by show ¬ (i < 0 ∨ (arrV _ _ _).slots.size ≤ _); rw [arrV_size]; exact hc.2) rfl rfl hdg fun H1 e z oq => ?_
    have ex : (vp_cell (E.2.1 0) (cN G a, .inl (cI G a))).setSlot i.toNatClampNeg (.int v) = vp_cell (E.2.1 0) (cN G a, .inl (cUp (cI G) a i.toNatClampNeg v a)) := by
      rw [vp_cell_i, vp_cell_i, arrV_store]
      congr 2
      funext q
      by_cases hq : q = i.toNatClampNeg
      · subst hq; simp [updV, cUp]
      · simp [updV, cUp, hq]
    rw [ex] at e
    exact g_sync hC0.2.2.2.2.2 (kk H1 _ (c_setA hG (by omega) (by omega) rfl rfl rfl rfl rfl rfl (fun b hb => ⟨cUp_ne _ _ _ hb, rfl, rfl⟩) oq z hx e (by rw [vp_cell_i, vp_cell_i, arrV_size, arrV_size]) (by unfold cArr; rw [show cT (cSetI G a i.toNatClampNeg v) a = 100 from hc.1] <;> rfl)) (hS.put z oq hA))
  · cases hv
theorem c_astB {a : Nat} {i v : Int32} (hdg : decode cc pc = .ok (.bastore, 1)) (S : CallFix p m c cc nL s args lw_all own) (hE : gEnv E s) (hG : gC E G H) (hS : va_S (gx_C E) s.heap H locs) (hC0 : gC E G0 s.heap) (hv : cAstB G a i v = some G1)
    (kk : ∀ (H1 : Heap) (locs1 : List Loc), gC E G1 H1 → va_S (gx_C E) s.heap H1 locs1 → WC E p l e R s m args below meth c H1 locs1 Q (F0 m (pc + 1) ls rest)) : WC E p l e R s m args below meth c H locs Q (F0 m pc ls (.int v :: .int i :: .ref a :: rest)) := by
  unfold cAstB at hv
  split at hv
  · next hin =>
    split at hv
    · next hc =>
      cases hv
      have hx : H[a]? = some (vp_cell (E.2.1 2) (cN G a, .inl (cI G a))) := c_cell hG (by unfold cArr; rw [hc] <;> rfl)
      have hA : gx_C E a := (hG.1 a (by omega)).2.2.1 (by omega) (by omega)
      refine W.bast S.1 S.2.1 hx ((hE.K.2 2 _ rfl).1 (cN G a) (fun j => .int (cI G a j))) (fun q => by cases q) (by show ¬ (i < 0 ∨ (arrV _ _ _).slots.size ≤ _); rw [arrV_size]; exact hin) rfl rfl hdg fun H1 e z oq => ?_
      have ex : (vp_cell (E.2.1 2) (cN G a, .inl (cI G a))).setSlot i.toNatClampNeg (narrow .byte (.int v)) = vp_cell (E.2.1 2) (cN G a, .inl (cUp (cI G) a i.toNatClampNeg v.toInt8.toInt32 a)) := by
        rw [vp_cell_i, vp_cell_i, arrV_store]
        congr 2
        funext q
        by_cases hq : q = i.toNatClampNeg
        · subst hq; simp [updV, cUp]; rfl
        · simp [updV, cUp, hq]
      have e := e.trans (congrArg some ex)
      exact g_sync hC0.2.2.2.2.2 (kk H1 _ (c_setA hG (by omega) (by omega) rfl rfl rfl rfl rfl rfl (fun b hb => ⟨cUp_ne _ _ _ hb, rfl, rfl⟩) oq z hx e (by rw [vp_cell_i, vp_cell_i, arrV_size, arrV_size]) (by unfold cArr; rw [show cT (cSetI G a i.toNatClampNeg v.toInt8.toInt32) a = 102 from hc] <;> rfl)) (hS.put z oq hA))
    · split at hv
      · next hc =>
        obtain ⟨hc, h01⟩ := hc
        cases hv
        have hx : H[a]? = some (vp_cell (E.2.1 1) (cN G a, .inl (cI G a))) := c_cell hG (by unfold cArr; rw [hc] <;> rfl)
        have hA : gx_C E a := (hG.1 a (by omega)).2.2.1 (by omega) (by omega)
        refine W.zast S.1 S.2.1 hx ((hE.K.2 1 _ rfl).1 (cN G a) (fun j => .int (cI G a j))) (fun q => by cases q) (by show ¬ (i < 0 ∨ (arrV _ _ _).slots.size ≤ _); rw [arrV_size]; exact hin) rfl rfl hdg fun H1 e z oq => ?_
        have ex : (vp_cell (E.2.1 1) (cN G a, .inl (cI G a))).setSlot i.toNatClampNeg (narrow .boolean (.int v)) = vp_cell (E.2.1 1) (cN G a, .inl (cUp (cI G) a i.toNatClampNeg v a)) := by
          rw [vp_cell_i, vp_cell_i, arrV_store]
          congr 2
          funext q
          by_cases hq : q = i.toNatClampNeg
          · subst hq; rcases h01 with rfl | rfl <;> simp [updV, cUp] <;> decide
          · simp [updV, cUp, hq]
        have e := e.trans (congrArg some ex)
        exact g_sync hC0.2.2.2.2.2 (kk H1 _ (c_setA hG (by omega) (by omega) rfl rfl rfl rfl rfl rfl (fun b hb => ⟨cUp_ne _ _ _ hb, rfl, rfl⟩) oq z hx e (by rw [vp_cell_i, vp_cell_i, arrV_size, arrV_size]) (by unfold cArr; rw [show cT (cSetI G a i.toNatClampNeg v) a = 101 from hc] <;> rfl)) (hS.put z oq hA))
      · cases hv
  · cases hv
theorem c_astJ {a : Nat} {i : Int32} {v : Int64} (hdg : decode cc pc = .ok (.lastore, 1)) (S : CallFix p m c cc nL s args lw_all own) (hE : gEnv E s) (hG : gC E G H) (hS : va_S (gx_C E) s.heap H locs) (hC0 : gC E G0 s.heap) (hv : cAstJ G a i v = some G1)
    (kk : ∀ (H1 : Heap) (locs1 : List Loc), gC E G1 H1 → va_S (gx_C E) s.heap H1 locs1 → WC E p l e R s m args below meth c H1 locs1 Q (F0 m (pc + 1) ls rest)) : WC E p l e R s m args below meth c H locs Q (F0 m pc ls (.long v :: .int i :: .ref a :: rest)) := by
  unfold cAstJ at hv
  split at hv
  · next hc =>
    cases hv
    have hx : H[a]? = some (vp_cell (E.2.1 3) (cN G a, .inr (.inl (cJ G a)))) := c_cell hG (by unfold cArr; rw [hc.1] <;> rfl)
    have hA : gx_C E a := (hG.1 a (by omega)).2.2.1 (by omega) (by omega)
    refine W.last S.1 S.2.1 hx ((hE.K.2 3 _ rfl).1 (cN G a) (fun j => .long (cJ G a j))) (fun q => by cases q) (by show ¬ (i < 0 ∨ (arrV _ _ _).slots.size ≤ _); rw [arrV_size]; exact hc.2) rfl rfl hdg fun H1 e z oq => ?_
    have ex : (vp_cell (E.2.1 3) (cN G a, .inr (.inl (cJ G a)))).setSlot i.toNatClampNeg (.long v) = vp_cell (E.2.1 3) (cN G a, .inr (.inl (cUp (cJ G) a i.toNatClampNeg v a))) := by
      rw [vp_cell_l, vp_cell_l, arrV_store]
      congr 2
      funext q
      by_cases hq : q = i.toNatClampNeg
      · subst hq; simp [updV, cUp]
      · simp [updV, cUp, hq]
    rw [ex] at e
    exact g_sync hC0.2.2.2.2.2 (kk H1 _ (c_setA hG (by omega) (by omega) rfl rfl rfl rfl rfl rfl (fun b hb => ⟨rfl, cUp_ne _ _ _ hb, rfl⟩) oq z hx e (by rw [vp_cell_l, vp_cell_l, arrV_size, arrV_size]) (by unfold cArr; rw [show cT (cSetJ G a i.toNatClampNeg v) a = 103 from hc.1] <;> rfl)) (hS.put z oq hA))
  · cases hv
/-- the room of the slots -/
theorem c_roomS (hC0 : gC E G0 s.heap) (hG : gC E G H) (h : gSl E s.heap ≤ gSl E H) : (gSl E H - gSl E s.heap) + cBs G = cBs G0 := by
  have := hC0.2.2.2.1; have := hG.2.2.2.1
  omega
theorem c_newX (hG : gC E G H) (h : cX G < cK G 1 ∨ cK G 1 + 59 ≤ cX G) : gx_C E H.size := by
  have h1 := hG.2.1
  have h2 := hG.2.2.2.2.2
  have h3 : cK G 1 = gx_m E := by rw [hG.2.2.2.2.1]
  refine ⟨h2, fun h9 => ?_⟩
  obtain ⟨a1, a2⟩ := h9
  omega
theorem va_S.push {A : Nat → Prop} {H0 : Heap} {cell : Cell} (h : va_S A H0 H locs) : va_S A H0 (H.push cell) locs :=
  ⟨by rw [Array.size_push]; have := h.1; omega, fun q h1 h2 => by rw [Array.getElem?_push, if_neg (by have := h.1; omega)]; exact h.2.1 q h1 h2, h.2.2⟩
theorem c_new {ci n q idx : Nat} {C : String} {T : u_T} {N lev : Nat} {ty : Nat → FieldType} (hdg : decode cc pc = .ok (.new idx, 3)) (w1 : Cond.classLink own idx C ∈ lw_all) (w2 : Cond.instantiable C n ∈ lw_all) (w3 : Cond.initialized C ∈ lw_all) (hc : gCl[ci]? = some (C, T, N)) (hin : ∀ w ∈ u_ws C T N, w ∈ lw_all) (hty : ∀ k, k < N → parseFieldDescriptor (T k).2.2.1 = some (ty k)) (hgt : gTy ci = ty) (hci : ci < 39) (h4 : ci ≠ 4)
    (S : CallFix p m c cc nL s args lw_all own) (hE : gEnv E s) (hG : gC E G H) (hS : va_S (gx_C E) s.heap H locs) (hC0 : gC E G0 s.heap) (hv : cNew G ci n = some (q, G1))
    (kk : ∀ (H1 : Heap) (locs1 : List Loc), gC E G1 H1 → va_S (gx_C E) s.heap H1 locs1 → WC E p l e (gRm lev (cBx G0) (cBs G0)) s m args below meth c H1 locs1 Q (F0 m (pc + 3) ls (.ref q :: rest))) : WC E p l e (gRm lev (cBx G0) (cBs G0)) s m args below meth c H locs Q (F0 m pc ls rest) := by
  unfold cNew at hv
  split at hv
  · next hh =>
    obtain ⟨ho, hx, hs⟩ := hh
    cases hv
    have hb := hC0.2.2.2.2.2
    have hz := hG.2.1
    refine c_know hb fun hsl => ?_
    have hr1 := c_room hC0 hG hS
    have hr2 := c_roomS hC0 hG hsl
    refine W.newc S.1 S.2.1 S.2.2.2.1 (S.2.2.2.2 _ w1) (S.2.2.2.2 _ w2) (S.2.2.2.2 _ w3) rfl hdg (by show _ ≤ cBx G0; omega) (by show _ ≤ cBs G0; omega) fun cC kC f1 f2 f3 f4 => ?_
    have hKn := hE.K.1 ci _ hc
    have hcC : cC = E.1.1 ci := Option.some.inj (f1.symm.trans hKn.2.1)
    subst hcC
    rw [hz]
    refine g_sync hb (kk _ _ (c_mk hG (by simp [f4]) hx hs ?_) hS.push)
    have eT : cT (cMk G (ci + 1) 0 n) H.size = ci + 1 := by simp [cMk, cT, hz]
    refine ⟨fun cj r hj _ hr => ?_, fun x hx => ?_, fun _ _ => c_newX hG ho, by rw [Array.size_push]; omega, fun h9 => absurd h9 (by rw [eT]; omega)⟩
    · rw [eT] at hj
      have : ci = cj := by omega
      subst this
      cases hr.symm.trans hc
      refine (u_born ty S.2.2.2.2 hin hKn f2 (by rw [Array.getElem?_push_size]; rfl) hty).to fun k hk => ?_
      show _ = cVal _ _ _ _
      unfold cVal
      rw [hgt]
      have e1 : cI (cMk G (ci + 1) 0 n) H.size k = 0 := by simp [cMk, cI, hz]
      have e2 : cJ (cMk G (ci + 1) 0 n) H.size k = 0 := by simp [cMk, cJ, hz]
      have e3 : cR (cMk G (ci + 1) 0 n) H.size k = none := by simp [cMk, cR, hz]
      rw [e1, e2, e3]
      exact cFv_dflt _
    · unfold cArr at hx
      rw [eT] at hx
      split at hx <;> first | omega | cases hx
  · cases hv
end CO
