/-! THE MODEL's WORLD: its object at gx_m E, its arrays behind it in the order of their making; memory M field place -/
set_option maxRecDepth 100000
abbrev MM : Type := Nat → Nat → Int32
/-- a field's kind: 0 int, 1 boolean, 2 int array, 3 boolean array, 4 the words -/
def mKind (k : Nat) : Nat := ([4, 2, 2, 0, 2, 0, 0, 0, 0, 0, 0, 0, 0, 0, 2, 2, 2, 2, 0, 1, 0, 0, 0, 0, 1, 2, 2, 2, 2, 2, 2, 2, 2, 2, 2, 2, 2, 2, 2, 2, 2, 0, 2, 2, 2, 0, 2, 2, 2, 2, 2, 0, 0, 0, 0, 0, 2, 2, 2, 2, 2, 2, 2, 2, 2, 2, 2, 2, 2, 2, 2, 2, 2, 2, 2, 3, 2, 2, 2, 0, 0, 0, 0, 0, 0, 2, 2, 2, 0, 1, 0] : List Nat).getD k 9
/-- where a field's array stands, from the object -/
def mOff (k : Nat) : Nat := ([1, 2, 3, 0, 4, 0, 0, 0, 0, 0, 0, 0, 0, 0, 5, 6, 7, 8, 0, 0, 0, 0, 0, 0, 0, 9, 10, 11, 12, 13, 14, 15, 16, 17, 18, 19, 20, 21, 22, 23, 24, 0, 25, 26, 27, 0, 28, 29, 30, 31, 32, 0, 0, 0, 0, 0, 33, 34, 35, 36, 37, 38, 39, 40, 41, 42, 43, 44, 45, 46, 47, 48, 49, 50, 51, 52, 53, 54, 55, 0, 0, 0, 0, 0, 0, 56, 57, 58, 0, 0, 0] : List Nat).getD k 0
/-- how long it is -/
def mLen (k : Nat) : Nat := ([51, 9, 4000, 1, 4000, 1, 1, 1, 1, 1, 1, 1, 1, 1, 26, 26, 26, 26, 1, 1, 1, 1, 1, 1, 1, 12, 12, 12, 12, 12, 12, 12, 12, 12, 6, 6100, 6100, 6100, 6100, 6100, 6100, 1, 9000, 9000, 9000, 1, 2100, 2100, 2100, 2100, 2100, 1, 1, 1, 1, 1, 12, 12, 12, 12, 12, 12, 12, 12, 12, 12, 12, 12, 12, 12, 12, 48, 132, 72, 6, 8, 12, 360, 360, 1, 1, 1, 1, 1, 1, 1600, 12, 64, 1, 1, 1] : List Nat).getD k 0
def mUp (M : MM) (k i : Nat) (v : Int32) : MM := fun k' i' => if k' = k ∧ i' = i then v else M k' i'
def mAld (M : MM) (k : Nat) (i : Int32) : Option Int32 := if ¬ (i < 0 ∨ mLen k ≤ i.toNatClampNeg) then some (M k i.toNatClampNeg) else none
def mAst (M : MM) (k : Nat) (i v : Int32) : Option MM := if ¬ (i < 0 ∨ mLen k ≤ i.toNatClampNeg) then some (mUp M k i.toNatClampNeg v) else none
def mZst (M : MM) (k : Nat) (i v : Int32) : Option MM := if ¬ (i < 0 ∨ mLen k ≤ i.toNatClampNeg) ∧ (v = 0 ∨ v = 1) then some (mUp M k i.toNatClampNeg v) else none
def mPut (M : MM) (k : Nat) (v : Int32) : Option MM := some (mUp M k 0 v)
def mZut (M : MM) (k : Nat) (v : Int32) : Option MM := if v = 0 ∨ v = 1 then some (mUp M k 0 v) else none
def mZr {α : Type} (v : Int32) (r : α) : Option α := if v = 0 ∨ v = 1 then some r else none
def mDiv (x y : Int32) : Option Int32 := if y = 0 then none else some (x / y)
def mRem (x y : Int32) : Option Int32 := if y = 0 then none else some (x - x / y * y)
/-- the words' texts -/
def mWtab : List (List Nat) := [[112, 111, 119, 101, 114], [115, 116, 97, 102, 102], [102, 108, 97, 103], [114, 105, 100, 101], [115, 112, 105, 110], [108, 105, 102, 116], [103, 108, 111, 119], [115, 111, 117, 110, 100], [108, 111, 97, 100], [117, 110, 108, 111, 97, 100], [109, 101, 110, 100], [119, 97, 105, 116], [117, 110, 116, 105, 108], [99, 108, 97, 105, 109], [102, 114, 101, 101], [114, 97, 105, 115, 101], [108, 111, 119, 101, 114], [114, 101, 112, 101, 97, 116], [108, 111, 111, 112], [105, 102], [103, 117, 97, 114, 100], [108, 101, 97, 118, 101], [115, 116, 111, 112], [119, 104, 101, 101, 108], [116, 111, 119, 101, 114], [115, 119, 105, 110, 103], [111, 114, 103, 97, 110], [97, 114, 99, 104], [99, 111, 109, 101, 116], [103, 104, 111, 115, 116], [115, 116, 97, 114], [116, 97, 105, 108], [119, 104, 121], [99, 108, 111, 99, 107], [119, 105, 110, 100], [113, 117, 101, 117, 101], [115, 112, 101, 101, 100], [104, 101, 105, 103, 104, 116], [97, 98, 111, 97, 114, 100], [118, 111, 108, 117, 109, 101], [119, 101, 97, 114], [114, 48], [114, 49], [114, 50], [114, 51], [111, 110], [101, 108, 115, 101], [117, 112], [97, 110, 100], [111, 114], [110, 111, 116]]
def mWd (i : Int32) : Option Nat := if ¬ (i < 0 ∨ 51 ≤ i.toNatClampNeg) then some i.toNatClampNeg else none
def mWlen (w : Nat) : Int32 := nI (mWtab.getD w []).length
def mWch (w : Nat) (j : Int32) : Option Int32 := if ¬ (j < 0 ∨ (mWtab.getD w []).length ≤ j.toNatClampNeg) then some (nI ((mWtab.getD w []).getD j.toNatClampNeg 0)) else none
def mMv (E : gX) (M : MM) (k : Nat) : Value := if mKind k ≤ 1 then .int (M k 0) else .ref (gx_m E + mOff k)
/-- the words' texts: their addresses -/
abbrev gx_w (E : gX) (i : Nat) : Nat := E.2.2 (100 + i)
def gM (E : gX) (M : MM) (H : Heap) : Prop :=
  t_OB (gx_m E) (E.1.1 9) 91 (E.1.2 9) H (mMv E M) ∧ (∀ k, k < 91 → mKind k = 2 → H[gx_m E + mOff k]? = some (vp_cell (E.2.1 0) (mLen k, .inl (M k)))) ∧
  (∀ k, k < 91 → mKind k = 3 → H[gx_m E + mOff k]? = some (vp_cell (E.2.1 1) (mLen k, .inl (M k)))) ∧
  H[gx_m E + mOff 0]? = some (vp_cell (E.2.1 5) (51, .inr (.inr (.inr (.inr (fun i => some (gx_w E i)))))))
/-- the cells that are the model's -/
def gx_A (E : gX) : Nat → Prop := fun q => gx_m E ≤ q ∧ q < gx_m E + 59
theorem mOff_apart : ∀ k, k < 91 → ∀ j, j < 91 → 2 ≤ mKind k → 2 ≤ mKind j → mOff k = mOff j → k = j := by decide +kernel
theorem mOff_in : ∀ k, k < 91 → 2 ≤ mKind k → 0 < mOff k ∧ mOff k < 59 := by decide +kernel
theorem gM.recv {E : gX} {M : MM} {H : Heap} {s : State} (hE : gEnv E s) (h : gM E M H) : ∃ cell : Cell, H[gx_m E]? = some cell ∧ cell.vm.isStatics = false ∧ s.vm.findClass RX2 = some cell.cls := by
  obtain ⟨⟨cell, h1, h2, h3, -⟩, -⟩ := h
  exact ⟨cell, h1, by rw [h3]; rfl, by rw [h2]; exact (hE.K.1 9 (RX2, TX2, 91) rfl).2.1⟩
section GMR
variable {p : Program} {l : Launch} {e : Env} {R : Room} {s : State} {m : MethodId} {args : Array Value} {below : List Frame} {meth : Method} {c : Code} {H : Heap} {locs : List Loc} {cells slots : Nat} {Q : State → Prop}
variable {cc : ByteArray} {pc nL : Nat} {ls : Array Slot} {rest : List Value} {E : gX} {A : Nat → Prop} {M : MM}
theorem m_slot {k : Nat} (hE : gEnv E s) (hM : gM E M H) (hk : k < 91) : ∃ (cf : ClassId) (kf : Class) (fi : Nat) (f : Field) (cell : Cell), s.fieldFound? (TX2 k).1 (TX2 k).2.1 (TX2 k).2.2.1 = some (cf, kf, fi, f) ∧ H[gx_m E]? = some cell ∧ cell.vm = .none ∧ cell.slots[f.slot]? = some (mMv E M k) ∧ cell.cls = E.1.1 9 ∧ f.slot = E.1.2 9 k ∧ (∀ j, j < 91 → cell.slots[E.1.2 9 j]? = some (mMv E M j)) := by
  obtain ⟨cell, q1, q2, q3, q4⟩ := hM.1
  obtain ⟨hS, -⟩ := hE.K.1 9 (RX2, TX2, 91) rfl
  obtain ⟨cf, kf, fi, f, hi, hsl⟩ := hS k hk
  exact ⟨cf, kf, fi, f, cell, hi, q1, q3, by rw [hsl]; exact q4 k hk, q2, hsl, q4⟩
theorem m_getv (k : Nat) {idx : Nat} (hdg : decode cc pc = .ok (.getfield idx, 3)) (w : Cond.fieldLink RX2 idx RX2 (TX2 k).2.1 (TX2 k).2.2.1 ∈ lw_all) (hk : k < 91) (hT : (TX2 k).1 = RX2) (S : CallFix p m c cc nL s args lw_all RX2) (hE : gEnv E s) (hM : gM E M H)
    (kk : W p l e R s m args below meth c H locs cells slots Q (F0 m (pc + 3) ls (mMv E M k :: rest))) : W p l e R s m args below meth c H locs cells slots Q (F0 m pc ls (.ref (gx_m E) :: rest)) := by
  obtain ⟨cf, kf, fi, f, cell, hi, h1, h2, h3, -⟩ := m_slot hE hM hk
  obtain ⟨hS, hfc, kC, hkC, hkind⟩ := hE.K.1 9 (RX2, TX2, 91) rfl
  exact W.getf S.1 S.2.1 S.2.2.2.1 (S.2.2.2.2 _ w) (by rw [← hT]; exact hi) (u_facts hfc hkC (u_lays S.2.2.2.2 in_X2 hk) hi).1 h1 (by rw [h2]; exact fun h => by cases h) (v := mMv E M k) h3 rfl rfl hdg kk
/-- a number's field -/
theorem m_get (k : Nat) {idx : Nat} (hdg : decode cc pc = .ok (.getfield idx, 3)) (w : Cond.fieldLink RX2 idx RX2 (TX2 k).2.1 (TX2 k).2.2.1 ∈ lw_all) (hk : k < 91) (hT : (TX2 k).1 = RX2) (hd : mKind k ≤ 1) (S : CallFix p m c cc nL s args lw_all RX2) (hE : gEnv E s) (hM : gM E M H)
    (kk : W p l e R s m args below meth c H locs cells slots Q (F0 m (pc + 3) ls (.int (M k 0) :: rest))) : W p l e R s m args below meth c H locs cells slots Q (F0 m pc ls (.ref (gx_m E) :: rest)) :=
  m_getv k hdg w hk hT S hE hM (by rw [show mMv E M k = .int (M k 0) from if_pos hd]; exact kk)
/-- an array's field -/
theorem m_geta (k : Nat) {idx : Nat} (hdg : decode cc pc = .ok (.getfield idx, 3)) (w : Cond.fieldLink RX2 idx RX2 (TX2 k).2.1 (TX2 k).2.2.1 ∈ lw_all) (hk : k < 91) (hT : (TX2 k).1 = RX2) (hd : ¬ mKind k ≤ 1) (S : CallFix p m c cc nL s args lw_all RX2) (hE : gEnv E s) (hM : gM E M H)
    (kk : W p l e R s m args below meth c H locs cells slots Q (F0 m (pc + 3) ls (.ref (gx_m E + mOff k) :: rest))) : W p l e R s m args below meth c H locs cells slots Q (F0 m pc ls (.ref (gx_m E) :: rest)) :=
  m_getv k hdg w hk hT S hE hM (by rw [show mMv E M k = .ref (gx_m E + mOff k) from if_neg hd]; exact kk)
theorem m_aIn {k : Nat} {i : Int32} {v : Int32} (h : mAld M k i = some v) : vp_in i (mLen k) ∧ M k i.toNatClampNeg = v := by
  unfold mAld at h
  split at h
  · next hc => exact ⟨hc, Option.some.inj h⟩
  · cases h
theorem m_ald (k : Nat) {i v : Int32} (hdg : decode cc pc = .ok (.iaload, 1)) (hk : k < 91) (hd : mKind k = 2) (S : CallFix p m c cc nL s args lw_all RX2) (hE : gEnv E s) (hM : gM E M H) (hv : mAld M k i = some v)
    (kk : W p l e R s m args below meth c H locs cells slots Q (F0 m (pc + 1) ls (.int v :: rest))) : W p l e R s m args below meth c H locs cells slots Q (F0 m pc ls (.int i :: .ref (gx_m E + mOff k) :: rest)) := by
  obtain ⟨hin, rfl⟩ := m_aIn hv
  exact va_iald S.1 S.2.1 (ws := [(gx_m E + mOff k, .inl (E.2.1 0, mLen k, .inl (M k)))]) hE.K (fun j q hj => by cases j with | zero => cases hj; exact hM.2.1 k hk hd | succ j => cases hj) 0 0 rfl rfl hin hdg kk
theorem m_zld (k : Nat) {i v : Int32} (hdg : decode cc pc = .ok (.baload, 1)) (hk : k < 91) (hd : mKind k = 3) (S : CallFix p m c cc nL s args lw_all RX2) (hE : gEnv E s) (hM : gM E M H) (hv : mAld M k i = some v)
    (kk : W p l e R s m args below meth c H locs cells slots Q (F0 m (pc + 1) ls (.int v :: rest))) : W p l e R s m args below meth c H locs cells slots Q (F0 m pc ls (.int i :: .ref (gx_m E + mOff k) :: rest)) := by
  obtain ⟨hin, rfl⟩ := m_aIn hv
  exact va_zald S.1 S.2.1 (ws := [(gx_m E + mOff k, .inl (E.2.1 1, mLen k, .inl (M k)))]) hE.K (fun j q hj => by cases j with | zero => cases hj; exact hM.2.2.1 k hk hd | succ j => cases hj) 0 1 rfl rfl hin hdg kk
/-- an array's new state -/
theorem m_setA {k : Nat} {i : Nat} {v : Int32} {H1 : Heap} (hM : gM E M H) (hk : k < 91) (hd : 2 ≤ mKind k) (hd4 : mKind k ≠ 4) (h1 : H1[gx_m E + mOff k]? = some (vp_cell (if mKind k = 2 then E.2.1 0 else E.2.1 1) (mLen k, .inl (upd (M k) i v)))) (oq : ∀ q : Nat, q ≠ gx_m E + mOff k → H1[q]? = H[q]?) : gM E (mUp M k i v) H1 := by
  have e1 : mUp M k i v k = upd (M k) i v := by
    funext j
    by_cases hj : j = i <;> simp [mUp, upd, hj]
  have e2 : ∀ j, j ≠ k → mUp M k i v j = M j := fun j hj => by
    funext x
    simp [mUp, hj]
  have hz := mOff_in k hk hd
  obtain ⟨g1, g2, g3, g4⟩ := hM
  refine ⟨(g1.kept (oq _ (by omega))).to (fun j hj => ?_), fun j hj hdj => ?_, fun j hj hdj => ?_, ?_⟩
  · unfold mMv
    by_cases hh : mKind j ≤ 1
    · have : j ≠ k := fun q => by subst q; omega
      rw [if_pos hh, if_pos hh, e2 j this]
    · rw [if_neg hh, if_neg hh]
  · by_cases hh : j = k
    · subst hh
      rw [h1, e1, if_pos hdj]
    · rw [oq _ (fun q => hh (mOff_apart j hj k hk (by omega) hd (by omega))), e2 j hh]
      exact g2 j hj hdj
  · by_cases hh : j = k
    · subst hh
      rw [h1, e1, if_neg (by omega)]
    · rw [oq _ (fun q => hh (mOff_apart j hj k hk (by omega) hd (by omega))), e2 j hh]
      exact g3 j hj hdj
  · rw [oq _ (fun q => hd4 (by have := mOff_apart 0 (by decide) k hk (by decide) hd (by omega); subst this; decide))]
    exact g4
theorem m_ast (k : Nat) {i v : Int32} {M1 : MM} (hdg : decode cc pc = .ok (.iastore, 1)) (hk : k < 91) (hd : mKind k = 2) (S : CallFix p m c cc nL s args lw_all RX2) (hE : gEnv E s) (hM : gM E M H) (hS : va_S (gx_A E) s.heap H locs) (hv : mAst M k i v = some M1)
    (kk : ∀ (H1 : Heap) (locs1 : List Loc), gM E M1 H1 → va_S (gx_A E) s.heap H1 locs1 → W p l e R s m args below meth c H1 locs1 cells slots Q (F0 m (pc + 1) ls rest)) : W p l e R s m args below meth c H locs cells slots Q (F0 m pc ls (.int v :: .int i :: .ref (gx_m E + mOff k) :: rest)) := by
  unfold mAst at hv
  split at hv
  · next hin =>
    cases hv
    have hz := mOff_in k hk (by omega)
    have ha : H[gx_m E + mOff k]? = some (vp_cell (E.2.1 0) (mLen k, .inl (M k))) := hM.2.1 k hk hd
    refine W.iast S.1 S.2.1 ha ((hE.K.2 0 _ rfl).1 (mLen k) (fun j => .int (M k j))) (fun q => by cases q) (by show ¬ (i < 0 ∨ (arrV _ _ _).slots.size ≤ _); rw [arrV_size]; exact hin) rfl rfl hdg fun H1 e z oq => ?_
    refine kk H1 _ (m_setA (i := i.toNatClampNeg) (v := v) hM hk (by omega) (by omega) ?_ oq) (hS.put z oq ⟨by omega, by omega⟩)
    rw [e, if_pos hd]
    rw [vp_cell_i, vp_cell_i, arrV_store]
    congr 2
    funext q
    by_cases hq : q = i.toNatClampNeg
    · subst hq
      simp [updV, upd]
    · simp [updV, upd, hq]
  · cases hv
theorem m_zst (k : Nat) {i v : Int32} {M1 : MM} (hdg : decode cc pc = .ok (.bastore, 1)) (hk : k < 91) (hd : mKind k = 3) (S : CallFix p m c cc nL s args lw_all RX2) (hE : gEnv E s) (hM : gM E M H) (hS : va_S (gx_A E) s.heap H locs) (hv : mZst M k i v = some M1)
    (kk : ∀ (H1 : Heap) (locs1 : List Loc), gM E M1 H1 → va_S (gx_A E) s.heap H1 locs1 → W p l e R s m args below meth c H1 locs1 cells slots Q (F0 m (pc + 1) ls rest)) : W p l e R s m args below meth c H locs cells slots Q (F0 m pc ls (.int v :: .int i :: .ref (gx_m E + mOff k) :: rest)) := by
  unfold mZst at hv
  split at hv
  · next hin =>
    obtain ⟨hin, h01⟩ := hin
    cases hv
    have hz := mOff_in k hk (by omega)
    have ha : H[gx_m E + mOff k]? = some (vp_cell (E.2.1 1) (mLen k, .inl (M k))) := hM.2.2.1 k hk hd
    refine W.zast S.1 S.2.1 ha ((hE.K.2 1 _ rfl).1 (mLen k) (fun j => .int (M k j))) (fun q => by cases q) (by show ¬ (i < 0 ∨ (arrV _ _ _).slots.size ≤ _); rw [arrV_size]; exact hin) rfl rfl hdg fun H1 e z oq => ?_
    refine kk H1 _ (m_setA (i := i.toNatClampNeg) (v := v) hM hk (by omega) (by omega) ?_ oq) (hS.put z oq ⟨by omega, by omega⟩)
    rw [e, if_neg (by omega)]
    rw [vp_cell_i, vp_cell_i, arrV_store]
    congr 2
    funext q
    by_cases hq : q = i.toNatClampNeg
    · subst hq
      rcases h01 with rfl | rfl <;> simp [updV, upd] <;> decide
    · simp [updV, upd, hq]
  · cases hv
theorem m_putv (k : Nat) {idx : Nat} {v : Int32} {ty : FieldType} (hdg : decode cc pc = .ok (.putfield idx, 3)) (w : Cond.fieldLink RX2 idx RX2 (TX2 k).2.1 (TX2 k).2.2.1 ∈ lw_all) (hk : k < 91) (hT : (TX2 k).1 = RX2) (hd : mKind k ≤ 1) (hfin : (TX2 k).2.2.2 = false) (hty : parseFieldDescriptor (TX2 k).2.2.1 = some ty) (hn : narrow ty (.int v) = .int v) (hfit : fits ty (.int v) = true) (S : CallFix p m c cc nL s args lw_all RX2) (hE : gEnv E s) (hM : gM E M H) (hS : va_S (gx_A E) s.heap H locs)
    (kk : ∀ (H1 : Heap) (locs1 : List Loc), gM E (mUp M k 0 v) H1 → va_S (gx_A E) s.heap H1 locs1 → W p l e R s m args below meth c H1 locs1 cells slots Q (F0 m (pc + 3) ls rest)) : W p l e R s m args below meth c H locs cells slots Q (F0 m pc ls (.int v :: .ref (gx_m E) :: rest)) := by
  have hap := va_apart (own := RX2) S.2.2.2.2 in_X2 tyX2 tyX2_ok nmX2 hE.K (ci := 9) rfl
  obtain ⟨cf, kf, fi, f, cell, hi, q1, q3, q4, q2, hsl, q5⟩ := m_slot hE hM hk
  obtain ⟨hS0, hfc, kC, hkC, hkind⟩ := hE.K.1 9 (RX2, TX2, 91) rfl
  have hlay := S.2.2.2.2 _ (in_X2 _ (u_in_lay hk))
  unfold u_lay at hlay
  rw [if_neg (by rw [hfin]; decide)] at hlay
  have hst := (u_facts hfc hkC (u_lays S.2.2.2.2 in_X2 hk) hi).1
  have h6 := u_store hfc hkC hkind hlay hi hty hn hfit
  refine W.putK S.1 S.2.1 (f := f) ⟨S.2.2.2.1, S.2.2.2.2 _ w, ⟨_, _, _, by rw [← hT]; exact hi⟩, hst⟩ (by rw [q2]; exact h6) q1 q3 (by rw [hsl]; exact k2_hasslot (q5 k hk)) rfl rfl hdg fun H' e1 e2 e3 => ?_
  have e3 : ∀ q : Nat, q ≠ gx_m E → H'[q]? = H[q]? := e3
  rw [hsl] at e1 ⊢
  refine kk H' _ ?_ (hS.put e2 e3 ⟨Nat.le_refl _, by omega⟩)
  obtain ⟨-, g2, g3, g4⟩ := hM
  have ek : ∀ j, j ≠ k → mUp M k 0 v j = M j := fun j hj => by
    funext x
    simp [mUp, hj]
  refine ⟨t_OB.to (V := updV (mMv E M) k (.int v)) ⟨_, e1, q2, q3, t_set q5 hap hk (.int v)⟩ (fun j hj => ?_), fun j hj hdj => ?_, fun j hj hdj => ?_, ?_⟩
  · by_cases hh : j = k
    · subst hh
      simp [updV, mMv, hd, mUp]
    · simp only [updV, if_neg hh, mMv, ek j hh]
  · have hz := mOff_in j hj (by omega)
    rw [e3 (gx_m E + mOff j) (by omega), ek j (fun q => by subst q; omega)]
    exact g2 j hj hdj
  · have hz := mOff_in j hj (by omega)
    rw [e3 (gx_m E + mOff j) (by omega), ek j (fun q => by subst q; omega)]
    exact g3 j hj hdj
  · have hz := mOff_in 0 (by decide) (by decide)
    rw [e3 (gx_m E + mOff 0) (by omega)]
    exact g4
theorem m_put (k : Nat) {idx : Nat} {v : Int32} {M1 : MM} (hdg : decode cc pc = .ok (.putfield idx, 3)) (w : Cond.fieldLink RX2 idx RX2 (TX2 k).2.1 (TX2 k).2.2.1 ∈ lw_all) (hk : k < 91) (hT : (TX2 k).1 = RX2) (hd : mKind k = 0) (hfin : (TX2 k).2.2.2 = false) (hty : parseFieldDescriptor (TX2 k).2.2.1 = some .int) (S : CallFix p m c cc nL s args lw_all RX2) (hE : gEnv E s) (hM : gM E M H) (hS : va_S (gx_A E) s.heap H locs) (hv : mPut M k v = some M1)
    (kk : ∀ (H1 : Heap) (locs1 : List Loc), gM E M1 H1 → va_S (gx_A E) s.heap H1 locs1 → W p l e R s m args below meth c H1 locs1 cells slots Q (F0 m (pc + 3) ls rest)) : W p l e R s m args below meth c H locs cells slots Q (F0 m pc ls (.int v :: .ref (gx_m E) :: rest)) := by
  cases hv
  exact m_putv k hdg w hk hT (by omega) hfin hty rfl rfl S hE hM hS kk
theorem m_zut (k : Nat) {idx : Nat} {v : Int32} {M1 : MM} (hdg : decode cc pc = .ok (.putfield idx, 3)) (w : Cond.fieldLink RX2 idx RX2 (TX2 k).2.1 (TX2 k).2.2.1 ∈ lw_all) (hk : k < 91) (hT : (TX2 k).1 = RX2) (hd : mKind k = 1) (hfin : (TX2 k).2.2.2 = false) (hty : parseFieldDescriptor (TX2 k).2.2.1 = some .boolean) (S : CallFix p m c cc nL s args lw_all RX2) (hE : gEnv E s) (hM : gM E M H) (hS : va_S (gx_A E) s.heap H locs) (hv : mZut M k v = some M1)
    (kk : ∀ (H1 : Heap) (locs1 : List Loc), gM E M1 H1 → va_S (gx_A E) s.heap H1 locs1 → W p l e R s m args below meth c H1 locs1 cells slots Q (F0 m (pc + 3) ls rest)) : W p l e R s m args below meth c H locs cells slots Q (F0 m pc ls (.int v :: .ref (gx_m E) :: rest)) := by
  unfold mZut at hv
  split at hv
  · next h01 =>
    cases hv
    exact m_putv k hdg w hk hT (by omega) hfin hty (by rcases h01 with rfl | rfl <;> decide) (by rcases h01 with rfl | rfl <;> decide) S hE hM hS kk
  · cases hv
/-- a call of one of the model's own methods -/
theorem m_cV {index maxL lev n : Nat} {y : MethodName} {bytes : ByteArray} {ret : Option FieldType} {As st : List Value} {M1 : MM} {rv : Option Value} (hdg : decode cc pc = .ok (.invokevirtual index, 3)) (w1 : Cond.methodLink RX2 index y ∈ lw_all) (w2 : Cond.instanceMethod y ∈ lw_all) (w3 : Cond.selects RX2 y y ∈ lw_all) (w5 : Cond.code y bytes maxL ret ∈ lw_all)
    (hd : y.cls = RX2 ∧ y.cls ≠ "java/lang/invoke/MethodHandle" ∧ y.cls ≠ "java/lang/invoke/VarHandle" ∧ (parseMethodDescriptor y.desc).map (fun d => d.parameters.length) = some n)
    (S : CallFix p m c cc nL s args lw_all RX2) (hE : gEnv E s) (hM : gM E M H) (hS : va_S (gx_A E) s.heap H locs) (hls : ls.size = nL) (hn : As.length = n)
    (hMet : gMet E l y bytes maxL ret lev 0 0 (gx_A E) (.ref (gx_m E) :: As) (gM E M) (gM E M1) rv) (hst : st = As.reverse ++ .ref (gx_m E) :: rest) (hW : (rest.map fun v => v.category).sum ≤ 8) (hroom : lev + 1 ≤ R.frames ∧ 8 + (maxL + 11) + 64 * lev ≤ R.locals) (hcs : cells ≤ R.cells ∧ slots ≤ R.slots)
    (kk : ∀ (H1 : Heap) (locs1 : List Loc), gM E M1 H1 → va_S (gx_A E) s.heap H1 locs1 → W p l e R s m args below meth c H1 locs1 cells slots Q (F0 m (pc + 3) ls (rv.toList ++ rest))) : W p l e R s m args below meth c H locs cells slots Q (F0 m pc ls st) :=
  g_cV hdg w1 w2 w3 q120 w5 S hE (fun q h => Nat.le_trans hE.b h.1) (fun _ h => h) hM hS hls hMet (hM.recv hE) (by rw [hn]; exact hd) hst hW hroom hcs (fun H1 locs1 h1 h2 _ _ => kk H1 locs1 h1 h2)
theorem m_cS {index maxL lev n : Nat} {y : MethodName} {bytes : ByteArray} {ret : Option FieldType} {As st : List Value} {M1 : MM} {rv : Option Value} (hdg : decode cc pc = .ok (.invokestatic index, 3)) (w1 : Cond.methodLink RX2 index y ∈ lw_all) (w2 : Cond.static y ∈ lw_all) (w5 : Cond.code y bytes maxL ret ∈ lw_all)
    (hd : y.cls = RX2 ∧ y.cls ≠ "java/lang/invoke/MethodHandle" ∧ y.cls ≠ "java/lang/invoke/VarHandle" ∧ (parseMethodDescriptor y.desc).map (fun d => d.parameters.length) = some n)
    (S : CallFix p m c cc nL s args lw_all RX2) (hE : gEnv E s) (hM : gM E M H) (hS : va_S (gx_A E) s.heap H locs) (hls : ls.size = nL) (hn : As.length = n)
    (hMet : gMet E l y bytes maxL ret lev 0 0 (gx_A E) As (gM E M) (gM E M1) rv) (hst : st = As.reverse ++ rest) (hW : (rest.map fun v => v.category).sum ≤ 8) (hroom : lev + 1 ≤ R.frames ∧ 8 + (maxL + 11) + 64 * lev ≤ R.locals) (hcs : cells ≤ R.cells ∧ slots ≤ R.slots)
    (kk : ∀ (H1 : Heap) (locs1 : List Loc), gM E M1 H1 → va_S (gx_A E) s.heap H1 locs1 → W p l e R s m args below meth c H1 locs1 cells slots Q (F0 m (pc + 3) ls (rv.toList ++ rest))) : W p l e R s m args below meth c H locs cells slots Q (F0 m pc ls st) :=
  g_cS hdg w1 w2 (by rw [hd.1]; exact q120) w5 S hE (fun q h => Nat.le_trans hE.b h.1) (fun _ h => h) hM hS hls hMet (by rw [hn]; exact hd.2) hst hW hroom hcs (fun H1 locs1 h1 h2 _ _ => kk H1 locs1 h1 h2)
theorem m_zr {α : Type} {v : Int32} {r r' : α} (h : mZr v r = some r') : (v = 0 ∨ v = 1) ∧ r = r' := by
  unfold mZr at h
  split at h
  · next hc => exact ⟨hc, Option.some.inj h⟩
  · cases h
theorem m_div {x y v : Int32} (hx : p.tables.exec = Jvm.exec) (hb : c.code = cc) (hdg : decode cc pc = .ok (.idiv, 1)) (hv : mDiv x y = some v) (kk : W p l e R s m args below meth c H locs cells slots Q (F0 m (pc + 1) ls (.int v :: rest))) : W p l e R s m args below meth c H locs cells slots Q (F0 m pc ls (.int y :: .int x :: rest)) := by
  unfold mDiv at hv
  split at hv
  · cases hv
  · next hne => cases hv; exact lv_idiv hx hb hdg hne kk
theorem m_rem {x y v : Int32} (hx : p.tables.exec = Jvm.exec) (hb : c.code = cc) (hdg : decode cc pc = .ok (.irem, 1)) (hv : mRem x y = some v) (kk : W p l e R s m args below meth c H locs cells slots Q (F0 m (pc + 1) ls (.int v :: rest))) : W p l e R s m args below meth c H locs cells slots Q (F0 m pc ls (.int y :: .int x :: rest)) := by
  unfold mRem at hv
  split at hv
  · cases hv
  · next hne => cases hv; exact lv_irem hx hb hdg hne kk
theorem m_wld {i : Int32} {w : Nat} (hdg : decode cc pc = .ok (.aaload, 1)) (S : CallFix p m c cc nL s args lw_all RX2) (hE : gEnv E s) (hM : gM E M H) (hv : mWd i = some w)
    (kk : W p l e R s m args below meth c H locs cells slots Q (F0 m (pc + 1) ls (.ref (gx_w E w) :: rest))) : W p l e R s m args below meth c H locs cells slots Q (F0 m pc ls (.int i :: .ref (gx_m E + mOff 0) :: rest)) := by
  unfold mWd at hv
  split at hv
  · next hin =>
    cases hv
    exact va_aldq S.1 S.2.1 (ws := [(gx_m E + mOff 0, .inl (E.2.1 5, 51, .inr (.inr (.inr (.inr (fun i => some (gx_w E i)))))))]) hE.K (fun j q hj => by cases j with | zero => cases hj; exact hM.2.2.2 | succ j => cases hj) 0 5 rfl rfl hin hdg kk
  · cases hv
theorem m_wdlt {i : Int32} {w : Nat} (h : mWd i = some w) : w < 51 := by
  unfold mWd at h
  split at h
  · next hc => cases h; exact Nat.not_le.mp fun q => hc (Or.inr q)
  · cases h
theorem m_wtab : ∀ w, w < 51 → mWtab.getD w [] = gStrC.getD w [] := by decide +kernel
theorem m_strs (hE : gEnv E s) (hS : va_S (gx_A E) s.heap H locs) : gStrAt E H := hE.strAt.go fun q h1 h2 => hS.2.1 q h1 fun z => by have := hE.b; have := z.1; omega
theorem gM.kept {H1 : Heap} (h : gM E M H) (hq : ∀ q : Nat, q < H.size → H1[q]? = H[q]?) : gM E M H1 := by
  obtain ⟨g1, g2, g3, g4⟩ := h
  have go : ∀ (a : Nat) (x : Cell), H[a]? = some x → H1[a]? = some x := fun a x hx => by rw [hq a (Array.getElem?_eq_some_iff.mp hx).1]; exact hx
  obtain ⟨cell, q1, q2, q3, q4⟩ := g1
  exact ⟨⟨cell, go _ _ q1, q2, q3, q4⟩, fun k hk hd => go _ _ (g2 k hk hd), fun k hk hd => go _ _ (g3 k hk hd), go _ _ g4⟩
theorem m_wlen {idx w : Nat} {st : List Value} (hdg : decode cc pc = .ok (.invokevirtual idx, 3)) (w1 : Cond.methodLink RX2 idx ⟨"java/lang/String", "length", "()I"⟩ ∈ lw_all) (hw : w < 51) (S : CallFix p m c cc nL s args lw_all RX2) (hE : gEnv E s) (hM : gM E M H) (hS : va_S (gx_A E) s.heap H locs) (hls : ls.size = nL) (hst : st = .ref (gx_w E w) :: rest) (hW : (rest.map fun v => v.category).sum ≤ 8) (hroom : 6 ≤ R.frames ∧ 400 ≤ R.locals) (hcs : cells ≤ R.cells ∧ slots ≤ R.slots)
    (kk : ∀ (H1 : Heap) (locs1 : List Loc), gM E M H1 → va_S (gx_A E) s.heap H1 locs1 → W p l e R s m args below meth c H1 locs1 cells slots Q (F0 m (pc + 3) ls (.int (mWlen w) :: rest))) : W p l e R s m args below meth c H locs cells slots Q (F0 m pc ls st) := by
  have e : mWlen w = nI (gStrC.getD w []).length := by unfold mWlen; rw [m_wtab w hw]
  rw [e] at kk
  exact g_cV (y := yJ9_length) (As := []) hdg w1 q481 q482 q131 q483 S hE (fun q h => Nat.le_trans hE.b h.1) (fun q h => h.elim) (m_strs hE hS) hS hls (wk_J9_length E l w (by omega)) (k_str hE (m_strs hE hS) (by omega)) ⟨by decide +kernel, by decide +kernel, by decide +kernel, by decide +kernel⟩ hst hW ⟨by omega, by omega⟩ hcs (fun H1 locs1 h1 h2 h3 h4 => kk H1 locs1 (hM.kept fun q hq => h4 q hq (fun z => z)) h2)
theorem m_wch {idx w : Nat} {j v : Int32} {st : List Value} (hdg : decode cc pc = .ok (.invokevirtual idx, 3)) (w1 : Cond.methodLink RX2 idx ⟨"java/lang/String", "charAt", "(I)C"⟩ ∈ lw_all) (S : CallFix p m c cc nL s args lw_all RX2) (hE : gEnv E s) (hM : gM E M H) (hS : va_S (gx_A E) s.heap H locs) (hls : ls.size = nL) (hv : mWch w j = some v) (hst : st = .int j :: .ref (gx_w E w) :: rest) (hW : (rest.map fun v => v.category).sum ≤ 8) (hroom : 6 ≤ R.frames ∧ 400 ≤ R.locals) (hcs : cells ≤ R.cells ∧ slots ≤ R.slots)
    (kk : ∀ (H1 : Heap) (locs1 : List Loc), gM E M H1 → va_S (gx_A E) s.heap H1 locs1 → W p l e R s m args below meth c H1 locs1 cells slots Q (F0 m (pc + 3) ls (.int v :: rest))) : W p l e R s m args below meth c H locs cells slots Q (F0 m pc ls st) := by
  unfold mWch at hv
  split at hv
  · next hj =>
    have hw : w < 51 := by
      by_cases q : w < 51
      · exact q
      · exfalso
        have : mWtab.getD w [] = [] := by
          rw [List.getD_eq_getElem?_getD, List.getElem?_eq_none (by show 51 ≤ w; omega)]
          rfl
        rw [this] at hj
        exact hj (Or.inr (Nat.zero_le _))
    rw [m_wtab w hw] at hj hv
    cases hv
    exact g_cV (y := yJ9_charAt) (As := [.int j]) hdg w1 q798 q799 q131 q800 S hE (fun q h => Nat.le_trans hE.b h.1) (fun q h => h.elim) (m_strs hE hS) hS hls (wk_J9_charAt E l w j (by omega) hj) (k_str hE (m_strs hE hS) (by omega)) ⟨by decide +kernel, by decide +kernel, by decide +kernel, by show _ = some 1; decide +kernel⟩ hst hW ⟨by omega, by omega⟩ hcs (fun H1 locs1 h1 h2 h3 h4 => kk H1 locs1 (hM.kept fun q hq => h4 q hq (fun z => z)) h2)
  · cases hv
theorem m_iretW {v r : Int32} {M1 : MM} (hdg : decode cc pc = .ok (.ireturn, 1)) (S : CallFix p m c cc nL s args lw_all RX2) (hr : meth.sig.returnType = some .int) (hk : meth.locks = false) (hM : gM E M H) (hS : va_S (gx_A E) s.heap H locs) (h : some (v, M) = some (r, M1)) : W p l e R s m args below meth c H locs 0 0 (MQ below (gQ (some (.int r)) (gM E M1) (gx_A E)) args s 0 0 (gx_A E)) (F0 m pc ls [.int v]) := by
  cases h
  exact g_iret S hr hk hM hS hdg (fun _ h => h)
theorem m_iretR {v r : Int32} (hdg : decode cc pc = .ok (.ireturn, 1)) (S : CallFix p m c cc nL s args lw_all RX2) (hr : meth.sig.returnType = some .int) (hk : meth.locks = false) (hM : gM E M H) (hS : va_S (gx_A E) s.heap H locs) (h : some v = some r) : W p l e R s m args below meth c H locs 0 0 (MQ below (gQ (some (.int r)) (gM E M) (gx_A E)) args s 0 0 (gx_A E)) (F0 m pc ls [.int v]) := by
  cases h
  exact g_iret S hr hk hM hS hdg (fun _ h => h)
theorem m_zretW {v r : Int32} {M1 : MM} (hdg : decode cc pc = .ok (.ireturn, 1)) (S : CallFix p m c cc nL s args lw_all RX2) (hr : meth.sig.returnType = some .boolean) (hk : meth.locks = false) (hM : gM E M H) (hS : va_S (gx_A E) s.heap H locs) (h : mZr v (v, M) = some (r, M1)) : W p l e R s m args below meth c H locs 0 0 (MQ below (gQ (some (.int r)) (gM E M1) (gx_A E)) args s 0 0 (gx_A E)) (F0 m pc ls [.int v]) := by
  obtain ⟨h01, h⟩ := m_zr h
  cases h
  exact g_zret S hr h01 hk hM hS hdg (fun _ h => h)
theorem m_zretR {v r : Int32} (hdg : decode cc pc = .ok (.ireturn, 1)) (S : CallFix p m c cc nL s args lw_all RX2) (hr : meth.sig.returnType = some .boolean) (hk : meth.locks = false) (hM : gM E M H) (hS : va_S (gx_A E) s.heap H locs) (h : mZr v v = some r) : W p l e R s m args below meth c H locs 0 0 (MQ below (gQ (some (.int r)) (gM E M) (gx_A E)) args s 0 0 (gx_A E)) (F0 m pc ls [.int v]) := by
  obtain ⟨h01, h⟩ := m_zr h
  cases h
  exact g_zret S hr h01 hk hM hS hdg (fun _ h => h)
theorem m_vretW {M1 : MM} (hdg : decode cc pc = .ok (.return_, 1)) (S : CallFix p m c cc nL s args lw_all RX2) (hr : meth.sig.returnType = none) (hk : meth.locks = false) (hM : gM E M H) (hS : va_S (gx_A E) s.heap H locs) (h : some M = some M1) : W p l e R s m args below meth c H locs 0 0 (MQ below (gQ none (gM E M1) (gx_A E)) args s 0 0 (gx_A E)) (F0 m pc ls []) := by
  cases h
  exact g_vret S hr hk hM hS hdg (fun _ h => h)
end GMR
