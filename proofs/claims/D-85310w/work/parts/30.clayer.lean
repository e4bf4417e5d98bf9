/-! THE COMPONENT's WORLD: a functional heap: tags, lengths, numbers, references by address and place -/
set_option maxRecDepth 100000
/-- tags, lengths, ints, longs, references, constant addresses, the next address, cells left, slots left -/
abbrev GH : Type := (Nat → Nat) × (Nat → Nat) × (Nat → Nat → Int32) × (Nat → Nat → Int64) × (Nat → Nat → Option Nat) × (Nat → Nat) × Nat × Nat × Nat
def cT (G : GH) : Nat → Nat := G.1
def cN (G : GH) : Nat → Nat := G.2.1
def cI (G : GH) : Nat → Nat → Int32 := G.2.2.1
def cJ (G : GH) : Nat → Nat → Int64 := G.2.2.2.1
def cR (G : GH) : Nat → Nat → Option Nat := G.2.2.2.2.1
def cK (G : GH) : Nat → Nat := G.2.2.2.2.2.1
def cX (G : GH) : Nat := G.2.2.2.2.2.2.1
def cBx (G : GH) : Nat := G.2.2.2.2.2.2.2.1
def cBs (G : GH) : Nat := G.2.2.2.2.2.2.2.2
def cUp {α : Type} (f : Nat → Nat → α) (a k : Nat) (v : α) : Nat → Nat → α := fun a' k' => if a' = a ∧ k' = k then v else f a' k'
def cSetI (G : GH) (a k : Nat) (v : Int32) : GH := (cT G, cN G, cUp (cI G) a k v, cJ G, cR G, cK G, cX G, cBx G, cBs G)
def cSetJ (G : GH) (a k : Nat) (v : Int64) : GH := (cT G, cN G, cI G, cUp (cJ G) a k v, cR G, cK G, cX G, cBx G, cBs G)
def cSetR (G : GH) (a k : Nat) (v : Option Nat) : GH := (cT G, cN G, cI G, cJ G, cUp (cR G) a k v, cK G, cX G, cBx G, cBs G)
/-- a new cell of tag t, length n, ln slots -/
def cMk (G : GH) (t n ln : Nat) : GH := (fun a => if a = cX G then t else cT G a, fun a => if a = cX G then n else cN G a, fun a k => if a = cX G then 0 else cI G a k, fun a k => if a = cX G then 0 else cJ G a k, fun a k => if a = cX G then none else cR G a k, cK G, cX G + 1, cBx G - 1, cBs G - ln)
/-- which classes' fields are of what type -/
def gTyL : List (Nat → FieldType) := [tyJ0, tyJ3, tyJ6, tyJ8, tyJ9, tyJ20, tyJ21, tyJ22, tyX1, tyX2, tyX3, tyX4, tyX5, tyX7, tyX8, tyX9, tyX10, tyX11, tyX12, tyX13, tyX14, tyX15, tyX16, tyX17, tyX18, tyX19, tyX20, tyX21, tyX22, tyX24, tyX25, tyX26, tyX27, tyX28, tyX29, tyX31, tyX32, tyX33, tyXW]
def gTy (ci : Nat) : Nat → FieldType := gTyL.getD ci (fun _ => .int)
def cFv (ty : FieldType) (i : Int32) (j : Int64) (r : Option Nat) : Value := match ty with
  | .long => .long j
  | .object _ => va_rf r
  | .array _ => va_rf r
  | .float => defaultValue .float
  | .double => defaultValue .double
  | _ => .int i
theorem cFv_dflt (ty : FieldType) : defaultValue ty = cFv ty 0 0 none := by cases ty <;> rfl
def cVal (G : GH) (a ci k : Nat) : Value := cFv (gTy ci k) (cI G a k) (cJ G a k) (cR G a k)
/-- the cells that are the component's to write -/
def gx_C (E : gX) : Nat → Prop := fun q => gx_b E ≤ q ∧ ¬ gx_A E q
abbrev gx_l (E : gX) : Nat := E.2.1 100
abbrev gx_s (E : gX) : Nat := E.2.1 101
/-- an array's cell, by its tag -/
def cArr (E : gX) (G : GH) (a : Nat) : Option Cell := match cT G a with
  | 100 => some (vp_cell (E.2.1 0) (cN G a, .inl (cI G a)))
  | 101 => some (vp_cell (E.2.1 1) (cN G a, .inl (cI G a)))
  | 102 => some (vp_cell (E.2.1 2) (cN G a, .inl (cI G a)))
  | 103 => some (vp_cell (E.2.1 3) (cN G a, .inr (.inl (cJ G a))))
  | 104 => some (vp_cell (E.2.1 4) (cN G a, .inr (.inr (.inr (.inr (cR G a))))))
  | 105 => some (vp_cell (E.2.1 5) (cN G a, .inr (.inr (.inr (.inr (cR G a))))))
  | _ => none
/-- a cell that was there from the start, never written: a String's (5), its bytes (112), an empty list's row (114) -/
def cConst (E : gX) (G : GH) (H : Heap) (a : Nat) : Prop := (cT G a = 5 ∨ cT G a = 112 ∨ cT G a = 114) → a < gx_b E ∧ ∃ cell : Cell, H[a]? = some cell ∧ cell.vm ≠ .unknown ∧ cell.vm.isStatics = false ∧
  (cT G a = 5 → cell.cls = E.1.1 4 ∧ ∀ k, k < 2 → cell.slots[E.1.2 4 k]? = some (cVal G a 4 k)) ∧
  (cT G a ≠ 5 → cell.cls = E.2.1 (if cT G a = 112 then 2 else 4) ∧ cN G a ≤ cell.slots.size ∧ cell.slots.size.toInt32 = nI (cN G a) ∧ ∀ j, j < cN G a → cell.slots[j]? = some (if cT G a = 112 then .int (cI G a j) else va_rf (cR G a j)))
def cAt (E : gX) (G : GH) (H : Heap) (a : Nat) : Prop :=
  (∀ (ci : Nat) (r : vw_C), cT G a = ci + 1 → ci ≠ 4 → gCl[ci]? = some r → t_OB a (E.1.1 ci) r.2.2 (E.1.2 ci) H (cVal G a ci)) ∧ (∀ x : Cell, cArr E G a = some x → H[a]? = some x) ∧ (cT G a < 110 → cT G a ≠ 5 → gx_C E a) ∧ a < H.size ∧ cConst E G H a
/-- the slots of the cells since the law began -/
def gSl (E : gX) (H : Heap) : Nat := ((H.toList.drop (gx_b E)).map (·.slots.size)).sum
def gC (E : gX) (G : GH) (H : Heap) : Prop :=
  (∀ a, cT G a ≠ 0 → cAt E G H a) ∧ H.size = cX G ∧ cX G + cBx G = gx_l E ∧ gSl E H + cBs G = gx_s E ∧ cK G = E.2.2 ∧ gx_b E ≤ H.size
theorem gSl_congr {E : gX} {H H1 : Heap} (h : ∀ q : Nat, (H1[q]?).map (·.slots.size) = (H[q]?).map (·.slots.size)) : gSl E H1 = gSl E H := by
  unfold gSl
  congr 1
  apply List.ext_getElem?
  intro i
  rw [List.getElem?_map, List.getElem?_map, List.getElem?_drop, List.getElem?_drop, Array.getElem?_toList, Array.getElem?_toList]
  exact h _
theorem gSl_push {E : gX} {H : Heap} {c : Cell} (h : gx_b E ≤ H.size) : gSl E (H.push c) = gSl E H + c.slots.size := by
  unfold gSl
  rw [Array.toList_push, List.drop_append_of_le_length (by simpa using h), List.map_append, List.sum_append]
  simp
theorem gSl_split {E : gX} {H0 H : Heap} (hb : gx_b E ≤ H0.size) (hz : H0.size ≤ H.size) (hk : ∀ (a : Nat) (c : Cell), H0[a]? = some c → ∃ c' : Cell, H[a]? = some c' ∧ c'.slots.size = c.slots.size) : gSl E H = gSl E H0 + ((H.toList.drop H0.size).map (·.slots.size)).sum := by
  have ht := sizes_take (h := H0) (h' := H) hk
  unfold gSl
  rw [List.map_drop, List.map_drop, List.map_drop, ← ht]
  generalize H.toList.map (·.slots.size) = L
  have e : L = L.take H0.size ++ L.drop H0.size := (List.take_append_drop _ _).symm
  have hl : gx_b E ≤ (L.take H0.size).length ∨ L.length < H0.size := by
    rw [List.length_take]
    omega
  rcases hl with hl | hl
  · conv => lhs; rw [e]
    rw [List.drop_append_of_le_length hl, List.sum_append]
  · rw [List.take_of_length_le (by omega), List.drop_eq_nil_of_le (as := L) (by omega : L.length ≤ H0.size)]
    simp
theorem gC.lt {E : gX} {G : GH} {H : Heap} (h : gC E G H) {a : Nat} (ha : cT G a ≠ 0) : a < cX G := by rw [← h.2.1]; exact (h.1 a ha).2.2.2.1
theorem cAt.kept {E : gX} {G G' : GH} {H H1 : Heap} {b : Nat} (h : cAt E G H b) (hT : cT G' b = cT G b) (hN : cN G' b = cN G b) (hI : cI G' b = cI G b) (hJ : cJ G' b = cJ G b) (hR : cR G' b = cR G b) (hq : H1[b]? = H[b]?) (hz : H.size ≤ H1.size) : cAt E G' H1 b := by
  obtain ⟨h1, h2, h3, h4, h5⟩ := h
  have ea : cArr E G' b = cArr E G b := by unfold cArr; rw [hT, hN, hI, hJ, hR]
  refine ⟨fun ci r ht hn hr => ?_, fun x hx => ?_, fun ht hs => ?_, Nat.lt_of_lt_of_le h4 hz, ?_⟩
  · rw [hT] at ht
    exact ((h1 ci r ht hn hr).kept hq).to (fun k _ => by unfold cVal; rw [hI, hJ, hR])
  · rw [ea] at hx
    rw [hq]
    exact h2 x hx
  · rw [hT] at ht hs
    exact h3 ht hs
  · unfold cConst cVal
    rw [hT, hN, hI, hJ, hR, hq]
    exact h5
theorem c_upd {E : gX} {G G' : GH} {H H1 : Heap} {a : Nat} (hG : gC E G H) (hT : cT G' = cT G) (hN : cN G' = cN G) (hK : cK G' = cK G) (hX : cX G' = cX G) (hBx : cBx G' = cBx G) (hBs : cBs G' = cBs G) (oth : ∀ b, b ≠ a → cI G' b = cI G b ∧ cJ G' b = cJ G b ∧ cR G' b = cR G b) (oq : ∀ q : Nat, q ≠ a → H1[q]? = H[q]?) (z : H1.size = H.size)
    (hsz : (H1[a]?).map (·.slots.size) = (H[a]?).map (·.slots.size)) (hat : cAt E G' H1 a) : gC E G' H1 := by
  obtain ⟨h1, h2, h3, h4, h5, h6⟩ := hG
  refine ⟨fun b hb => ?_, by rw [z, hX]; exact h2, by rw [hX, hBx]; exact h3, ?_, by rw [hK]; exact h5, by rw [z]; exact h6⟩
  · by_cases e : b = a
    · rw [e]; exact hat
    · obtain ⟨o1, o2, o3⟩ := oth b e
      exact (h1 b (by rw [← hT]; exact hb)).kept (by rw [hT]) (by rw [hN]) o1 o2 o3 (oq b e) (Nat.le_of_eq z.symm)
  · rw [hBs, gSl_congr (H := H) (fun q => ?_)]
    · exact h4
    · by_cases e : q = a
      · rw [e]; exact hsz
      · rw [oq q e]
theorem cUp_ne {α : Type} (f : Nat → Nat → α) {a b : Nat} (k : Nat) (v : α) (h : b ≠ a) : cUp f a k v b = f b := by
  funext x
  simp [cUp, h]
theorem cUp_eq {α : Type} (f : Nat → Nat → α) (a k : Nat) (v : α) : cUp f a k v a = fun x => if x = k then v else f a x := by
  funext x
  simp [cUp]
/-- a new cell -/
theorem c_mk {E : gX} {G : GH} {H : Heap} {t n ln : Nat} {cell : Cell} (hG : gC E G H) (hsl : cell.slots.size = ln) (hx : 1 ≤ cBx G) (hs : ln ≤ cBs G) (hat : cAt E (cMk G t n ln) (H.push cell) H.size) : gC E (cMk G t n ln) (H.push cell) := by
  obtain ⟨h1, h2, h3, h4, h5, h6⟩ := hG
  have ez : (H.push cell).size = H.size + 1 := Array.size_push ..
  refine ⟨fun b hb => ?_, by rw [ez, h2]; rfl, ?_, ?_, h5, by omega⟩
  · by_cases e : b = cX G
    · rw [e, ← h2]; exact hat
    · have hb' : cT G b ≠ 0 := by
        have : cT (cMk G t n ln) b = cT G b := by simp [cMk, cT, e]
        rw [← this]; exact hb
      have hl := (h1 b hb').2.2.2.1
      refine (h1 b hb').kept ?_ ?_ ?_ ?_ ?_ ?_ (by omega)
      · simp [cMk, cT, e]
      · simp [cMk, cN, e]
      · funext k; simp [cMk, cI, e]
      · funext k; simp [cMk, cJ, e]
      · funext k; simp [cMk, cR, e]
      · rw [Array.getElem?_push, if_neg (Nat.ne_of_lt hl)]
  · show cX G + 1 + (cBx G - 1) = _
    omega
  · show gSl E (H.push cell) + (cBs G - ln) = _
    rw [gSl_push h6, hsl]
    omega
