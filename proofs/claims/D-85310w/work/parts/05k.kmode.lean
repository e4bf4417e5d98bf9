/-! STRINGS THAT ARE CONSTANTS: their length and signs, read with nothing written -/
set_option maxRecDepth 100000
theorem kJ9_length_0 : decode cJ9_length 0 = .ok (.aload_n 0, 1) := by decide +kernel
theorem kJ9_length_1 : decode cJ9_length 1 = .ok (.getfield 9, 3) := by decide +kernel
theorem kJ9_length_4 : decode cJ9_length 4 = .ok (.arraylength, 1) := by decide +kernel
theorem kJ9_length_5 : decode cJ9_length 5 = .ok (.aload_n 0, 1) := by decide +kernel
theorem kJ9_length_6 : decode cJ9_length 6 = .ok (.invokevirtual 335, 3) := by decide +kernel
theorem kJ9_length_9 : decode cJ9_length 9 = .ok (.ishr, 1) := by decide +kernel
theorem kJ9_length_10 : decode cJ9_length 10 = .ok (.ireturn, 1) := by decide +kernel
theorem kJ9_coder_0 : decode cJ9_coder 0 = .ok (.getstatic 38, 3) := by decide +kernel
theorem kJ9_coder_3 : decode cJ9_coder 3 = .ok (.ifCond .eq 10, 3) := by decide +kernel
theorem kJ9_coder_6 : decode cJ9_coder 6 = .ok (.aload_n 0, 1) := by decide +kernel
theorem kJ9_coder_7 : decode cJ9_coder 7 = .ok (.getfield 15, 3) := by decide +kernel
theorem kJ9_coder_10 : decode cJ9_coder 10 = .ok (.goto 4, 3) := by decide +kernel
theorem kJ9_coder_14 : decode cJ9_coder 14 = .ok (.ireturn, 1) := by decide +kernel
theorem kJ9_charAt_0 : decode cJ9_charAt 0 = .ok (.aload_n 0, 1) := by decide +kernel
theorem kJ9_charAt_1 : decode cJ9_charAt 1 = .ok (.invokevirtual 492, 3) := by decide +kernel
theorem kJ9_charAt_4 : decode cJ9_charAt 4 = .ok (.ifCond .eq 12, 3) := by decide +kernel
theorem kJ9_charAt_7 : decode cJ9_charAt 7 = .ok (.aload_n 0, 1) := by decide +kernel
theorem kJ9_charAt_8 : decode cJ9_charAt 8 = .ok (.getfield 9, 3) := by decide +kernel
theorem kJ9_charAt_11 : decode cJ9_charAt 11 = .ok (.iload_n 1, 1) := by decide +kernel
theorem kJ9_charAt_12 : decode cJ9_charAt 12 = .ok (.invokestatic 495, 3) := by decide +kernel
theorem kJ9_charAt_15 : decode cJ9_charAt 15 = .ok (.ireturn, 1) := by decide +kernel
theorem kJ9_isLatin1_0 : decode cJ9_isLatin1 0 = .ok (.getstatic 38, 3) := by decide +kernel
theorem kJ9_isLatin1_3 : decode cJ9_isLatin1 3 = .ok (.ifCond .eq 14, 3) := by decide +kernel
theorem kJ9_isLatin1_6 : decode cJ9_isLatin1 6 = .ok (.aload_n 0, 1) := by decide +kernel
theorem kJ9_isLatin1_7 : decode cJ9_isLatin1 7 = .ok (.getfield 15, 3) := by decide +kernel
theorem kJ9_isLatin1_10 : decode cJ9_isLatin1 10 = .ok (.ifCond .ne 7, 3) := by decide +kernel
theorem kJ9_isLatin1_13 : decode cJ9_isLatin1 13 = .ok (.iconst 1, 1) := by decide +kernel
theorem kJ9_isLatin1_14 : decode cJ9_isLatin1 14 = .ok (.goto 4, 3) := by decide +kernel
theorem kJ9_isLatin1_18 : decode cJ9_isLatin1 18 = .ok (.ireturn, 1) := by decide +kernel
theorem kJ9_checkIndex_0 : decode cJ9_checkIndex 0 = .ok (.iload_n 0, 1) := by decide +kernel
theorem kJ9_checkIndex_1 : decode cJ9_checkIndex 1 = .ok (.iload_n 1, 1) := by decide +kernel
theorem kJ9_checkIndex_2 : decode cJ9_checkIndex 2 = .ok (.getstatic 1053, 3) := by decide +kernel
theorem kJ9_checkIndex_5 : decode cJ9_checkIndex 5 = .ok (.invokestatic 1059, 3) := by decide +kernel
theorem kJ9_checkIndex_8 : decode cJ9_checkIndex 8 = .ok (.pop, 1) := by decide +kernel
theorem kJ9_checkIndex_9 : decode cJ9_checkIndex 9 = .ok (.return_, 1) := by decide +kernel
theorem kJ15_charAt_0 : decode cJ15_charAt 0 = .ok (.iload_n 1, 1) := by decide +kernel
theorem kJ15_charAt_1 : decode cJ15_charAt 1 = .ok (.aload_n 0, 1) := by decide +kernel
theorem kJ15_charAt_2 : decode cJ15_charAt 2 = .ok (.arraylength, 1) := by decide +kernel
theorem kJ15_charAt_3 : decode cJ15_charAt 3 = .ok (.invokestatic 9, 3) := by decide +kernel
theorem kJ15_charAt_6 : decode cJ15_charAt 6 = .ok (.aload_n 0, 1) := by decide +kernel
theorem kJ15_charAt_7 : decode cJ15_charAt 7 = .ok (.iload_n 1, 1) := by decide +kernel
theorem kJ15_charAt_8 : decode cJ15_charAt 8 = .ok (.baload, 1) := by decide +kernel
theorem kJ15_charAt_9 : decode cJ15_charAt 9 = .ok (.sipush 255, 3) := by decide +kernel
theorem kJ15_charAt_12 : decode cJ15_charAt 12 = .ok (.iand, 1) := by decide +kernel
theorem kJ15_charAt_13 : decode cJ15_charAt 13 = .ok (.i2c, 1) := by decide +kernel
theorem kJ15_charAt_14 : decode cJ15_charAt 14 = .ok (.ireturn, 1) := by decide +kernel
theorem kJ14_checkIndex_0 : decode cJ14_checkIndex 0 = .ok (.iload_n 0, 1) := by decide +kernel
theorem kJ14_checkIndex_1 : decode cJ14_checkIndex 1 = .ok (.ifCond .lt 8, 3) := by decide +kernel
theorem kJ14_checkIndex_4 : decode cJ14_checkIndex 4 = .ok (.iload_n 0, 1) := by decide +kernel
theorem kJ14_checkIndex_5 : decode cJ14_checkIndex 5 = .ok (.iload_n 1, 1) := by decide +kernel
theorem kJ14_checkIndex_6 : decode cJ14_checkIndex 6 = .ok (.if_icmp .lt 10, 3) := by decide +kernel
theorem kJ14_checkIndex_16 : decode cJ14_checkIndex 16 = .ok (.iload_n 0, 1) := by decide +kernel
theorem kJ14_checkIndex_17 : decode cJ14_checkIndex 17 = .ok (.ireturn, 1) := by decide +kernel
/-- a contract that reads the constants alone -/
def gMetK (E : gX) (l : Launch) (y : MethodName) (b : ByteArray) (L : Nat) (ret : Option FieldType) (lev : Nat) (As : List Value) (rv : Option Value) : Prop :=
  gMet E l y b L ret lev 0 0 (fun _ => False) As (gStrAt E) (gStrAt E) rv
section KM
variable {p : Program} {l : Launch} {e : Env} {R : Room} {s : State} {m : MethodId} {args : Array Value} {below : List Frame} {meth : Method} {c : Code} {H : Heap} {locs : List Loc} {cells slots : Nat} {Q : State → Prop}
variable {cc : ByteArray} {pc nL : Nat} {ls : Array Slot} {rest st : List Value} {own : String} {E : gX} {rv : Option Value} {A0 : Nat → Prop}
theorem k_in : ∀ w ∈ u_ws RJ9 TJ9 2, w ∈ lw_all := fun w h => in_J9 w (by
  obtain ⟨k, hk, hw⟩ := List.mem_map.mp h
  exact List.mem_map.mpr ⟨k, List.mem_range.mpr (by have := List.mem_range.mp hk; omega), hw⟩)
theorem k_str (hE : gEnv E s) (hG : gStrAt E H) {i : Nat} (hi : i < 76) : ∃ cell : Cell, H[E.2.2 (100 + i)]? = some cell ∧ cell.vm.isStatics = false ∧ s.vm.findClass "java/lang/String" = some cell.cls := by
  obtain ⟨⟨-, cell, h1, -, h3, h4, -⟩, -⟩ := hG i hi
  exact ⟨cell, h1, h3, by rw [h4]; exact (hE.K.1 4 _ rfl).2.1⟩
theorem k_get {i k idx : Nat} {v : Value} (hdg : decode cc pc = .ok (.getfield idx, 3)) (w : Cond.fieldLink RJ9 idx RJ9 (TJ9 k).2.1 (TJ9 k).2.2.1 ∈ lw_all) (hk : k < 2) (hT : (TJ9 k).1 = RJ9) (hi : i < 76) (hv : ∀ cell : Cell, cell.slots[E.1.2 4 0]? = some (.ref (E.2.2 (300 + i))) → cell.slots[E.1.2 4 1]? = some (.int 0) → cell.slots[E.1.2 4 k]? = some v) (S : CallFix p m c cc nL s args lw_all RJ9) (hE : gEnv E s) (hG : gStrAt E H)
    (kk : W p l e R s m args below meth c H locs cells slots Q (F0 m (pc + 3) ls (v :: rest))) : W p l e R s m args below meth c H locs cells slots Q (F0 m pc ls (.ref (E.2.2 (100 + i)) :: rest)) := by
  obtain ⟨⟨-, cell, h1, h2, -, -, h5, h6⟩, -⟩ := hG i hi
  obtain ⟨hS, hfc, kC, hkC, hkind⟩ := hE.K.1 4 _ rfl
  obtain ⟨cf, kf, fi, f, hi, hsl⟩ := hS k hk
  have h7 := hv cell h5 h6
  rw [← hsl] at h7
  rw [hT] at hi
  have hst := (u_facts hfc hkC (u_lays S.2.2.2.2 k_in hk) (by rw [hT]; exact hi)).1
  exact W.getf S.1 S.2.1 S.2.2.2.1 (S.2.2.2.2 _ w) hi hst h1 h2 (v := v) h7 rfl rfl hdg kk
theorem k_isArr {cell : Cell} (hE : gEnv E s) (hc : cell.cls = E.2.1 2) (hv : cell.vm.isStatics = false) : s.isArrayOf cell .byte := by
  obtain ⟨-, k, hk, cm, hkk⟩ := (hE.K.2 2 _ rfl).1 0 (fun _ => .null)
  exact ⟨fun z h => (by rw [h] at hv; cases hv), k, (by rw [hc]; exact hk), cm, hkk⟩
theorem k_len {i : Nat} (hi : i < 76) (hdg : decode cc pc = .ok (.arraylength, 1)) (S : CallFix p m c cc nL s args lw_all own) (hE : gEnv E s) (hG : gStrAt E H)
    (kk : W p l e R s m args below meth c H locs cells slots Q (F0 m (pc + 1) ls (.int (nI (gStrC.getD i []).length) :: rest))) : W p l e R s m args below meth c H locs cells slots Q (F0 m pc ls (.ref (E.2.2 (300 + i)) :: rest)) := by
  obtain ⟨-, -, cell, h1, h2, h3, h4, h5, h6, -⟩ := hG i hi
  exact W.alen S.1 S.2.1 h1 (k_isArr hE h4 h3) h6 rfl rfl hdg kk
theorem k_ald {i : Nat} {j : Int32} (hi : i < 76) (hj : ¬ (j < 0 ∨ (gStrC.getD i []).length ≤ j.toNatClampNeg)) (hdg : decode cc pc = .ok (.baload, 1)) (S : CallFix p m c cc nL s args lw_all own) (hE : gEnv E s) (hG : gStrAt E H)
    (kk : W p l e R s m args below meth c H locs cells slots Q (F0 m (pc + 1) ls (.int (nI ((gStrC.getD i []).getD j.toNatClampNeg 0)) :: rest))) : W p l e R s m args below meth c H locs cells slots Q (F0 m pc ls (.int j :: .ref (E.2.2 (300 + i)) :: rest)) := by
  obtain ⟨-, -, cell, h1, h2, h3, h4, h5, h6, h7⟩ := hG i hi
  have hlt : j.toNatClampNeg < (gStrC.getD i []).length := Nat.not_le.mp fun q => hj (Or.inr q)
  exact W.bald (v := .int (nI ((gStrC.getD i []).getD j.toNatClampNeg 0))) S.1 S.2.1 h1 (k_isArr hE h4 h3) h2 (fun q => hj (q.imp id (fun q => Nat.le_trans h5 q))) (h7 _ hlt) rfl rfl hdg kk
theorem k_gets {C n d ref : String} {v : Value} {idx : Nat} (w : Cond.fieldLink own idx ref n d ∈ lw_all) (hr : ref = C) (hZ : va_Z C n d v (gB E) s s.heap) (hdg : decode cc pc = .ok (.getstatic idx, 3)) (S : CallFix p m c cc nL s args lw_all own) (hS : va_S (fun _ => False) s.heap H locs) (kk : W p l e R s m args below meth c H locs cells slots Q (F0 m (pc + 3) ls (v :: rest))) : W p l e R s m args below meth c H locs cells slots Q (F0 m pc ls rest) := by
  subst hr
  exact va_gets S.1 S.2.1 (va_Z.narrow hZ (fun _ h => h.elim)) hS S.2.2.2.1 (S.2.2.2.2 _ w) (fun _ h => h) hdg kk
theorem k_bret {v : Int32} {mc ms : Nat} (hv : v = 0) (S : CallFix p m c cc nL s args lw_all own) (hr : meth.sig.returnType = some .byte) (hk : meth.locks = false) (hG : gStrAt E H) (hS : va_S (fun _ => False) s.heap H locs) (hdg : decode cc pc = .ok (.ireturn, 1)) : W p l e R s m args below meth c H locs mc ms (MQ below (gQ (some (.int v)) (gStrAt E) (fun _ => False)) args s mc ms (fun _ => False)) (F0 m pc ls [.int v]) :=
  W.zret S.1 S.2.1 hr (by subst hv; decide) (fun t ht hW => ⟨⟨rfl, by rw [ht]; exact hG⟩, hS.F ht⟩) (fun q h => hS.2.2 q h) hdg hk
theorem k_cret {v : Int32} {mc ms : Nat} (h0 : ¬ v < 0) (h1 : v ≤ 65535) (S : CallFix p m c cc nL s args lw_all own) (hr : meth.sig.returnType = some .char) (hk : meth.locks = false) (hG : gStrAt E H) (hS : va_S (fun _ => False) s.heap H locs) (hdg : decode cc pc = .ok (.ireturn, 1)) : W p l e R s m args below meth c H locs mc ms (MQ below (gQ (some (.int v)) (gStrAt E) (fun _ => False)) args s mc ms (fun _ => False)) (F0 m pc ls [.int v]) := by
  refine W.zret S.1 S.2.1 hr ?_ (fun t ht hW => ⟨⟨rfl, by rw [ht]; exact hG⟩, hS.F ht⟩) (fun q h => hS.2.2 q h) hdg hk
  obtain ⟨j, hj, rfl⟩ := nI_of2 (M := 65535) (n := 65535) (by decide) h0 h1
  exact (pk_charN (by omega)).1
end KM
theorem wk_J9_coder (E : gX) (l : Launch) (i : Nat) (hi : i < 76) : gMetK E l yJ9_coder cJ9_coder 1 (some .byte) 2 [.ref (E.2.2 (100 + i))] (some (.int 0)) := by
  refine gMet.of (own := RJ9) (by decide +kernel) (Nat.le_of_ble_eq_true rfl) rfl ?_
  intro p e s m args below meth c S hr hk hnm hE hG hS ls hl
  have hl : lv_has ls 1 [(0, .ref (E.2.2 (100 + i)))] := hl
  have hx := S.1
  have hb := S.2.1
  refine k_gets q488 rfl hE.stat.2.1 kJ9_coder_0 S hS ?_
  refine lv_if_eq (tgt := 13) hx hb kJ9_coder_3 (by decide) (fun c3 => absurd c3 (by decide)) (fun _ => ?_)
  refine lv_aload_n hx hb kJ9_coder_6 rfl (lv_at hl 0 rfl) ?_
  refine k_get (k := 1) (v := .int 0) kJ9_coder_7 q617 (by decide) rfl hi (fun _ _ h => h) S hE hG ?_
  refine lv_goto (tgt := 14) hx hb kJ9_coder_10 (by decide) ?_
  exact k_bret rfl S hr hk hG hS kJ9_coder_14
theorem wk_J9_length (E : gX) (l : Launch) (i : Nat) (hi : i < 76) : gMetK E l yJ9_length cJ9_length 1 (some .int) 3 [.ref (E.2.2 (100 + i))] (some (.int (nI (gStrC.getD i []).length))) := by
  refine gMet.of (own := RJ9) (by decide +kernel) (Nat.le_of_ble_eq_true rfl) rfl ?_
  intro p e s m args below meth c S hr hk hnm hE hG hS ls hl
  have hl : lv_has ls 1 [(0, .ref (E.2.2 (100 + i)))] := hl
  have hx := S.1
  have hb := S.2.1
  refine lv_aload_n hx hb kJ9_length_0 rfl (lv_at hl 0 rfl) ?_
  refine k_get (k := 0) (v := .ref (E.2.2 (300 + i))) kJ9_length_1 q616 (by decide) rfl hi (fun _ h _ => h) S hE hG ?_
  refine k_len hi kJ9_length_4 S hE hG ?_
  refine lv_aload_n hx hb kJ9_length_5 rfl (lv_at hl 0 rfl) ?_
  refine g_cV (y := yJ9_coder) (rest := [.int (nI (gStrC.getD i []).length)]) (R := gRm 3 0 0) kJ9_length_6 q484 q485 q486 q131 q487 S hE (fun q h => h.elim) (fun q h => h) hG hS hl.1 (wk_J9_coder E l i hi) (k_str hE hG hi) ⟨by decide +kernel, by decide +kernel, by decide +kernel, by decide +kernel⟩ rfl (Nat.le_of_ble_eq_true rfl) ⟨Nat.le_of_ble_eq_true rfl, Nat.le_of_ble_eq_true rfl⟩ ⟨Nat.le_refl _, Nat.le_refl _⟩ (fun H locs hG hS _ _ => ?_)
  refine lv_ishr hx hb kJ9_length_9 ?_
  have e : nI (gStrC.getD i []).length >>> ((0 : Int32) &&& 31) = nI (gStrC.getD i []).length := by
    show nI _ >>> (0 : Int32) = _
    simp
  rw [e]
  exact g_iret S hr hk hG hS kJ9_length_10 (fun _ h => h)
theorem wk_J9_isLatin1 (E : gX) (l : Launch) (i : Nat) (hi : i < 76) : gMetK E l yJ9_isLatin1 cJ9_isLatin1 1 (some .boolean) 2 [.ref (E.2.2 (100 + i))] (some (.int 1)) := by
  refine gMet.of (own := RJ9) (by decide +kernel) (Nat.le_of_ble_eq_true rfl) rfl ?_
  intro p e s m args below meth c S hr hk hnm hE hG hS ls hl
  have hl : lv_has ls 1 [(0, .ref (E.2.2 (100 + i)))] := hl
  have hx := S.1
  have hb := S.2.1
  refine k_gets q488 rfl hE.stat.2.1 kJ9_isLatin1_0 S hS ?_
  refine lv_if_eq (tgt := 17) hx hb kJ9_isLatin1_3 (by decide) (fun c3 => absurd c3 (by decide)) (fun _ => ?_)
  refine lv_aload_n hx hb kJ9_isLatin1_6 rfl (lv_at hl 0 rfl) ?_
  refine k_get (k := 1) (v := .int 0) kJ9_isLatin1_7 q617 (by decide) rfl hi (fun _ _ h => h) S hE hG ?_
  refine lv_if_ne (tgt := 17) hx hb kJ9_isLatin1_10 (by decide) (fun c10 => absurd rfl c10) (fun _ => ?_)
  refine lv_iconst (v := 1) hx hb kJ9_isLatin1_13 (by decide) ?_
  refine lv_goto (tgt := 18) hx hb kJ9_isLatin1_14 (by decide) ?_
  exact g_zret S hr (Or.inr rfl) hk hG hS kJ9_isLatin1_18 (fun _ h => h)
theorem wk_J14_checkIndex (E : gX) (l : Launch) (x0 x1 : Int32) (x2 : Option Nat) (h0 : ¬ x0 < 0) (h1 : x0 < x1) : gMetK E l yJ14_checkIndex cJ14_checkIndex 3 (some .int) 2 [.int x0, .int x1, va_rf x2] (some (.int x0)) := by
  refine gMet.of (own := RJ14) (by decide +kernel) (by cases x2 <;> exact Nat.le_of_ble_eq_true rfl) rfl ?_
  intro p e s m args below meth c S hr hk hnm hE hG hS ls hl
  have hl : lv_has ls 3 [(0, .int x0), (1, .int x1), (2, va_rf x2)] := hl
  have hx := S.1
  have hb := S.2.1
  refine lv_iload_n hx hb kJ14_checkIndex_0 rfl (lv_at hl 0 rfl) ?_
  refine lv_if_lt (tgt := 9) hx hb kJ14_checkIndex_1 (by decide) (fun c1 => absurd c1 h0) (fun c1 => ?_)
  refine lv_iload_n hx hb kJ14_checkIndex_4 rfl (lv_at hl 0 rfl) ?_
  refine lv_iload_n hx hb kJ14_checkIndex_5 rfl (lv_at hl 1 rfl) ?_
  refine lv_icmp_lt (tgt := 16) hx hb kJ14_checkIndex_6 (by decide) (fun c6 => ?_) (fun c6 => absurd h1 c6)
  refine lv_iload_n hx hb kJ14_checkIndex_16 rfl (lv_at hl 0 rfl) ?_
  exact g_iret S hr hk hG hS kJ14_checkIndex_17 (fun _ h => h)
theorem wk_J9_checkIndex (E : gX) (l : Launch) (x0 x1 : Int32) (h0 : ¬ x0 < 0) (h1 : x0 < x1) : gMetK E l yJ9_checkIndex cJ9_checkIndex 2 none 3 [.int x0, .int x1] none := by
  refine gMet.of (own := RJ9) (by decide +kernel) (Nat.le_of_ble_eq_true rfl) rfl ?_
  intro p e s m args below meth c S hr hk hnm hE hG hS ls hl
  have hl : lv_has ls 2 [(0, .int x0), (1, .int x1)] := hl
  have hx := S.1
  have hb := S.2.1
  refine lv_iload_n hx hb kJ9_checkIndex_0 rfl (lv_at hl 0 rfl) ?_
  refine lv_iload_n hx hb kJ9_checkIndex_1 rfl (lv_at hl 1 rfl) ?_
  obtain ⟨o2, z2⟩ : ∃ o2 : Option Nat, va_Z "jdk/internal/util/Preconditions" "SIOOBE_FORMATTER" "Ljava/util/function/BiFunction;" (va_rf o2) (gB E) s s.heap := by
    rcases hE.stat.2.2.2.2.1 with h | ⟨t, h⟩
    · exact ⟨none, h⟩
    · exact ⟨some t, h⟩
  refine k_gets q466 rfl z2 kJ9_checkIndex_2 S hS ?_
  refine g_cS (y := yJ14_checkIndex) (rest := []) (R := gRm 3 0 0) kJ9_checkIndex_5 q807 q808 q137 q809 S hE (fun q h => h.elim) (fun q h => h) hG hS hl.1 (wk_J14_checkIndex E l x0 x1 o2 h0 h1) ⟨by decide +kernel, by decide +kernel, by show _ = some 3; decide +kernel⟩ rfl (Nat.le_of_ble_eq_true rfl) ⟨Nat.le_of_ble_eq_true rfl, Nat.le_of_ble_eq_true rfl⟩ ⟨Nat.le_refl _, Nat.le_refl _⟩ (fun H locs hG hS _ _ => ?_)
  refine lv_pop hx hb kJ9_checkIndex_8 rfl ?_
  exact g_vret S hr hk hG hS kJ9_checkIndex_9 (fun _ h => h)
theorem k_strOk : ∀ i, i < 76 → (gStrC.getD i []).length < 200 ∧ ∀ j, j < (gStrC.getD i []).length → (gStrC.getD i []).getD j 0 < 128 := by decide +kernel
theorem k_and : ∀ n, n < 128 → ((nI n &&& 255).toUInt32 % 65536).toInt32 = nI n := by decide +kernel
theorem wk_J15_charAt (E : gX) (l : Launch) (i : Nat) (j : Int32) (hi : i < 76) (hj : ¬ (j < 0 ∨ (gStrC.getD i []).length ≤ j.toNatClampNeg)) : gMetK E l yJ15_charAt cJ15_charAt 2 (some .char) 4 [.ref (E.2.2 (300 + i)), .int j] (some (.int (nI ((gStrC.getD i []).getD j.toNatClampNeg 0)))) := by
  refine gMet.of (own := RJ15) (by decide +kernel) (Nat.le_of_ble_eq_true rfl) rfl ?_
  intro p e s m args below meth c S hr hk hnm hE hG hS ls hl
  have hl : lv_has ls 2 [(0, .ref (E.2.2 (300 + i))), (1, .int j)] := hl
  have hx := S.1
  have hb := S.2.1
  have hlt : j.toNatClampNeg < (gStrC.getD i []).length := Nat.not_le.mp fun q => hj (Or.inr q)
  have ho := k_strOk i hi
  have hj0 : ¬ j < 0 := fun q => hj (Or.inl q)
  have hjl : j < nI (gStrC.getD i []).length := by
    rw [Int32.lt_iff_toInt_lt]
    have e1 : (nI (gStrC.getD i []).length).toInt = (gStrC.getD i []).length := Int32.toInt_ofNat_of_lt (by omega)
    have e2 : j.toInt = (j.toNatClampNeg : Int) := by
      have hz0 : (0 : Int) ≤ j.toInt := by
        have := Int32.not_lt.mp hj0
        simpa using Int32.le_iff_toInt_le.mp this
      show j.toInt = ((j.toInt.toNat : Nat) : Int)
      omega
    rw [e1, e2]
    omega
  refine lv_iload_n hx hb kJ15_charAt_0 rfl (lv_at hl 1 rfl) ?_
  refine lv_aload_n hx hb kJ15_charAt_1 rfl (lv_at hl 0 rfl) ?_
  refine k_len hi kJ15_charAt_2 S hE hG ?_
  refine g_cS (y := yJ9_checkIndex) (rest := []) (R := gRm 4 0 0) kJ15_charAt_3 q804 q805 q131 q806 S hE (fun q h => h.elim) (fun q h => h) hG hS hl.1 (wk_J9_checkIndex E l j (nI (gStrC.getD i []).length) hj0 hjl) ⟨by decide +kernel, by decide +kernel, by show _ = some 2; decide +kernel⟩ rfl (Nat.le_of_ble_eq_true rfl) ⟨Nat.le_of_ble_eq_true rfl, Nat.le_of_ble_eq_true rfl⟩ ⟨Nat.le_refl _, Nat.le_refl _⟩ (fun H locs hG hS _ _ => ?_)
  refine lv_aload_n hx hb kJ15_charAt_6 rfl (lv_at hl 0 rfl) ?_
  refine lv_iload_n hx hb kJ15_charAt_7 rfl (lv_at hl 1 rfl) ?_
  refine k_ald hi hj kJ15_charAt_8 S hE hG ?_
  refine lv_sipush (v := 255) hx hb kJ15_charAt_9 (by decide) ?_
  refine lv_iand hx hb kJ15_charAt_12 ?_
  refine lv_i2c (v := ((nI ((gStrC.getD i []).getD j.toNatClampNeg 0) &&& 255).toUInt32 % 65536).toInt32) hx hb kJ15_charAt_13 rfl ?_
  rw [k_and _ (ho.2 _ hlt)]
  have b1 := ho.2 _ hlt
  generalize (gStrC.getD i []).getD j.toNatClampNeg 0 = b at b1
  refine k_cret ?_ ?_ S hr hk hG hS kJ15_charAt_14
  · revert b; decide +kernel
  · revert b; decide +kernel
theorem wk_J9_charAt (E : gX) (l : Launch) (i : Nat) (j : Int32) (hi : i < 76) (hj : ¬ (j < 0 ∨ (gStrC.getD i []).length ≤ j.toNatClampNeg)) : gMetK E l yJ9_charAt cJ9_charAt 2 (some .char) 5 [.ref (E.2.2 (100 + i)), .int j] (some (.int (nI ((gStrC.getD i []).getD j.toNatClampNeg 0)))) := by
  refine gMet.of (own := RJ9) (by decide +kernel) (Nat.le_of_ble_eq_true rfl) rfl ?_
  intro p e s m args below meth c S hr hk hnm hE hG hS ls hl
  have hl : lv_has ls 2 [(0, .ref (E.2.2 (100 + i))), (1, .int j)] := hl
  have hx := S.1
  have hb := S.2.1
  refine lv_aload_n hx hb kJ9_charAt_0 rfl (lv_at hl 0 rfl) ?_
  refine g_cV (y := yJ9_isLatin1) (rest := []) (R := gRm 5 0 0) kJ9_charAt_1 q746 q747 q748 q131 q749 S hE (fun q h => h.elim) (fun q h => h) hG hS hl.1 (wk_J9_isLatin1 E l i hi) (k_str hE hG hi) ⟨by decide +kernel, by decide +kernel, by decide +kernel, by decide +kernel⟩ rfl (Nat.le_of_ble_eq_true rfl) ⟨Nat.le_of_ble_eq_true rfl, Nat.le_of_ble_eq_true rfl⟩ ⟨Nat.le_refl _, Nat.le_refl _⟩ (fun H locs hG hS _ _ => ?_)
  refine lv_if_eq (tgt := 16) hx hb kJ9_charAt_4 (by decide) (fun c3 => absurd c3 (by decide)) (fun _ => ?_)
  refine lv_aload_n hx hb kJ9_charAt_7 rfl (lv_at hl 0 rfl) ?_
  refine k_get (k := 0) (v := .ref (E.2.2 (300 + i))) kJ9_charAt_8 q616 (by decide) rfl hi (fun _ h _ => h) S hE hG ?_
  refine lv_iload_n hx hb kJ9_charAt_11 rfl (lv_at hl 1 rfl) ?_
  refine g_cS (y := yJ15_charAt) (rest := []) (R := gRm 5 0 0) kJ9_charAt_12 q801 q802 q138 q803 S hE (fun q h => h.elim) (fun q h => h) hG hS hl.1 (wk_J15_charAt E l i j hi hj) ⟨by decide +kernel, by decide +kernel, by show _ = some 2; decide +kernel⟩ rfl (Nat.le_of_ble_eq_true rfl) ⟨Nat.le_of_ble_eq_true rfl, Nat.le_of_ble_eq_true rfl⟩ ⟨Nat.le_refl _, Nat.le_refl _⟩ (fun H locs hG hS _ _ => ?_)
  have b1 := (k_strOk i hi).2 _ (Nat.not_le.mp fun q => hj (Or.inr q))
  generalize (gStrC.getD i []).getD j.toNatClampNeg 0 = b at b1
  refine k_cret ?_ ?_ S hr hk hG hS kJ9_charAt_15
  · revert b; decide +kernel
  · revert b; decide +kernel
