/-! walks of the model's methods: printed by mgen.py -/
set_option maxRecDepth 100000
theorem hm_newCode : yX2_newCode.cls = RX2 ∧ yX2_newCode.cls ≠ "java/lang/invoke/MethodHandle" ∧ yX2_newCode.cls ≠ "java/lang/invoke/VarHandle" ∧ (parseMethodDescriptor yX2_newCode.desc).map (fun d => d.parameters.length) = some 3 := by decide +kernel
set_option maxHeartbeats 4000000 in
set_option maxRecDepth 100000 in
theorem wm_newCode (E : gX) (l : Launch) (x1 x2 x3 : Int32) (M M' : MM) (h : mm_newCode x1 x2 x3 M = some M') : gMet E l yX2_newCode cX2_newCode 4 none 1 0 0 (gx_A E) [.ref (gx_m E), .int x1, .int x2, .int x3] (gM E M) (gM E M') none := by
  refine gMet.of (own := RX2) (by decide +kernel) (Nat.le_of_ble_eq_true rfl) rfl ?_
  intro p e s m args below meth c S hr hk hnm hE hM hS ls hl
  have hl : lv_has ls 4 [(0, .ref (gx_m E)), (1, .int x1), (2, .int x2), (3, .int x3)] := hl
  have hx := S.1
  have hb := S.2.1
  unfold mm_newCode at h
  refine lv_aload_n hx hb dX2_newCode_0 rfl (lv_at hl 0 rfl) ?_
  refine ma_code dX2_newCode_1 S hE hM ?_
  refine lv_aload_n hx hb dX2_newCode_4 rfl (lv_at hl 0 rfl) ?_
  refine mg_codes dX2_newCode_5 S hE hM ?_
  refine lv_iload_n hx hb dX2_newCode_8 rfl (lv_at hl 1 rfl) ?_
  obtain ⟨M9, e9, h⟩ := g_bd h
  refine m_ast 42 dX2_newCode_9 (by decide) rfl S hE hM hS e9 (fun H locs hM hS => ?_)
  refine lv_aload_n hx hb dX2_newCode_10 rfl (lv_at hl 0 rfl) ?_
  refine ma_codeA dX2_newCode_11 S hE hM ?_
  refine lv_aload_n hx hb dX2_newCode_14 rfl (lv_at hl 0 rfl) ?_
  refine mg_codes dX2_newCode_15 S hE hM ?_
  refine lv_iload_n hx hb dX2_newCode_18 rfl (lv_at hl 2 rfl) ?_
  obtain ⟨M19, e19, h⟩ := g_bd h
  refine m_ast 43 dX2_newCode_19 (by decide) rfl S hE hM hS e19 (fun H locs hM hS => ?_)
  refine lv_aload_n hx hb dX2_newCode_20 rfl (lv_at hl 0 rfl) ?_
  refine ma_codeB dX2_newCode_21 S hE hM ?_
  refine lv_aload_n hx hb dX2_newCode_24 rfl (lv_at hl 0 rfl) ?_
  refine mg_codes dX2_newCode_25 S hE hM ?_
  refine lv_iload_n hx hb dX2_newCode_28 rfl (lv_at hl 3 rfl) ?_
  obtain ⟨M29, e29, h⟩ := g_bd h
  refine m_ast 44 dX2_newCode_29 (by decide) rfl S hE hM hS e29 (fun H locs hM hS => ?_)
  refine lv_aload_n hx hb dX2_newCode_30 rfl (lv_at hl 0 rfl) ?_
  refine lv_dup hx hb dX2_newCode_31 rfl ?_
  refine mg_codes dX2_newCode_32 S hE hM ?_
  refine lv_iconst (v := 1) hx hb dX2_newCode_35 (by decide) ?_
  refine lv_iadd hx hb dX2_newCode_36 ?_
  obtain ⟨M37, e37, h⟩ := g_bd h
  refine mp_codes dX2_newCode_37 S hE hM hS e37 (fun H locs hM hS => ?_)
  exact m_vretW dX2_newCode_40 S hr hk hM hS h
theorem hm_need : yX2_need.cls = RX2 ∧ yX2_need.cls ≠ "java/lang/invoke/MethodHandle" ∧ yX2_need.cls ≠ "java/lang/invoke/VarHandle" ∧ (parseMethodDescriptor yX2_need.desc).map (fun d => d.parameters.length) = some 1 := by decide +kernel
set_option maxHeartbeats 4000000 in
set_option maxRecDepth 100000 in
theorem wm_need (E : gX) (l : Launch) (x1 : Int32) (r : Int32) (M M' : MM) (h : mm_need x1 M = some (r, M')) : gMet E l yX2_need cX2_need 2 (some .boolean) 10 0 0 (gx_A E) [.ref (gx_m E), .int x1] (gM E M) (gM E M') (some (.int r)) := by
  refine gMet.of (own := RX2) (by decide +kernel) (Nat.le_of_ble_eq_true rfl) rfl ?_
  intro p e s m args below meth c S hr hk hnm hE hM hS ls hl
  have hl : lv_has ls 2 [(0, .ref (gx_m E)), (1, .int x1)] := hl
  have hx := S.1
  have hb := S.2.1
  have J24 : ∀ (M : MM) (H : Heap) (locs : List Loc) (ls : Array Slot), mm_need_J24 M = some (r, M') → gM E M H → va_S (gx_A E) s.heap H locs → lv_has ls 2 [(0, .ref (gx_m E))] → W p l e (gRm 10 0 0) s m args below meth c H locs 0 0 (MQ below (gQ (some (.int r)) (gM E M') (gx_A E)) args s 0 0 (gx_A E)) (F0 m 24 ls []) := by
    intro M H locs ls h hM hS hl
    unfold mm_need_J24 at h
    refine lv_aload_n hx hb dX2_need_24 rfl (lv_at hl 0 rfl) ?_
    refine mg_fault dX2_need_25 S hE hM ?_
    refine lv_if_ne (tgt := 35) hx hb dX2_need_28 (by decide) (fun c28 => ?_) (fun c28 => ?_)
    · have h := g_if c28 h
      refine lv_iconst (v := 0) hx hb dX2_need_35 (by decide) ?_
      exact m_zretW dX2_need_36 S hr hk hM hS h
    · have h := g_it c28 h
      refine lv_iconst (v := 1) hx hb dX2_need_31 (by decide) ?_
      refine lv_goto (tgt := 36) hx hb dX2_need_32 (by decide) ?_
      exact m_zretW dX2_need_36 S hr hk hM hS h
  unfold mm_need at h
  refine lv_aload_n hx hb dX2_need_0 rfl (lv_at hl 0 rfl) ?_
  refine lv_iload_n hx hb dX2_need_1 rfl (lv_at hl 1 rfl) ?_
  obtain ⟨v2, e2, h⟩ := g_bd h
  refine m_cV (y := yX2_isSign) (rest := []) dX2_need_2 q3121 q3123 qs71 q3124 hm_isSign S hE hM hS hl.1 rfl (wm_isSign E l _ _ _ e2) rfl (Nat.le_of_ble_eq_true rfl) ⟨Nat.le_of_ble_eq_true rfl, Nat.le_of_ble_eq_true rfl⟩ ⟨Nat.le_refl 0, Nat.le_refl 0⟩ (fun H locs hM hS => ?_)
  refine lv_if_ne (tgt := 20) hx hb dX2_need_5 (by decide) (fun c5 => ?_) (fun c5 => ?_)
  · have h := g_if c5 h
    refine lv_aload_n hx hb dX2_need_20 rfl (lv_at hl 0 rfl) ?_
    obtain ⟨M21, e21, h⟩ := g_bd h
    refine m_cV (y := yX2_cut) (rest := []) dX2_need_21 q3057 q3059 qs57 q3060 hm_cut S hE hM hS hl.1 rfl (wm_cut E l _ _ e21) rfl (Nat.le_of_ble_eq_true rfl) ⟨Nat.le_of_ble_eq_true rfl, Nat.le_of_ble_eq_true rfl⟩ ⟨Nat.le_refl 0, Nat.le_refl 0⟩ (fun H locs hM hS => ?_)
    exact J24 M21 _ _ _ h hM hS (lv_sub hl [0] rfl)
  · have h := g_it c5 h
    refine lv_aload_n hx hb dX2_need_8 rfl (lv_at hl 0 rfl) ?_
    refine lv_iconst (v := 1) hx hb dX2_need_9 (by decide) ?_
    refine lv_aload_n hx hb dX2_need_10 rfl (lv_at hl 0 rfl) ?_
    refine mg_begins dX2_need_11 S hE hM ?_
    obtain ⟨M14, e14, h⟩ := g_bd h
    refine m_cV (y := yX2_wrong) (rest := []) dX2_need_14 q3089 q3091 qs63 q3092 hm_wrong S hE hM hS hl.1 rfl (wm_wrong E l _ _ _ _ e14) rfl (Nat.le_of_ble_eq_true rfl) ⟨Nat.le_of_ble_eq_true rfl, Nat.le_of_ble_eq_true rfl⟩ ⟨Nat.le_refl 0, Nat.le_refl 0⟩ (fun H locs hM hS => ?_)
    refine lv_goto (tgt := 24) hx hb dX2_need_17 (by decide) ?_
    exact J24 M14 _ _ _ h hM hS (lv_sub hl [0] rfl)
theorem hm_measureOf : yX2_measureOf.cls = RX2 ∧ yX2_measureOf.cls ≠ "java/lang/invoke/MethodHandle" ∧ yX2_measureOf.cls ≠ "java/lang/invoke/VarHandle" ∧ (parseMethodDescriptor yX2_measureOf.desc).map (fun d => d.parameters.length) = some 0 := by decide +kernel
set_option maxHeartbeats 4000000 in
set_option maxRecDepth 100000 in
theorem wm_measureOf (E : gX) (l : Launch) (r : Int32) (M : MM) (h : mm_measureOf M = some r) : gMet E l yX2_measureOf cX2_measureOf 1 (some .int) 1 0 0 (gx_A E) [.ref (gx_m E)] (gM E M) (gM E M) (some (.int r)) := by
  refine gMet.of (own := RX2) (by decide +kernel) (Nat.le_of_ble_eq_true rfl) rfl ?_
  intro p e s m args below meth c S hr hk hnm hE hM hS ls hl
  have hl : lv_has ls 1 [(0, .ref (gx_m E))] := hl
  have hx := S.1
  have hb := S.2.1
  unfold mm_measureOf at h
  refine lv_aload_n hx hb dX2_measureOf_0 rfl (lv_at hl 0 rfl) ?_
  refine mg_token dX2_measureOf_1 S hE hM ?_
  refine lv_iconst (v := 1) hx hb dX2_measureOf_4 (by decide) ?_
  refine lv_icmp_eq (tgt := 10) hx hb dX2_measureOf_5 (by decide) (fun c5 => ?_) (fun c5 => ?_)
  · have h := g_it c5 h
    refine lv_aload_n hx hb dX2_measureOf_10 rfl (lv_at hl 0 rfl) ?_
    refine mg_word dX2_measureOf_11 S hE hM ?_
    by_cases c14_6 : (M 11 0) = 6
    · have h := g_it c14_6 h
      refine lv_lookup (off := 72) (tgt := 86) hx hb dX2_measureOf_14 (by decide) (by rw [c14_6]; rfl) (by decide) ?_
      refine lv_iconst (v := 3) hx hb dX2_measureOf_86 (by decide) ?_
      exact m_iretR dX2_measureOf_87 S hr hk hM hS h
    have h := g_if c14_6 h
    by_cases c14_35 : (M 11 0) = 35
    · have h := g_it c14_35 h
      refine lv_lookup (off := 78) (tgt := 92) hx hb dX2_measureOf_14 (by decide) (by rw [c14_35]; rfl) (by decide) ?_
      refine lv_bipush (v := 6) hx hb dX2_measureOf_92 (by decide) ?_
      exact m_iretR dX2_measureOf_94 S hr hk hM hS h
    have h := g_if c14_35 h
    by_cases c14_36 : (M 11 0) = 36
    · have h := g_it c14_36 h
      refine lv_lookup (off := 66) (tgt := 80) hx hb dX2_measureOf_14 (by decide) (by rw [c14_36]; rfl) (by decide) ?_
      refine lv_iconst (v := 0) hx hb dX2_measureOf_80 (by decide) ?_
      exact m_iretR dX2_measureOf_81 S hr hk hM hS h
    have h := g_if c14_36 h
    by_cases c14_37 : (M 11 0) = 37
    · have h := g_it c14_37 h
      refine lv_lookup (off := 68) (tgt := 82) hx hb dX2_measureOf_14 (by decide) (by rw [c14_37]; rfl) (by decide) ?_
      refine lv_iconst (v := 1) hx hb dX2_measureOf_82 (by decide) ?_
      exact m_iretR dX2_measureOf_83 S hr hk hM hS h
    have h := g_if c14_37 h
    by_cases c14_38 : (M 11 0) = 38
    · have h := g_it c14_38 h
      refine lv_lookup (off := 70) (tgt := 84) hx hb dX2_measureOf_14 (by decide) (by rw [c14_38]; rfl) (by decide) ?_
      refine lv_iconst (v := 2) hx hb dX2_measureOf_84 (by decide) ?_
      exact m_iretR dX2_measureOf_85 S hr hk hM hS h
    have h := g_if c14_38 h
    by_cases c14_39 : (M 11 0) = 39
    · have h := g_it c14_39 h
      refine lv_lookup (off := 74) (tgt := 88) hx hb dX2_measureOf_14 (by decide) (by rw [c14_39]; rfl) (by decide) ?_
      refine lv_iconst (v := 4) hx hb dX2_measureOf_88 (by decide) ?_
      exact m_iretR dX2_measureOf_89 S hr hk hM hS h
    have h := g_if c14_39 h
    by_cases c14_40 : (M 11 0) = 40
    · have h := g_it c14_40 h
      refine lv_lookup (off := 76) (tgt := 90) hx hb dX2_measureOf_14 (by decide) (by rw [c14_40]; rfl) (by decide) ?_
      refine lv_iconst (v := 5) hx hb dX2_measureOf_90 (by decide) ?_
      exact m_iretR dX2_measureOf_91 S hr hk hM hS h
    have h := g_if c14_40 h
    refine lv_lookup (off := 81) (tgt := 95) hx hb dX2_measureOf_14 (by decide) (by show Op.lookupswitch.offset [(6, 72), (35, 78), (36, 66), (37, 68), (38, 70), (39, 74), (40, 76)] 81 _ = _; rw [lv_osw c14_6 (by decide), lv_osw c14_35 (by decide), lv_osw c14_36 (by decide), lv_osw c14_37 (by decide), lv_osw c14_38 (by decide), lv_osw c14_39 (by decide), lv_osw c14_40 (by decide)]; rfl) (by decide) ?_
    refine lv_iconst (v := (-1)) hx hb dX2_measureOf_95 (by decide) ?_
    exact m_iretR dX2_measureOf_96 S hr hk hM hS h
  · have h := g_if c5 h
    refine lv_iconst (v := (-1)) hx hb dX2_measureOf_8 (by decide) ?_
    exact m_iretR dX2_measureOf_9 S hr hk hM hS h
theorem hm_wordFactor : yX2_wordFactor.cls = RX2 ∧ yX2_wordFactor.cls ≠ "java/lang/invoke/MethodHandle" ∧ yX2_wordFactor.cls ≠ "java/lang/invoke/VarHandle" ∧ (parseMethodDescriptor yX2_wordFactor.desc).map (fun d => d.parameters.length) = some 0 := by decide +kernel
set_option maxHeartbeats 4000000 in
set_option maxRecDepth 100000 in
theorem wm_wordFactor (E : gX) (l : Launch) (M M' : MM) (h : mm_wordFactor M = some M') : gMet E l yX2_wordFactor cX2_wordFactor 4 none 11 0 0 (gx_A E) [.ref (gx_m E)] (gM E M) (gM E M') none := by
  refine gMet.of (own := RX2) (by decide +kernel) (Nat.le_of_ble_eq_true rfl) rfl ?_
  intro p e s m args below meth c S hr hk hnm hE hM hS ls hl
  have hl : lv_has ls 4 [(0, .ref (gx_m E))] := hl
  have hx := S.1
  have hb := S.2.1
  have J158 : ∀ (M : MM) (H : Heap) (locs : List Loc) (ls : Array Slot), mm_wordFactor_J158 M = some M' → gM E M H → va_S (gx_A E) s.heap H locs → lv_has ls 4 [(0, .ref (gx_m E))] → W p l e (gRm 11 0 0) s m args below meth c H locs 0 0 (MQ below (gQ none (gM E M') (gx_A E)) args s 0 0 (gx_A E)) (F0 m 158 ls []) := by
    intro M H locs ls h hM hS hl
    unfold mm_wordFactor_J158 at h
    refine lv_bipush (v := 16) hx hb dX2_wordFactor_158 (by decide) ?_
    refine lv_aload_n hx hb dX2_wordFactor_160 rfl (lv_at hl 0 rfl) ?_
    refine mg_begins dX2_wordFactor_161 S hE hM ?_
    refine lv_imul hx hb dX2_wordFactor_164 ?_
    refine lv_aload_n hx hb dX2_wordFactor_165 rfl (lv_at hl 0 rfl) ?_
    refine mg_ends dX2_wordFactor_166 S hE hM ?_
    refine lv_iadd hx hb dX2_wordFactor_169 ?_
    refine lv_aload_n hx hb dX2_wordFactor_170 rfl (lv_at hl 0 rfl) ?_
    refine mg_begins dX2_wordFactor_171 S hE hM ?_
    refine lv_isub hx hb dX2_wordFactor_174 ?_
    refine lv_istore_n (lv' := [(3, .int (((16 * (M 8 0)) + (M 9 0)) - (M 8 0))), (0, .ref (gx_m E))]) hx hb dX2_wordFactor_175 rfl hl (by decide) rfl (fun ls hl => ?_)
    refine lv_aload_n hx hb dX2_wordFactor_176 rfl (lv_at hl 1 rfl) ?_
    obtain ⟨M177, e177, h⟩ := g_bd h
    refine m_cV (y := yX2_cut) (rest := []) dX2_wordFactor_177 q3057 q3059 qs57 q3060 hm_cut S hE hM hS hl.1 rfl (wm_cut E l _ _ e177) rfl (Nat.le_of_ble_eq_true rfl) ⟨Nat.le_of_ble_eq_true rfl, Nat.le_of_ble_eq_true rfl⟩ ⟨Nat.le_refl 0, Nat.le_refl 0⟩ (fun H locs hM hS => ?_)
    refine lv_aload_n hx hb dX2_wordFactor_180 rfl (lv_at hl 1 rfl) ?_
    refine lv_bipush (v := 46) hx hb dX2_wordFactor_181 (by decide) ?_
    obtain ⟨q183, e183, h⟩ := g_bd h
    refine m_cV (y := yX2_need) (rest := []) dX2_wordFactor_183 q3160 q3162 qs80 q3163 hm_need S hE hM hS hl.1 rfl (wm_need E l _ _ _ _ e183) rfl (Nat.le_of_ble_eq_true rfl) ⟨Nat.le_of_ble_eq_true rfl, Nat.le_of_ble_eq_true rfl⟩ ⟨Nat.le_refl 0, Nat.le_refl 0⟩ (fun H locs hM hS => ?_)
    refine lv_if_ne (tgt := 190) hx hb dX2_wordFactor_186 (by decide) (fun c186 => ?_) (fun c186 => ?_)
    · have h := g_if c186 h
      refine lv_aload_n hx hb dX2_wordFactor_190 rfl (lv_at hl 1 rfl) ?_
      obtain ⟨v191, e191, h⟩ := g_bd h
      refine m_cV (y := yX2_measureOf) (rest := []) dX2_wordFactor_191 q3168 q3170 qs82 q3171 hm_measureOf S hE hM hS hl.1 rfl (wm_measureOf E l _ _ e191) rfl (Nat.le_of_ble_eq_true rfl) ⟨Nat.le_of_ble_eq_true rfl, Nat.le_of_ble_eq_true rfl⟩ ⟨Nat.le_refl 0, Nat.le_refl 0⟩ (fun H locs hM hS => ?_)
      refine lv_istore_n (lv' := [(1, .int v191), (3, .int (((16 * (M 8 0)) + (M 9 0)) - (M 8 0))), (0, .ref (gx_m E))]) hx hb dX2_wordFactor_194 rfl hl (by decide) rfl (fun ls hl => ?_)
      refine lv_iload_n hx hb dX2_wordFactor_195 rfl (lv_at hl 0 rfl) ?_
      refine lv_iconst (v := (-1)) hx hb dX2_wordFactor_196 (by decide) ?_
      refine lv_icmp_ne (tgt := 210) hx hb dX2_wordFactor_197 (by decide) (fun c197 => ?_) (fun c197 => ?_)
      · have h := g_if c197 h
        refine lv_aload_n hx hb dX2_wordFactor_210 rfl (lv_at hl 2 rfl) ?_
        refine lv_bipush (v := 7) hx hb dX2_wordFactor_211 (by decide) ?_
        refine lv_iload_n hx hb dX2_wordFactor_213 rfl (lv_at hl 1 rfl) ?_
        refine lv_iload_n hx hb dX2_wordFactor_214 rfl (lv_at hl 0 rfl) ?_
        obtain ⟨M215, e215, h⟩ := g_bd h
        refine m_cV (y := yX2_newCode) (rest := []) dX2_wordFactor_215 q3156 q3158 qs79 q3159 hm_newCode S hE hM hS hl.1 rfl (wm_newCode E l _ _ _ _ _ e215) rfl (Nat.le_of_ble_eq_true rfl) ⟨Nat.le_of_ble_eq_true rfl, Nat.le_of_ble_eq_true rfl⟩ ⟨Nat.le_refl 0, Nat.le_refl 0⟩ (fun H locs hM hS => ?_)
        refine lv_aload_n hx hb dX2_wordFactor_218 rfl (lv_at hl 2 rfl) ?_
        obtain ⟨M219, e219, h⟩ := g_bd h
        refine m_cV (y := yX2_cut) (rest := []) dX2_wordFactor_219 q3057 q3059 qs57 q3060 hm_cut S hE hM hS hl.1 rfl (wm_cut E l _ _ e219) rfl (Nat.le_of_ble_eq_true rfl) ⟨Nat.le_of_ble_eq_true rfl, Nat.le_of_ble_eq_true rfl⟩ ⟨Nat.le_refl 0, Nat.le_refl 0⟩ (fun H locs hM hS => ?_)
        exact m_vretW dX2_wordFactor_222 S hr hk hM hS h
      · have h := g_it c197 h
        refine lv_aload_n hx hb dX2_wordFactor_200 rfl (lv_at hl 2 rfl) ?_
        refine lv_iconst (v := 1) hx hb dX2_wordFactor_201 (by decide) ?_
        refine lv_aload_n hx hb dX2_wordFactor_202 rfl (lv_at hl 2 rfl) ?_
        refine mg_begins dX2_wordFactor_203 S hE hM ?_
        obtain ⟨M206, e206, h⟩ := g_bd h
        refine m_cV (y := yX2_wrong) (rest := []) dX2_wordFactor_206 q3089 q3091 qs63 q3092 hm_wrong S hE hM hS hl.1 rfl (wm_wrong E l _ _ _ _ e206) rfl (Nat.le_of_ble_eq_true rfl) ⟨Nat.le_of_ble_eq_true rfl, Nat.le_of_ble_eq_true rfl⟩ ⟨Nat.le_refl 0, Nat.le_refl 0⟩ (fun H locs hM hS => ?_)
        exact m_vretW dX2_wordFactor_209 S hr hk hM hS h
    · have h := g_it c186 h
      exact m_vretW dX2_wordFactor_189 S hr hk hM hS h
  have J97 : ∀ (M : MM) (H : Heap) (locs : List Loc) (ls : Array Slot), mm_wordFactor_J97 M = some M' → gM E M H → va_S (gx_A E) s.heap H locs → lv_has ls 4 [(0, .ref (gx_m E))] → W p l e (gRm 11 0 0) s m args below meth c H locs 0 0 (MQ below (gQ none (gM E M') (gx_A E)) args s 0 0 (gx_A E)) (F0 m 97 ls []) := by
    intro M H locs ls h hM hS hl
    unfold mm_wordFactor_J97 at h
    refine lv_aload_n hx hb dX2_wordFactor_97 rfl (lv_at hl 0 rfl) ?_
    refine mg_word dX2_wordFactor_98 S hE hM ?_
    refine lv_iconst (v := (-1)) hx hb dX2_wordFactor_101 (by decide) ?_
    refine lv_icmp_eq (tgt := 115) hx hb dX2_wordFactor_102 (by decide) (fun c102 => ?_) (fun c102 => ?_)
    · have h := g_it c102 h
      refine lv_aload_n hx hb dX2_wordFactor_115 rfl (lv_at hl 0 rfl) ?_
      refine lv_aload_n hx hb dX2_wordFactor_116 rfl (lv_at hl 0 rfl) ?_
      refine mg_begins dX2_wordFactor_117 S hE hM ?_
      refine lv_aload_n hx hb dX2_wordFactor_120 rfl (lv_at hl 0 rfl) ?_
      refine mg_ends dX2_wordFactor_121 S hE hM ?_
      refine lv_aload_n hx hb dX2_wordFactor_124 rfl (lv_at hl 0 rfl) ?_
      refine mg_begins dX2_wordFactor_125 S hE hM ?_
      refine lv_isub hx hb dX2_wordFactor_128 ?_
      obtain ⟨v129, e129, h⟩ := g_bd h
      refine m_cV (y := yX2_known) (rest := []) dX2_wordFactor_129 q3101 q3103 qs66 q3104 hm_known S hE hM hS hl.1 rfl (wm_known E l _ _ _ _ e129) rfl (Nat.le_of_ble_eq_true rfl) ⟨Nat.le_of_ble_eq_true rfl, Nat.le_of_ble_eq_true rfl⟩ ⟨Nat.le_refl 0, Nat.le_refl 0⟩ (fun H locs hM hS => ?_)
      refine lv_istore_n (lv' := [(2, .int v129), (0, .ref (gx_m E))]) hx hb dX2_wordFactor_132 rfl hl (by decide) rfl (fun ls hl => ?_)
      refine lv_iload_n hx hb dX2_wordFactor_133 rfl (lv_at hl 0 rfl) ?_
      refine lv_iconst (v := (-1)) hx hb dX2_wordFactor_134 (by decide) ?_
      refine lv_icmp_eq (tgt := 158) hx hb dX2_wordFactor_135 (by decide) (fun c135 => ?_) (fun c135 => ?_)
      · have h := g_it c135 h
        exact J158 M _ _ _ h hM hS (lv_sub hl [1] rfl)
      · have h := g_if c135 h
        refine lv_aload_n hx hb dX2_wordFactor_138 rfl (lv_at hl 1 rfl) ?_
        refine ma_nameSort dX2_wordFactor_139 S hE hM ?_
        refine lv_iload_n hx hb dX2_wordFactor_142 rfl (lv_at hl 0 rfl) ?_
        obtain ⟨v143, e143, h⟩ := g_bd h
        refine m_ald 14 dX2_wordFactor_143 (by decide) rfl S hE hM e143 ?_
        refine lv_iconst (v := 3) hx hb dX2_wordFactor_144 (by decide) ?_
        refine lv_icmp_eq (tgt := 158) hx hb dX2_wordFactor_145 (by decide) (fun c145 => ?_) (fun c145 => ?_)
        · have h := g_it c145 h
          exact J158 M _ _ _ h hM hS (lv_sub hl [1] rfl)
        · have h := g_if c145 h
          refine lv_aload_n hx hb dX2_wordFactor_148 rfl (lv_at hl 1 rfl) ?_
          refine lv_iconst (v := 3) hx hb dX2_wordFactor_149 (by decide) ?_
          refine lv_aload_n hx hb dX2_wordFactor_150 rfl (lv_at hl 1 rfl) ?_
          refine mg_begins dX2_wordFactor_151 S hE hM ?_
          obtain ⟨M154, e154, h⟩ := g_bd h
          refine m_cV (y := yX2_wrong) (rest := []) dX2_wordFactor_154 q3089 q3091 qs63 q3092 hm_wrong S hE hM hS hl.1 rfl (wm_wrong E l _ _ _ _ e154) rfl (Nat.le_of_ble_eq_true rfl) ⟨Nat.le_of_ble_eq_true rfl, Nat.le_of_ble_eq_true rfl⟩ ⟨Nat.le_refl 0, Nat.le_refl 0⟩ (fun H locs hM hS => ?_)
          exact m_vretW dX2_wordFactor_157 S hr hk hM hS h
    · have h := g_if c102 h
      refine lv_aload_n hx hb dX2_wordFactor_105 rfl (lv_at hl 0 rfl) ?_
      refine lv_iconst (v := 1) hx hb dX2_wordFactor_106 (by decide) ?_
      refine lv_aload_n hx hb dX2_wordFactor_107 rfl (lv_at hl 0 rfl) ?_
      refine mg_begins dX2_wordFactor_108 S hE hM ?_
      obtain ⟨M111, e111, h⟩ := g_bd h
      refine m_cV (y := yX2_wrong) (rest := []) dX2_wordFactor_111 q3089 q3091 qs63 q3092 hm_wrong S hE hM hS hl.1 rfl (wm_wrong E l _ _ _ _ e111) rfl (Nat.le_of_ble_eq_true rfl) ⟨Nat.le_of_ble_eq_true rfl, Nat.le_of_ble_eq_true rfl⟩ ⟨Nat.le_refl 0, Nat.le_refl 0⟩ (fun H locs hM hS => ?_)
      exact m_vretW dX2_wordFactor_114 S hr hk hM hS h
  have J61 : ∀ (M : MM) (H : Heap) (locs : List Loc) (ls : Array Slot), mm_wordFactor_J61 M = some M' → gM E M H → va_S (gx_A E) s.heap H locs → lv_has ls 4 [(0, .ref (gx_m E))] → W p l e (gRm 11 0 0) s m args below meth c H locs 0 0 (MQ below (gQ none (gM E M') (gx_A E)) args s 0 0 (gx_A E)) (F0 m 61 ls []) := by
    intro M H locs ls h hM hS hl
    unfold mm_wordFactor_J61 at h
    refine lv_aload_n hx hb dX2_wordFactor_61 rfl (lv_at hl 0 rfl) ?_
    refine mg_word dX2_wordFactor_62 S hE hM ?_
    refine lv_bipush (v := 41) hx hb dX2_wordFactor_65 (by decide) ?_
    refine lv_icmp_lt (tgt := 97) hx hb dX2_wordFactor_67 (by decide) (fun c67 => ?_) (fun c67 => ?_)
    · have h := g_it c67 h
      exact J97 M _ _ _ h hM hS (lv_sub hl [0] rfl)
    · have h := g_if c67 h
      refine lv_aload_n hx hb dX2_wordFactor_70 rfl (lv_at hl 0 rfl) ?_
      refine mg_word dX2_wordFactor_71 S hE hM ?_
      refine lv_bipush (v := 44) hx hb dX2_wordFactor_74 (by decide) ?_
      refine lv_icmp_gt (tgt := 97) hx hb dX2_wordFactor_76 (by decide) (fun c76 => ?_) (fun c76 => ?_)
      · have h := g_it c76 h
        exact J97 M _ _ _ h hM hS (lv_sub hl [0] rfl)
      · have h := g_if c76 h
        refine lv_aload_n hx hb dX2_wordFactor_79 rfl (lv_at hl 0 rfl) ?_
        refine lv_iconst (v := 2) hx hb dX2_wordFactor_80 (by decide) ?_
        refine lv_aload_n hx hb dX2_wordFactor_81 rfl (lv_at hl 0 rfl) ?_
        refine mg_word dX2_wordFactor_82 S hE hM ?_
        refine lv_bipush (v := 41) hx hb dX2_wordFactor_85 (by decide) ?_
        refine lv_isub hx hb dX2_wordFactor_87 ?_
        refine lv_iconst (v := 0) hx hb dX2_wordFactor_88 (by decide) ?_
        obtain ⟨M89, e89, h⟩ := g_bd h
        refine m_cV (y := yX2_newCode) (rest := []) dX2_wordFactor_89 q3156 q3158 qs79 q3159 hm_newCode S hE hM hS hl.1 rfl (wm_newCode E l _ _ _ _ _ e89) rfl (Nat.le_of_ble_eq_true rfl) ⟨Nat.le_of_ble_eq_true rfl, Nat.le_of_ble_eq_true rfl⟩ ⟨Nat.le_refl 0, Nat.le_refl 0⟩ (fun H locs hM hS => ?_)
        refine lv_aload_n hx hb dX2_wordFactor_92 rfl (lv_at hl 0 rfl) ?_
        obtain ⟨M93, e93, h⟩ := g_bd h
        refine m_cV (y := yX2_cut) (rest := []) dX2_wordFactor_93 q3057 q3059 qs57 q3060 hm_cut S hE hM hS hl.1 rfl (wm_cut E l _ _ e93) rfl (Nat.le_of_ble_eq_true rfl) ⟨Nat.le_of_ble_eq_true rfl, Nat.le_of_ble_eq_true rfl⟩ ⟨Nat.le_refl 0, Nat.le_refl 0⟩ (fun H locs hM hS => ?_)
        exact m_vretW dX2_wordFactor_96 S hr hk hM hS h
  unfold mm_wordFactor at h
  refine lv_aload_n hx hb dX2_wordFactor_0 rfl (lv_at hl 0 rfl) ?_
  obtain ⟨v1, e1, h⟩ := g_bd h
  refine m_cV (y := yX2_measureOf) (rest := []) dX2_wordFactor_1 q3168 q3170 qs82 q3171 hm_measureOf S hE hM hS hl.1 rfl (wm_measureOf E l _ _ e1) rfl (Nat.le_of_ble_eq_true rfl) ⟨Nat.le_of_ble_eq_true rfl, Nat.le_of_ble_eq_true rfl⟩ ⟨Nat.le_refl 0, Nat.le_refl 0⟩ (fun H locs hM hS => ?_)
  refine lv_istore_n (lv' := [(1, .int v1), (0, .ref (gx_m E))]) hx hb dX2_wordFactor_4 rfl hl (by decide) rfl (fun ls hl => ?_)
  refine lv_iload_n hx hb dX2_wordFactor_5 rfl (lv_at hl 0 rfl) ?_
  refine lv_iconst (v := (-1)) hx hb dX2_wordFactor_6 (by decide) ?_
  refine lv_icmp_eq (tgt := 23) hx hb dX2_wordFactor_7 (by decide) (fun c7 => ?_) (fun c7 => ?_)
  · have h := g_it c7 h
    refine lv_aload_n hx hb dX2_wordFactor_23 rfl (lv_at hl 1 rfl) ?_
    refine mg_word dX2_wordFactor_24 S hE hM ?_
    refine lv_bipush (v := 32) hx hb dX2_wordFactor_27 (by decide) ?_
    refine lv_icmp_lt (tgt := 61) hx hb dX2_wordFactor_29 (by decide) (fun c29 => ?_) (fun c29 => ?_)
    · have h := g_it c29 h
      exact J61 M _ _ _ h hM hS (lv_sub hl [1] rfl)
    · have h := g_if c29 h
      refine lv_aload_n hx hb dX2_wordFactor_32 rfl (lv_at hl 1 rfl) ?_
      refine mg_word dX2_wordFactor_33 S hE hM ?_
      refine lv_bipush (v := 34) hx hb dX2_wordFactor_36 (by decide) ?_
      refine lv_icmp_gt (tgt := 61) hx hb dX2_wordFactor_38 (by decide) (fun c38 => ?_) (fun c38 => ?_)
      · have h := g_it c38 h
        exact J61 M _ _ _ h hM hS (lv_sub hl [1] rfl)
      · have h := g_if c38 h
        refine lv_aload_n hx hb dX2_wordFactor_41 rfl (lv_at hl 1 rfl) ?_
        refine lv_iconst (v := 3) hx hb dX2_wordFactor_42 (by decide) ?_
        refine lv_aload_n hx hb dX2_wordFactor_43 rfl (lv_at hl 1 rfl) ?_
        refine mg_word dX2_wordFactor_44 S hE hM ?_
        refine lv_iadd hx hb dX2_wordFactor_47 ?_
        refine lv_bipush (v := 32) hx hb dX2_wordFactor_48 (by decide) ?_
        refine lv_isub hx hb dX2_wordFactor_50 ?_
        refine lv_iconst (v := 0) hx hb dX2_wordFactor_51 (by decide) ?_
        refine lv_iconst (v := 0) hx hb dX2_wordFactor_52 (by decide) ?_
        obtain ⟨M53, e53, h⟩ := g_bd h
        refine m_cV (y := yX2_newCode) (rest := []) dX2_wordFactor_53 q3156 q3158 qs79 q3159 hm_newCode S hE hM hS hl.1 rfl (wm_newCode E l _ _ _ _ _ e53) rfl (Nat.le_of_ble_eq_true rfl) ⟨Nat.le_of_ble_eq_true rfl, Nat.le_of_ble_eq_true rfl⟩ ⟨Nat.le_refl 0, Nat.le_refl 0⟩ (fun H locs hM hS => ?_)
        refine lv_aload_n hx hb dX2_wordFactor_56 rfl (lv_at hl 1 rfl) ?_
        obtain ⟨M57, e57, h⟩ := g_bd h
        refine m_cV (y := yX2_cut) (rest := []) dX2_wordFactor_57 q3057 q3059 qs57 q3060 hm_cut S hE hM hS hl.1 rfl (wm_cut E l _ _ e57) rfl (Nat.le_of_ble_eq_true rfl) ⟨Nat.le_of_ble_eq_true rfl, Nat.le_of_ble_eq_true rfl⟩ ⟨Nat.le_refl 0, Nat.le_refl 0⟩ (fun H locs hM hS => ?_)
        exact m_vretW dX2_wordFactor_60 S hr hk hM hS h
  · have h := g_if c7 h
    refine lv_aload_n hx hb dX2_wordFactor_10 rfl (lv_at hl 1 rfl) ?_
    refine lv_bipush (v := 6) hx hb dX2_wordFactor_11 (by decide) ?_
    refine lv_iload_n hx hb dX2_wordFactor_13 rfl (lv_at hl 0 rfl) ?_
    refine lv_iconst (v := 0) hx hb dX2_wordFactor_14 (by decide) ?_
    obtain ⟨M15, e15, h⟩ := g_bd h
    refine m_cV (y := yX2_newCode) (rest := []) dX2_wordFactor_15 q3156 q3158 qs79 q3159 hm_newCode S hE hM hS hl.1 rfl (wm_newCode E l _ _ _ _ _ e15) rfl (Nat.le_of_ble_eq_true rfl) ⟨Nat.le_of_ble_eq_true rfl, Nat.le_of_ble_eq_true rfl⟩ ⟨Nat.le_refl 0, Nat.le_refl 0⟩ (fun H locs hM hS => ?_)
    refine lv_aload_n hx hb dX2_wordFactor_18 rfl (lv_at hl 1 rfl) ?_
    obtain ⟨M19, e19, h⟩ := g_bd h
    refine m_cV (y := yX2_cut) (rest := []) dX2_wordFactor_19 q3057 q3059 qs57 q3060 hm_cut S hE hM hS hl.1 rfl (wm_cut E l _ _ e19) rfl (Nat.le_of_ble_eq_true rfl) ⟨Nat.le_of_ble_eq_true rfl, Nat.le_of_ble_eq_true rfl⟩ ⟨Nat.le_refl 0, Nat.le_refl 0⟩ (fun H locs hM hS => ?_)
    exact m_vretW dX2_wordFactor_22 S hr hk hM hS h
theorem hm_sum : yX2_sum.cls = RX2 ∧ yX2_sum.cls ≠ "java/lang/invoke/MethodHandle" ∧ yX2_sum.cls ≠ "java/lang/invoke/VarHandle" ∧ (parseMethodDescriptor yX2_sum.desc).map (fun d => d.parameters.length) = some 0 := by decide +kernel
theorem hm_product : yX2_product.cls = RX2 ∧ yX2_product.cls ≠ "java/lang/invoke/MethodHandle" ∧ yX2_product.cls ≠ "java/lang/invoke/VarHandle" ∧ (parseMethodDescriptor yX2_product.desc).map (fun d => d.parameters.length) = some 0 := by decide +kernel
theorem hm_factor : yX2_factor.cls = RX2 ∧ yX2_factor.cls ≠ "java/lang/invoke/MethodHandle" ∧ yX2_factor.cls ≠ "java/lang/invoke/VarHandle" ∧ (parseMethodDescriptor yX2_factor.desc).map (fun d => d.parameters.length) = some 0 := by decide +kernel
set_option maxHeartbeats 4000000 in
set_option maxRecDepth 100000 in
theorem wm_S22 (E : gX) (l : Launch) : ∀ d : Nat, (∀ (M M' : MM), (mm_S22 d).1 M = some M' → gMet E l yX2_sum cX2_sum 2 none (12 + d) 0 0 (gx_A E) [.ref (gx_m E)] (gM E M) (gM E M') none) ∧ (∀ (M M' : MM), (mm_S22 d).2.1 M = some M' → gMet E l yX2_product cX2_product 2 none (12 + d) 0 0 (gx_A E) [.ref (gx_m E)] (gM E M) (gM E M') none) ∧ (∀ (M M' : MM), (mm_S22 d).2.2 M = some M' → gMet E l yX2_factor cX2_factor 2 none (12 + d) 0 0 (gx_A E) [.ref (gx_m E)] (gM E M) (gM E M') none) := by
  intro d
  induction d with
  | zero =>
    exact ⟨fun _ _ h => (nomatch (show (none : Option MM) = some _ from h)), fun _ _ h => (nomatch (show (none : Option MM) = some _ from h)), fun _ _ h => (nomatch (show (none : Option MM) = some _ from h))⟩
  | succ d ihd =>
    refine ⟨?_, ?_, ?_⟩
    · intro M M' h
      refine gMet.of (own := RX2) (by decide +kernel) (Nat.le_of_ble_eq_true rfl) rfl ?_
      intro p e s m args below meth c S hr hk hnm hE hM hS ls hl
      have hl : lv_has ls 2 [(0, .ref (gx_m E))] := hl
      have hx := S.1
      have hb := S.2.1
      have L4 : ∀ (n : Nat) (M : MM) (H : Heap) (locs : List Loc) (ls : Array Slot), mm_sum_L4 (mm_S22 d) n M = some M' → gM E M H → va_S (gx_A E) s.heap H locs → lv_has ls 2 [(0, .ref (gx_m E))] → W p l e (gRm (12 + (d + 1)) 0 0) s m args below meth c H locs 0 0 (MQ below (gQ none (gM E M') (gx_A E)) args s 0 0 (gx_A E)) (F0 m 4 ls []) := by
        intro n4
        induction n4 with
        | zero =>
          intro M H locs ls h
          cases h
        | succ n4 ih4 =>
          have J45 : ∀ (s0 : Int32) (M : MM) (H : Heap) (locs : List Loc) (ls : Array Slot), mm_sum_J45 (mm_S22 d) (mm_sum_L4 (mm_S22 d) n4) s0 M = some M' → gM E M H → va_S (gx_A E) s.heap H locs → lv_has ls 2 [(0, .ref (gx_m E))] → W p l e (gRm (12 + (d + 1)) 0 0) s m args below meth c H locs 0 0 (MQ below (gQ none (gM E M') (gx_A E)) args s 0 0 (gx_A E)) (F0 m 45 ls [.int s0]) := by
            intro s0 M H locs ls h hM hS hl
            unfold mm_sum_J45 at h
            refine lv_istore_n (lv' := [(1, .int s0), (0, .ref (gx_m E))]) hx hb dX2_sum_45 rfl hl (by decide) rfl (fun ls hl => ?_)
            refine lv_aload_n hx hb dX2_sum_46 rfl (lv_at hl 1 rfl) ?_
            obtain ⟨M47, e47, h⟩ := g_bd h
            refine m_cV (y := yX2_cut) (rest := []) dX2_sum_47 q3057 q3059 qs57 q3060 hm_cut S hE hM hS hl.1 rfl (wm_cut E l _ _ e47) rfl (Nat.le_of_ble_eq_true rfl) ⟨by dsimp only; omega, by dsimp only; omega⟩ ⟨Nat.le_refl 0, Nat.le_refl 0⟩ (fun H locs hM hS => ?_)
            refine lv_aload_n hx hb dX2_sum_50 rfl (lv_at hl 1 rfl) ?_
            obtain ⟨M51, e51, h⟩ := g_bd h
            refine m_cV (y := yX2_product) (rest := []) dX2_sum_51 q3148 q3150 qs77 q3151 hm_product S hE hM hS hl.1 rfl (ihd.2.1 _ _ e51) rfl (Nat.le_of_ble_eq_true rfl) ⟨by dsimp only; omega, by dsimp only; omega⟩ ⟨Nat.le_refl 0, Nat.le_refl 0⟩ (fun H locs hM hS => ?_)
            refine lv_aload_n hx hb dX2_sum_54 rfl (lv_at hl 1 rfl) ?_
            refine lv_iload_n hx hb dX2_sum_55 rfl (lv_at hl 0 rfl) ?_
            refine lv_iconst (v := 0) hx hb dX2_sum_56 (by decide) ?_
            refine lv_iconst (v := 0) hx hb dX2_sum_57 (by decide) ?_
            obtain ⟨M58, e58, h⟩ := g_bd h
            refine m_cV (y := yX2_newCode) (rest := []) dX2_sum_58 q3156 q3158 qs79 q3159 hm_newCode S hE hM hS hl.1 rfl (wm_newCode E l _ _ _ _ _ e58) rfl (Nat.le_of_ble_eq_true rfl) ⟨by dsimp only; omega, by dsimp only; omega⟩ ⟨Nat.le_refl 0, Nat.le_refl 0⟩ (fun H locs hM hS => ?_)
            refine lv_goto (tgt := 4) hx hb dX2_sum_61 (by decide) ?_
            exact ih4 M58 _ _ _ h hM hS (lv_sub hl [1] rfl)
          have J29 : ∀ (M : MM) (H : Heap) (locs : List Loc) (ls : Array Slot), mm_sum_J29 (mm_S22 d) (mm_sum_L4 (mm_S22 d) n4) M = some M' → gM E M H → va_S (gx_A E) s.heap H locs → lv_has ls 2 [(0, .ref (gx_m E))] → W p l e (gRm (12 + (d + 1)) 0 0) s m args below meth c H locs 0 0 (MQ below (gQ none (gM E M') (gx_A E)) args s 0 0 (gx_A E)) (F0 m 29 ls []) := by
            intro M H locs ls h hM hS hl
            unfold mm_sum_J29 at h
            refine lv_aload_n hx hb dX2_sum_29 rfl (lv_at hl 0 rfl) ?_
            refine lv_bipush (v := 43) hx hb dX2_sum_30 (by decide) ?_
            obtain ⟨v32, e32, h⟩ := g_bd h
            refine m_cV (y := yX2_isSign) (rest := []) dX2_sum_32 q3121 q3123 qs71 q3124 hm_isSign S hE hM hS hl.1 rfl (wm_isSign E l _ _ _ e32) rfl (Nat.le_of_ble_eq_true rfl) ⟨by dsimp only; omega, by dsimp only; omega⟩ ⟨Nat.le_refl 0, Nat.le_refl 0⟩ (fun H locs hM hS => ?_)
            refine lv_if_eq (tgt := 43) hx hb dX2_sum_35 (by decide) (fun c35 => ?_) (fun c35 => ?_)
            · have h := g_it c35 h
              refine lv_bipush (v := 10) hx hb dX2_sum_43 (by decide) ?_
              exact J45 10 M _ _ _ h hM hS (lv_sub hl [0] rfl)
            · have h := g_if c35 h
              refine lv_bipush (v := 9) hx hb dX2_sum_38 (by decide) ?_
              refine lv_goto (tgt := 45) hx hb dX2_sum_40 (by decide) ?_
              exact J45 9 M _ _ _ h hM hS (lv_sub hl [0] rfl)
          intro M H locs ls h hM hS hl
          have h : mm_sum_B4 (mm_S22 d) (mm_sum_L4 (mm_S22 d) n4) M = some M' := h
          unfold mm_sum_B4 at h
          refine lv_aload_n hx hb dX2_sum_4 rfl (lv_at hl 0 rfl) ?_
          refine mg_fault dX2_sum_5 S hE hM ?_
          refine lv_if_ne (tgt := 64) hx hb dX2_sum_8 (by decide) (fun c8 => ?_) (fun c8 => ?_)
          · have h := g_if c8 h
            exact m_vretW dX2_sum_64 S hr hk hM hS h
          · have h := g_it c8 h
            refine lv_aload_n hx hb dX2_sum_11 rfl (lv_at hl 0 rfl) ?_
            refine lv_bipush (v := 43) hx hb dX2_sum_12 (by decide) ?_
            obtain ⟨v14, e14, h⟩ := g_bd h
            refine m_cV (y := yX2_isSign) (rest := []) dX2_sum_14 q3121 q3123 qs71 q3124 hm_isSign S hE hM hS hl.1 rfl (wm_isSign E l _ _ _ e14) rfl (Nat.le_of_ble_eq_true rfl) ⟨by dsimp only; omega, by dsimp only; omega⟩ ⟨Nat.le_refl 0, Nat.le_refl 0⟩ (fun H locs hM hS => ?_)
            refine lv_if_ne (tgt := 29) hx hb dX2_sum_17 (by decide) (fun c17 => ?_) (fun c17 => ?_)
            · have h := g_if c17 h
              exact J29 M _ _ _ h hM hS (lv_sub hl [0] rfl)
            · have h := g_it c17 h
              refine lv_aload_n hx hb dX2_sum_20 rfl (lv_at hl 0 rfl) ?_
              refine lv_bipush (v := 45) hx hb dX2_sum_21 (by decide) ?_
              obtain ⟨v23, e23, h⟩ := g_bd h
              refine m_cV (y := yX2_isSign) (rest := []) dX2_sum_23 q3121 q3123 qs71 q3124 hm_isSign S hE hM hS hl.1 rfl (wm_isSign E l _ _ _ e23) rfl (Nat.le_of_ble_eq_true rfl) ⟨by dsimp only; omega, by dsimp only; omega⟩ ⟨Nat.le_refl 0, Nat.le_refl 0⟩ (fun H locs hM hS => ?_)
              refine lv_if_eq (tgt := 64) hx hb dX2_sum_26 (by decide) (fun c26 => ?_) (fun c26 => ?_)
              · have h := g_it c26 h
                exact m_vretW dX2_sum_64 S hr hk hM hS h
              · have h := g_if c26 h
                exact J29 M _ _ _ h hM hS (lv_sub hl [0] rfl)
      have h : mm_sum_B (mm_S22 d) M = some M' := h
      unfold mm_sum_B at h
      refine lv_aload_n hx hb dX2_sum_0 rfl (lv_at hl 0 rfl) ?_
      obtain ⟨M1, e1, h⟩ := g_bd h
      refine m_cV (y := yX2_product) (rest := []) dX2_sum_1 q3148 q3150 qs77 q3151 hm_product S hE hM hS hl.1 rfl (ihd.2.1 _ _ e1) rfl (Nat.le_of_ble_eq_true rfl) ⟨by dsimp only; omega, by dsimp only; omega⟩ ⟨Nat.le_refl 0, Nat.le_refl 0⟩ (fun H locs hM hS => ?_)
      exact L4 gF M1 _ _ _ h hM hS (lv_sub hl [0] rfl)
    · intro M M' h
      refine gMet.of (own := RX2) (by decide +kernel) (Nat.le_of_ble_eq_true rfl) rfl ?_
      intro p e s m args below meth c S hr hk hnm hE hM hS ls hl
      have hl : lv_has ls 2 [(0, .ref (gx_m E))] := hl
      have hx := S.1
      have hb := S.2.1
      have L4 : ∀ (n : Nat) (M : MM) (H : Heap) (locs : List Loc) (ls : Array Slot), mm_product_L4 (mm_S22 d) n M = some M' → gM E M H → va_S (gx_A E) s.heap H locs → lv_has ls 2 [(0, .ref (gx_m E))] → W p l e (gRm (12 + (d + 1)) 0 0) s m args below meth c H locs 0 0 (MQ below (gQ none (gM E M') (gx_A E)) args s 0 0 (gx_A E)) (F0 m 4 ls []) := by
        intro n4
        induction n4 with
        | zero =>
          intro M H locs ls h
          cases h
        | succ n4 ih4 =>
          have J45 : ∀ (s0 : Int32) (M : MM) (H : Heap) (locs : List Loc) (ls : Array Slot), mm_product_J45 (mm_S22 d) (mm_product_L4 (mm_S22 d) n4) s0 M = some M' → gM E M H → va_S (gx_A E) s.heap H locs → lv_has ls 2 [(0, .ref (gx_m E))] → W p l e (gRm (12 + (d + 1)) 0 0) s m args below meth c H locs 0 0 (MQ below (gQ none (gM E M') (gx_A E)) args s 0 0 (gx_A E)) (F0 m 45 ls [.int s0]) := by
            intro s0 M H locs ls h hM hS hl
            unfold mm_product_J45 at h
            refine lv_istore_n (lv' := [(1, .int s0), (0, .ref (gx_m E))]) hx hb dX2_product_45 rfl hl (by decide) rfl (fun ls hl => ?_)
            refine lv_aload_n hx hb dX2_product_46 rfl (lv_at hl 1 rfl) ?_
            obtain ⟨M47, e47, h⟩ := g_bd h
            refine m_cV (y := yX2_cut) (rest := []) dX2_product_47 q3057 q3059 qs57 q3060 hm_cut S hE hM hS hl.1 rfl (wm_cut E l _ _ e47) rfl (Nat.le_of_ble_eq_true rfl) ⟨by dsimp only; omega, by dsimp only; omega⟩ ⟨Nat.le_refl 0, Nat.le_refl 0⟩ (fun H locs hM hS => ?_)
            refine lv_aload_n hx hb dX2_product_50 rfl (lv_at hl 1 rfl) ?_
            obtain ⟨M51, e51, h⟩ := g_bd h
            refine m_cV (y := yX2_factor) (rest := []) dX2_product_51 q3152 q3154 qs78 q3155 hm_factor S hE hM hS hl.1 rfl (ihd.2.2 _ _ e51) rfl (Nat.le_of_ble_eq_true rfl) ⟨by dsimp only; omega, by dsimp only; omega⟩ ⟨Nat.le_refl 0, Nat.le_refl 0⟩ (fun H locs hM hS => ?_)
            refine lv_aload_n hx hb dX2_product_54 rfl (lv_at hl 1 rfl) ?_
            refine lv_iload_n hx hb dX2_product_55 rfl (lv_at hl 0 rfl) ?_
            refine lv_iconst (v := 0) hx hb dX2_product_56 (by decide) ?_
            refine lv_iconst (v := 0) hx hb dX2_product_57 (by decide) ?_
            obtain ⟨M58, e58, h⟩ := g_bd h
            refine m_cV (y := yX2_newCode) (rest := []) dX2_product_58 q3156 q3158 qs79 q3159 hm_newCode S hE hM hS hl.1 rfl (wm_newCode E l _ _ _ _ _ e58) rfl (Nat.le_of_ble_eq_true rfl) ⟨by dsimp only; omega, by dsimp only; omega⟩ ⟨Nat.le_refl 0, Nat.le_refl 0⟩ (fun H locs hM hS => ?_)
            refine lv_goto (tgt := 4) hx hb dX2_product_61 (by decide) ?_
            exact ih4 M58 _ _ _ h hM hS (lv_sub hl [1] rfl)
          have J29 : ∀ (M : MM) (H : Heap) (locs : List Loc) (ls : Array Slot), mm_product_J29 (mm_S22 d) (mm_product_L4 (mm_S22 d) n4) M = some M' → gM E M H → va_S (gx_A E) s.heap H locs → lv_has ls 2 [(0, .ref (gx_m E))] → W p l e (gRm (12 + (d + 1)) 0 0) s m args below meth c H locs 0 0 (MQ below (gQ none (gM E M') (gx_A E)) args s 0 0 (gx_A E)) (F0 m 29 ls []) := by
            intro M H locs ls h hM hS hl
            unfold mm_product_J29 at h
            refine lv_aload_n hx hb dX2_product_29 rfl (lv_at hl 0 rfl) ?_
            refine lv_bipush (v := 42) hx hb dX2_product_30 (by decide) ?_
            obtain ⟨v32, e32, h⟩ := g_bd h
            refine m_cV (y := yX2_isSign) (rest := []) dX2_product_32 q3121 q3123 qs71 q3124 hm_isSign S hE hM hS hl.1 rfl (wm_isSign E l _ _ _ e32) rfl (Nat.le_of_ble_eq_true rfl) ⟨by dsimp only; omega, by dsimp only; omega⟩ ⟨Nat.le_refl 0, Nat.le_refl 0⟩ (fun H locs hM hS => ?_)
            refine lv_if_eq (tgt := 43) hx hb dX2_product_35 (by decide) (fun c35 => ?_) (fun c35 => ?_)
            · have h := g_it c35 h
              refine lv_bipush (v := 12) hx hb dX2_product_43 (by decide) ?_
              exact J45 12 M _ _ _ h hM hS (lv_sub hl [0] rfl)
            · have h := g_if c35 h
              refine lv_bipush (v := 11) hx hb dX2_product_38 (by decide) ?_
              refine lv_goto (tgt := 45) hx hb dX2_product_40 (by decide) ?_
              exact J45 11 M _ _ _ h hM hS (lv_sub hl [0] rfl)
          intro M H locs ls h hM hS hl
          have h : mm_product_B4 (mm_S22 d) (mm_product_L4 (mm_S22 d) n4) M = some M' := h
          unfold mm_product_B4 at h
          refine lv_aload_n hx hb dX2_product_4 rfl (lv_at hl 0 rfl) ?_
          refine mg_fault dX2_product_5 S hE hM ?_
          refine lv_if_ne (tgt := 64) hx hb dX2_product_8 (by decide) (fun c8 => ?_) (fun c8 => ?_)
          · have h := g_if c8 h
            exact m_vretW dX2_product_64 S hr hk hM hS h
          · have h := g_it c8 h
            refine lv_aload_n hx hb dX2_product_11 rfl (lv_at hl 0 rfl) ?_
            refine lv_bipush (v := 42) hx hb dX2_product_12 (by decide) ?_
            obtain ⟨v14, e14, h⟩ := g_bd h
            refine m_cV (y := yX2_isSign) (rest := []) dX2_product_14 q3121 q3123 qs71 q3124 hm_isSign S hE hM hS hl.1 rfl (wm_isSign E l _ _ _ e14) rfl (Nat.le_of_ble_eq_true rfl) ⟨by dsimp only; omega, by dsimp only; omega⟩ ⟨Nat.le_refl 0, Nat.le_refl 0⟩ (fun H locs hM hS => ?_)
            refine lv_if_ne (tgt := 29) hx hb dX2_product_17 (by decide) (fun c17 => ?_) (fun c17 => ?_)
            · have h := g_if c17 h
              exact J29 M _ _ _ h hM hS (lv_sub hl [0] rfl)
            · have h := g_it c17 h
              refine lv_aload_n hx hb dX2_product_20 rfl (lv_at hl 0 rfl) ?_
              refine lv_bipush (v := 47) hx hb dX2_product_21 (by decide) ?_
              obtain ⟨v23, e23, h⟩ := g_bd h
              refine m_cV (y := yX2_isSign) (rest := []) dX2_product_23 q3121 q3123 qs71 q3124 hm_isSign S hE hM hS hl.1 rfl (wm_isSign E l _ _ _ e23) rfl (Nat.le_of_ble_eq_true rfl) ⟨by dsimp only; omega, by dsimp only; omega⟩ ⟨Nat.le_refl 0, Nat.le_refl 0⟩ (fun H locs hM hS => ?_)
              refine lv_if_eq (tgt := 64) hx hb dX2_product_26 (by decide) (fun c26 => ?_) (fun c26 => ?_)
              · have h := g_it c26 h
                exact m_vretW dX2_product_64 S hr hk hM hS h
              · have h := g_if c26 h
                exact J29 M _ _ _ h hM hS (lv_sub hl [0] rfl)
      have h : mm_product_B (mm_S22 d) M = some M' := h
      unfold mm_product_B at h
      refine lv_aload_n hx hb dX2_product_0 rfl (lv_at hl 0 rfl) ?_
      obtain ⟨M1, e1, h⟩ := g_bd h
      refine m_cV (y := yX2_factor) (rest := []) dX2_product_1 q3152 q3154 qs78 q3155 hm_factor S hE hM hS hl.1 rfl (ihd.2.2 _ _ e1) rfl (Nat.le_of_ble_eq_true rfl) ⟨by dsimp only; omega, by dsimp only; omega⟩ ⟨Nat.le_refl 0, Nat.le_refl 0⟩ (fun H locs hM hS => ?_)
      exact L4 gF M1 _ _ _ h hM hS (lv_sub hl [0] rfl)
    · intro M M' h
      refine gMet.of (own := RX2) (by decide +kernel) (Nat.le_of_ble_eq_true rfl) rfl ?_
      intro p e s m args below meth c S hr hk hnm hE hM hS ls hl
      have hl : lv_has ls 2 [(0, .ref (gx_m E))] := hl
      have hx := S.1
      have hb := S.2.1
      have J95 : ∀ (M : MM) (H : Heap) (locs : List Loc) (ls : Array Slot), mm_factor_J95 (mm_S22 d) M = some M' → gM E M H → va_S (gx_A E) s.heap H locs → lv_has ls 2 [(0, .ref (gx_m E))] → W p l e (gRm (12 + (d + 1)) 0 0) s m args below meth c H locs 0 0 (MQ below (gQ none (gM E M') (gx_A E)) args s 0 0 (gx_A E)) (F0 m 95 ls []) := by
        intro M H locs ls h hM hS hl
        unfold mm_factor_J95 at h
        refine lv_aload_n hx hb dX2_factor_95 rfl (lv_at hl 0 rfl) ?_
        refine lv_dup hx hb dX2_factor_96 rfl ?_
        refine mg_nested dX2_factor_97 S hE hM ?_
        refine lv_iconst (v := 1) hx hb dX2_factor_100 (by decide) ?_
        refine lv_isub hx hb dX2_factor_101 ?_
        obtain ⟨M102, e102, h⟩ := g_bd h
        refine mp_nested dX2_factor_102 S hE hM hS e102 (fun H locs hM hS => ?_)
        exact m_vretW dX2_factor_105 S hr hk hM hS h
      have J18 : ∀ (M : MM) (H : Heap) (locs : List Loc) (ls : Array Slot), mm_factor_J18 (mm_S22 d) M = some M' → gM E M H → va_S (gx_A E) s.heap H locs → lv_has ls 2 [(0, .ref (gx_m E))] → W p l e (gRm (12 + (d + 1)) 0 0) s m args below meth c H locs 0 0 (MQ below (gQ none (gM E M') (gx_A E)) args s 0 0 (gx_A E)) (F0 m 18 ls []) := by
        intro M H locs ls h hM hS hl
        unfold mm_factor_J18 at h
        refine lv_aload_n hx hb dX2_factor_18 rfl (lv_at hl 0 rfl) ?_
        refine mg_nested dX2_factor_19 S hE hM ?_
        refine lv_bipush (v := 12) hx hb dX2_factor_22 (by decide) ?_
        refine lv_icmp_ne (tgt := 37) hx hb dX2_factor_24 (by decide) (fun c24 => ?_) (fun c24 => ?_)
        · have h := g_if c24 h
          refine lv_aload_n hx hb dX2_factor_37 rfl (lv_at hl 0 rfl) ?_
          refine lv_bipush (v := 45) hx hb dX2_factor_38 (by decide) ?_
          obtain ⟨v40, e40, h⟩ := g_bd h
          refine m_cV (y := yX2_isSign) (rest := []) dX2_factor_40 q3121 q3123 qs71 q3124 hm_isSign S hE hM hS hl.1 rfl (wm_isSign E l _ _ _ e40) rfl (Nat.le_of_ble_eq_true rfl) ⟨by dsimp only; omega, by dsimp only; omega⟩ ⟨Nat.le_refl 0, Nat.le_refl 0⟩ (fun H locs hM hS => ?_)
          refine lv_istore_n (lv' := [(1, .int v40), (0, .ref (gx_m E))]) hx hb dX2_factor_43 rfl hl (by decide) rfl (fun ls hl => ?_)
          refine lv_aload_n hx hb dX2_factor_44 rfl (lv_at hl 1 rfl) ?_
          refine lv_dup hx hb dX2_factor_45 rfl ?_
          refine mg_nested dX2_factor_46 S hE hM ?_
          refine lv_iconst (v := 1) hx hb dX2_factor_49 (by decide) ?_
          refine lv_iadd hx hb dX2_factor_50 ?_
          obtain ⟨M51, e51, h⟩ := g_bd h
          refine mp_nested dX2_factor_51 S hE hM hS e51 (fun H locs hM hS => ?_)
          refine lv_aload_n hx hb dX2_factor_54 rfl (lv_at hl 1 rfl) ?_
          obtain ⟨M55, e55, h⟩ := g_bd h
          refine m_cV (y := yX2_cut) (rest := []) dX2_factor_55 q3057 q3059 qs57 q3060 hm_cut S hE hM hS hl.1 rfl (wm_cut E l _ _ e55) rfl (Nat.le_of_ble_eq_true rfl) ⟨by dsimp only; omega, by dsimp only; omega⟩ ⟨Nat.le_refl 0, Nat.le_refl 0⟩ (fun H locs hM hS => ?_)
          refine lv_iload_n hx hb dX2_factor_58 rfl (lv_at hl 0 rfl) ?_
          refine lv_if_eq (tgt := 77) hx hb dX2_factor_59 (by decide) (fun c59 => ?_) (fun c59 => ?_)
          · have h := g_it c59 h
            refine lv_aload_n hx hb dX2_factor_77 rfl (lv_at hl 1 rfl) ?_
            obtain ⟨M78, e78, h⟩ := g_bd h
            refine m_cV (y := yX2_sum) (rest := []) dX2_factor_78 q3144 q3146 qs76 q3147 hm_sum S hE hM hS hl.1 rfl (ihd.1 _ _ e78) rfl (Nat.le_of_ble_eq_true rfl) ⟨by dsimp only; omega, by dsimp only; omega⟩ ⟨Nat.le_refl 0, Nat.le_refl 0⟩ (fun H locs hM hS => ?_)
            refine lv_aload_n hx hb dX2_factor_81 rfl (lv_at hl 1 rfl) ?_
            refine mg_fault dX2_factor_82 S hE hM ?_
            refine lv_if_ne (tgt := 95) hx hb dX2_factor_85 (by decide) (fun c85 => ?_) (fun c85 => ?_)
            · have h := g_if c85 h
              exact J95 M78 _ _ _ h hM hS (lv_sub hl [1] rfl)
            · have h := g_it c85 h
              refine lv_aload_n hx hb dX2_factor_88 rfl (lv_at hl 1 rfl) ?_
              refine lv_bipush (v := 41) hx hb dX2_factor_89 (by decide) ?_
              obtain ⟨q91, e91, h⟩ := g_bd h
              refine m_cV (y := yX2_need) (rest := []) dX2_factor_91 q3160 q3162 qs80 q3163 hm_need S hE hM hS hl.1 rfl (wm_need E l _ _ _ _ e91) rfl (Nat.le_of_ble_eq_true rfl) ⟨by dsimp only; omega, by dsimp only; omega⟩ ⟨Nat.le_refl 0, Nat.le_refl 0⟩ (fun H locs hM hS => ?_)
              refine lv_pop hx hb dX2_factor_94 rfl ?_
              exact J95 q91.2 _ _ _ h hM hS (lv_sub hl [1] rfl)
          · have h := g_if c59 h
            refine lv_aload_n hx hb dX2_factor_62 rfl (lv_at hl 1 rfl) ?_
            obtain ⟨M63, e63, h⟩ := g_bd h
            refine m_cV (y := yX2_factor) (rest := []) dX2_factor_63 q3152 q3154 qs78 q3155 hm_factor S hE hM hS hl.1 rfl (ihd.2.2 _ _ e63) rfl (Nat.le_of_ble_eq_true rfl) ⟨by dsimp only; omega, by dsimp only; omega⟩ ⟨Nat.le_refl 0, Nat.le_refl 0⟩ (fun H locs hM hS => ?_)
            refine lv_aload_n hx hb dX2_factor_66 rfl (lv_at hl 1 rfl) ?_
            refine lv_bipush (v := 8) hx hb dX2_factor_67 (by decide) ?_
            refine lv_iconst (v := 0) hx hb dX2_factor_69 (by decide) ?_
            refine lv_iconst (v := 0) hx hb dX2_factor_70 (by decide) ?_
            obtain ⟨M71, e71, h⟩ := g_bd h
            refine m_cV (y := yX2_newCode) (rest := []) dX2_factor_71 q3156 q3158 qs79 q3159 hm_newCode S hE hM hS hl.1 rfl (wm_newCode E l _ _ _ _ _ e71) rfl (Nat.le_of_ble_eq_true rfl) ⟨by dsimp only; omega, by dsimp only; omega⟩ ⟨Nat.le_refl 0, Nat.le_refl 0⟩ (fun H locs hM hS => ?_)
            refine lv_goto (tgt := 95) hx hb dX2_factor_74 (by decide) ?_
            exact J95 M71 _ _ _ h hM hS (lv_sub hl [1] rfl)
        · have h := g_it c24 h
          refine lv_aload_n hx hb dX2_factor_27 rfl (lv_at hl 0 rfl) ?_
          refine lv_iconst (v := 4) hx hb dX2_factor_28 (by decide) ?_
          refine lv_aload_n hx hb dX2_factor_29 rfl (lv_at hl 0 rfl) ?_
          refine mg_begins dX2_factor_30 S hE hM ?_
          obtain ⟨M33, e33, h⟩ := g_bd h
          refine m_cV (y := yX2_wrong) (rest := []) dX2_factor_33 q3089 q3091 qs63 q3092 hm_wrong S hE hM hS hl.1 rfl (wm_wrong E l _ _ _ _ e33) rfl (Nat.le_of_ble_eq_true rfl) ⟨by dsimp only; omega, by dsimp only; omega⟩ ⟨Nat.le_refl 0, Nat.le_refl 0⟩ (fun H locs hM hS => ?_)
          exact m_vretW dX2_factor_36 S hr hk hM hS h
      have h : mm_factor_B (mm_S22 d) M = some M' := h
      unfold mm_factor_B at h
      refine lv_aload_n hx hb dX2_factor_0 rfl (lv_at hl 0 rfl) ?_
      refine lv_bipush (v := 45) hx hb dX2_factor_1 (by decide) ?_
      obtain ⟨v3, e3, h⟩ := g_bd h
      refine m_cV (y := yX2_isSign) (rest := []) dX2_factor_3 q3121 q3123 qs71 q3124 hm_isSign S hE hM hS hl.1 rfl (wm_isSign E l _ _ _ e3) rfl (Nat.le_of_ble_eq_true rfl) ⟨by dsimp only; omega, by dsimp only; omega⟩ ⟨Nat.le_refl 0, Nat.le_refl 0⟩ (fun H locs hM hS => ?_)
      refine lv_if_ne (tgt := 18) hx hb dX2_factor_6 (by decide) (fun c6 => ?_) (fun c6 => ?_)
      · have h := g_if c6 h
        exact J18 M _ _ _ h hM hS (lv_sub hl [0] rfl)
      · have h := g_it c6 h
        refine lv_aload_n hx hb dX2_factor_9 rfl (lv_at hl 0 rfl) ?_
        refine lv_bipush (v := 40) hx hb dX2_factor_10 (by decide) ?_
        obtain ⟨v12, e12, h⟩ := g_bd h
        refine m_cV (y := yX2_isSign) (rest := []) dX2_factor_12 q3121 q3123 qs71 q3124 hm_isSign S hE hM hS hl.1 rfl (wm_isSign E l _ _ _ e12) rfl (Nat.le_of_ble_eq_true rfl) ⟨by dsimp only; omega, by dsimp only; omega⟩ ⟨Nat.le_refl 0, Nat.le_refl 0⟩ (fun H locs hM hS => ?_)
        refine lv_if_eq (tgt := 106) hx hb dX2_factor_15 (by decide) (fun c15 => ?_) (fun c15 => ?_)
        · have h := g_it c15 h
          refine lv_aload_n hx hb dX2_factor_106 rfl (lv_at hl 0 rfl) ?_
          refine mg_token dX2_factor_107 S hE hM ?_
          refine lv_iconst (v := 2) hx hb dX2_factor_110 (by decide) ?_
          refine lv_icmp_ne (tgt := 131) hx hb dX2_factor_111 (by decide) (fun c111 => ?_) (fun c111 => ?_)
          · have h := g_if c111 h
            refine lv_aload_n hx hb dX2_factor_131 rfl (lv_at hl 0 rfl) ?_
            refine mg_token dX2_factor_132 S hE hM ?_
            refine lv_iconst (v := 1) hx hb dX2_factor_135 (by decide) ?_
            refine lv_icmp_ne (tgt := 146) hx hb dX2_factor_136 (by decide) (fun c136 => ?_) (fun c136 => ?_)
            · have h := g_if c136 h
              refine lv_aload_n hx hb dX2_factor_146 rfl (lv_at hl 0 rfl) ?_
              refine lv_iconst (v := 1) hx hb dX2_factor_147 (by decide) ?_
              refine lv_aload_n hx hb dX2_factor_148 rfl (lv_at hl 0 rfl) ?_
              refine mg_begins dX2_factor_149 S hE hM ?_
              obtain ⟨M152, e152, h⟩ := g_bd h
              refine m_cV (y := yX2_wrong) (rest := []) dX2_factor_152 q3089 q3091 qs63 q3092 hm_wrong S hE hM hS hl.1 rfl (wm_wrong E l _ _ _ _ e152) rfl (Nat.le_of_ble_eq_true rfl) ⟨by dsimp only; omega, by dsimp only; omega⟩ ⟨Nat.le_refl 0, Nat.le_refl 0⟩ (fun H locs hM hS => ?_)
              exact m_vretW dX2_factor_155 S hr hk hM hS h
            · have h := g_it c136 h
              refine lv_aload_n hx hb dX2_factor_139 rfl (lv_at hl 0 rfl) ?_
              obtain ⟨M140, e140, h⟩ := g_bd h
              refine m_cV (y := yX2_wordFactor) (rest := []) dX2_factor_140 q3164 q3166 qs81 q3167 hm_wordFactor S hE hM hS hl.1 rfl (wm_wordFactor E l _ _ e140) rfl (Nat.le_of_ble_eq_true rfl) ⟨by dsimp only; omega, by dsimp only; omega⟩ ⟨Nat.le_refl 0, Nat.le_refl 0⟩ (fun H locs hM hS => ?_)
              refine lv_goto (tgt := 155) hx hb dX2_factor_143 (by decide) ?_
              exact m_vretW dX2_factor_155 S hr hk hM hS h
          · have h := g_it c111 h
            refine lv_aload_n hx hb dX2_factor_114 rfl (lv_at hl 0 rfl) ?_
            refine lv_iconst (v := 1) hx hb dX2_factor_115 (by decide) ?_
            refine lv_aload_n hx hb dX2_factor_116 rfl (lv_at hl 0 rfl) ?_
            refine mg_number dX2_factor_117 S hE hM ?_
            refine lv_iconst (v := 0) hx hb dX2_factor_120 (by decide) ?_
            obtain ⟨M121, e121, h⟩ := g_bd h
            refine m_cV (y := yX2_newCode) (rest := []) dX2_factor_121 q3156 q3158 qs79 q3159 hm_newCode S hE hM hS hl.1 rfl (wm_newCode E l _ _ _ _ _ e121) rfl (Nat.le_of_ble_eq_true rfl) ⟨by dsimp only; omega, by dsimp only; omega⟩ ⟨Nat.le_refl 0, Nat.le_refl 0⟩ (fun H locs hM hS => ?_)
            refine lv_aload_n hx hb dX2_factor_124 rfl (lv_at hl 0 rfl) ?_
            obtain ⟨M125, e125, h⟩ := g_bd h
            refine m_cV (y := yX2_cut) (rest := []) dX2_factor_125 q3057 q3059 qs57 q3060 hm_cut S hE hM hS hl.1 rfl (wm_cut E l _ _ e125) rfl (Nat.le_of_ble_eq_true rfl) ⟨by dsimp only; omega, by dsimp only; omega⟩ ⟨Nat.le_refl 0, Nat.le_refl 0⟩ (fun H locs hM hS => ?_)
            refine lv_goto (tgt := 155) hx hb dX2_factor_128 (by decide) ?_
            exact m_vretW dX2_factor_155 S hr hk hM hS h
        · have h := g_if c15 h
          exact J18 M _ _ _ h hM hS (lv_sub hl [0] rfl)
theorem wm_sum (E : gX) (l : Launch) (d : Nat) (M M' : MM) (h : mm_sum d M = some M') : gMet E l yX2_sum cX2_sum 2 none (12 + d) 0 0 (gx_A E) [.ref (gx_m E)] (gM E M) (gM E M') none := (wm_S22 E l d).1 M M' h
theorem wm_product (E : gX) (l : Launch) (d : Nat) (M M' : MM) (h : mm_product d M = some M') : gMet E l yX2_product cX2_product 2 none (12 + d) 0 0 (gx_A E) [.ref (gx_m E)] (gM E M) (gM E M') none := (wm_S22 E l d).2.1 M M' h
theorem wm_factor (E : gX) (l : Launch) (d : Nat) (M M' : MM) (h : mm_factor d M = some M') : gMet E l yX2_factor cX2_factor 2 none (12 + d) 0 0 (gx_A E) [.ref (gx_m E)] (gM E M) (gM E M') none := (wm_S22 E l d).2.2 M M' h
theorem hm_expression : yX2_expression.cls = RX2 ∧ yX2_expression.cls ≠ "java/lang/invoke/MethodHandle" ∧ yX2_expression.cls ≠ "java/lang/invoke/VarHandle" ∧ (parseMethodDescriptor yX2_expression.desc).map (fun d => d.parameters.length) = some 0 := by decide +kernel
set_option maxHeartbeats 4000000 in
set_option maxRecDepth 100000 in
theorem wm_expression (E : gX) (l : Launch) (r : Int32) (M M' : MM) (h : mm_expression M = some (r, M')) : gMet E l yX2_expression cX2_expression 2 (some .int) 73 0 0 (gx_A E) [.ref (gx_m E)] (gM E M) (gM E M') (some (.int r)) := by
  refine gMet.of (own := RX2) (by decide +kernel) (Nat.le_of_ble_eq_true rfl) rfl ?_
  intro p e s m args below meth c S hr hk hnm hE hM hS ls hl
  have hl : lv_has ls 2 [(0, .ref (gx_m E))] := hl
  have hx := S.1
  have hb := S.2.1
  unfold mm_expression at h
  refine lv_aload_n hx hb dX2_expression_0 rfl (lv_at hl 0 rfl) ?_
  refine mg_codes dX2_expression_1 S hE hM ?_
  refine lv_istore_n (lv' := [(1, .int (M 45 0)), (0, .ref (gx_m E))]) hx hb dX2_expression_4 rfl hl (by decide) rfl (fun ls hl => ?_)
  refine lv_aload_n hx hb dX2_expression_5 rfl (lv_at hl 1 rfl) ?_
  refine lv_iconst (v := 0) hx hb dX2_expression_6 (by decide) ?_
  obtain ⟨M7, e7, h⟩ := g_bd h
  refine mp_nested dX2_expression_7 S hE hM hS e7 (fun H locs hM hS => ?_)
  refine lv_aload_n hx hb dX2_expression_10 rfl (lv_at hl 1 rfl) ?_
  obtain ⟨M11, e11, h⟩ := g_bd h
  refine m_cV (y := yX2_sum) (rest := []) dX2_expression_11 q3144 q3146 qs76 q3147 hm_sum S hE hM hS hl.1 rfl (wm_sum E l 60 _ _ e11) rfl (Nat.le_of_ble_eq_true rfl) ⟨Nat.le_of_ble_eq_true rfl, Nat.le_of_ble_eq_true rfl⟩ ⟨Nat.le_refl 0, Nat.le_refl 0⟩ (fun H locs hM hS => ?_)
  refine lv_aload_n hx hb dX2_expression_14 rfl (lv_at hl 1 rfl) ?_
  refine lv_iconst (v := 0) hx hb dX2_expression_15 (by decide) ?_
  refine lv_iconst (v := 0) hx hb dX2_expression_16 (by decide) ?_
  refine lv_iconst (v := 0) hx hb dX2_expression_17 (by decide) ?_
  obtain ⟨M18, e18, h⟩ := g_bd h
  refine m_cV (y := yX2_newCode) (rest := []) dX2_expression_18 q3156 q3158 qs79 q3159 hm_newCode S hE hM hS hl.1 rfl (wm_newCode E l _ _ _ _ _ e18) rfl (Nat.le_of_ble_eq_true rfl) ⟨Nat.le_of_ble_eq_true rfl, Nat.le_of_ble_eq_true rfl⟩ ⟨Nat.le_refl 0, Nat.le_refl 0⟩ (fun H locs hM hS => ?_)
  refine lv_iload_n hx hb dX2_expression_21 rfl (lv_at hl 0 rfl) ?_
  exact m_iretW dX2_expression_22 S hr hk hM hS h
theorem hm_newOp : yX2_newOp.cls = RX2 ∧ yX2_newOp.cls ≠ "java/lang/invoke/MethodHandle" ∧ yX2_newOp.cls ≠ "java/lang/invoke/VarHandle" ∧ (parseMethodDescriptor yX2_newOp.desc).map (fun d => d.parameters.length) = some 6 := by decide +kernel
set_option maxHeartbeats 4000000 in
set_option maxRecDepth 100000 in
theorem wm_newOp (E : gX) (l : Launch) (x1 x2 x3 x4 x5 x6 : Int32) (r : Int32) (M M' : MM) (h : mm_newOp x1 x2 x3 x4 x5 x6 M = some (r, M')) : gMet E l yX2_newOp cX2_newOp 7 (some .int) 1 0 0 (gx_A E) [.ref (gx_m E), .int x1, .int x2, .int x3, .int x4, .int x5, .int x6] (gM E M) (gM E M') (some (.int r)) := by
  refine gMet.of (own := RX2) (by decide +kernel) (Nat.le_of_ble_eq_true rfl) rfl ?_
  intro p e s m args below meth c S hr hk hnm hE hM hS ls hl
  have hl : lv_has ls 7 [(0, .ref (gx_m E)), (1, .int x1), (2, .int x2), (3, .int x3), (4, .int x4), (5, .int x5), (6, .int x6)] := hl
  have hx := S.1
  have hb := S.2.1
  unfold mm_newOp at h
  refine lv_aload_n hx hb dX2_newOp_0 rfl (lv_at hl 0 rfl) ?_
  refine ma_op dX2_newOp_1 S hE hM ?_
  refine lv_aload_n hx hb dX2_newOp_4 rfl (lv_at hl 0 rfl) ?_
  refine mg_ops dX2_newOp_5 S hE hM ?_
  refine lv_iload_n hx hb dX2_newOp_8 rfl (lv_at hl 1 rfl) ?_
  obtain ⟨M9, e9, h⟩ := g_bd h
  refine m_ast 35 dX2_newOp_9 (by decide) rfl S hE hM hS e9 (fun H locs hM hS => ?_)
  refine lv_aload_n hx hb dX2_newOp_10 rfl (lv_at hl 0 rfl) ?_
  refine ma_opAt dX2_newOp_11 S hE hM ?_
  refine lv_aload_n hx hb dX2_newOp_14 rfl (lv_at hl 0 rfl) ?_
  refine mg_ops dX2_newOp_15 S hE hM ?_
  refine lv_iload_n hx hb dX2_newOp_18 rfl (lv_at hl 2 rfl) ?_
  obtain ⟨M19, e19, h⟩ := g_bd h
  refine m_ast 36 dX2_newOp_19 (by decide) rfl S hE hM hS e19 (fun H locs hM hS => ?_)
  refine lv_aload_n hx hb dX2_newOp_20 rfl (lv_at hl 0 rfl) ?_
  refine ma_opA dX2_newOp_21 S hE hM ?_
  refine lv_aload_n hx hb dX2_newOp_24 rfl (lv_at hl 0 rfl) ?_
  refine mg_ops dX2_newOp_25 S hE hM ?_
  refine lv_iload_n hx hb dX2_newOp_28 rfl (lv_at hl 3 rfl) ?_
  obtain ⟨M29, e29, h⟩ := g_bd h
  refine m_ast 37 dX2_newOp_29 (by decide) rfl S hE hM hS e29 (fun H locs hM hS => ?_)
  refine lv_aload_n hx hb dX2_newOp_30 rfl (lv_at hl 0 rfl) ?_
  refine ma_opB dX2_newOp_31 S hE hM ?_
  refine lv_aload_n hx hb dX2_newOp_34 rfl (lv_at hl 0 rfl) ?_
  refine mg_ops dX2_newOp_35 S hE hM ?_
  refine lv_iload hx hb dX2_newOp_38 (lv_at hl 4 rfl) ?_
  obtain ⟨M40, e40, h⟩ := g_bd h
  refine m_ast 38 dX2_newOp_40 (by decide) rfl S hE hM hS e40 (fun H locs hM hS => ?_)
  refine lv_aload_n hx hb dX2_newOp_41 rfl (lv_at hl 0 rfl) ?_
  refine ma_opC dX2_newOp_42 S hE hM ?_
  refine lv_aload_n hx hb dX2_newOp_45 rfl (lv_at hl 0 rfl) ?_
  refine mg_ops dX2_newOp_46 S hE hM ?_
  refine lv_iload hx hb dX2_newOp_49 (lv_at hl 5 rfl) ?_
  obtain ⟨M51, e51, h⟩ := g_bd h
  refine m_ast 39 dX2_newOp_51 (by decide) rfl S hE hM hS e51 (fun H locs hM hS => ?_)
  refine lv_aload_n hx hb dX2_newOp_52 rfl (lv_at hl 0 rfl) ?_
  refine ma_opGuard dX2_newOp_53 S hE hM ?_
  refine lv_aload_n hx hb dX2_newOp_56 rfl (lv_at hl 0 rfl) ?_
  refine mg_ops dX2_newOp_57 S hE hM ?_
  refine lv_iload hx hb dX2_newOp_60 (lv_at hl 6 rfl) ?_
  obtain ⟨M62, e62, h⟩ := g_bd h
  refine m_ast 40 dX2_newOp_62 (by decide) rfl S hE hM hS e62 (fun H locs hM hS => ?_)
  refine lv_aload_n hx hb dX2_newOp_63 rfl (lv_at hl 0 rfl) ?_
  refine lv_dup hx hb dX2_newOp_64 rfl ?_
  refine mg_ops dX2_newOp_65 S hE hM ?_
  refine lv_iconst (v := 1) hx hb dX2_newOp_68 (by decide) ?_
  refine lv_iadd hx hb dX2_newOp_69 ?_
  obtain ⟨M70, e70, h⟩ := g_bd h
  refine mp_ops dX2_newOp_70 S hE hM hS e70 (fun H locs hM hS => ?_)
  refine lv_aload_n hx hb dX2_newOp_73 rfl (lv_at hl 0 rfl) ?_
  refine mg_ops dX2_newOp_74 S hE hM ?_
  refine lv_iconst (v := 1) hx hb dX2_newOp_77 (by decide) ?_
  refine lv_isub hx hb dX2_newOp_78 ?_
  exact m_iretW dX2_newOp_79 S hr hk hM hS h
theorem hm_isWord : yX2_isWord.cls = RX2 ∧ yX2_isWord.cls ≠ "java/lang/invoke/MethodHandle" ∧ yX2_isWord.cls ≠ "java/lang/invoke/VarHandle" ∧ (parseMethodDescriptor yX2_isWord.desc).map (fun d => d.parameters.length) = some 1 := by decide +kernel
set_option maxHeartbeats 4000000 in
set_option maxRecDepth 100000 in
theorem wm_isWord (E : gX) (l : Launch) (x1 : Int32) (r : Int32) (M : MM) (h : mm_isWord x1 M = some r) : gMet E l yX2_isWord cX2_isWord 2 (some .boolean) 1 0 0 (gx_A E) [.ref (gx_m E), .int x1] (gM E M) (gM E M) (some (.int r)) := by
  refine gMet.of (own := RX2) (by decide +kernel) (Nat.le_of_ble_eq_true rfl) rfl ?_
  intro p e s m args below meth c S hr hk hnm hE hM hS ls hl
  have hl : lv_has ls 2 [(0, .ref (gx_m E)), (1, .int x1)] := hl
  have hx := S.1
  have hb := S.2.1
  unfold mm_isWord at h
  refine lv_aload_n hx hb dX2_isWord_0 rfl (lv_at hl 0 rfl) ?_
  refine mg_token dX2_isWord_1 S hE hM ?_
  refine lv_iconst (v := 1) hx hb dX2_isWord_4 (by decide) ?_
  refine lv_icmp_ne (tgt := 20) hx hb dX2_isWord_5 (by decide) (fun c5 => ?_) (fun c5 => ?_)
  · have h := g_if c5 h
    refine lv_iconst (v := 0) hx hb dX2_isWord_20 (by decide) ?_
    exact m_zretR dX2_isWord_21 S hr hk hM hS h
  · have h := g_it c5 h
    refine lv_aload_n hx hb dX2_isWord_8 rfl (lv_at hl 0 rfl) ?_
    refine mg_word dX2_isWord_9 S hE hM ?_
    refine lv_iload_n hx hb dX2_isWord_12 rfl (lv_at hl 1 rfl) ?_
    refine lv_icmp_ne (tgt := 20) hx hb dX2_isWord_13 (by decide) (fun c13 => ?_) (fun c13 => ?_)
    · have h := g_if c13 h
      refine lv_iconst (v := 0) hx hb dX2_isWord_20 (by decide) ?_
      exact m_zretR dX2_isWord_21 S hr hk hM hS h
    · have h := g_it c13 h
      refine lv_iconst (v := 1) hx hb dX2_isWord_16 (by decide) ?_
      refine lv_goto (tgt := 21) hx hb dX2_isWord_17 (by decide) ?_
      exact m_zretR dX2_isWord_21 S hr hk hM hS h
theorem hm_question : yX2_question.cls = RX2 ∧ yX2_question.cls ≠ "java/lang/invoke/MethodHandle" ∧ yX2_question.cls ≠ "java/lang/invoke/VarHandle" ∧ (parseMethodDescriptor yX2_question.desc).map (fun d => d.parameters.length) = some 0 := by decide +kernel
set_option maxHeartbeats 4000000 in
set_option maxRecDepth 100000 in
theorem wm_question (E : gX) (l : Launch) (M M' : MM) (h : mm_question M = some M') : gMet E l yX2_question cX2_question 6 none 74 0 0 (gx_A E) [.ref (gx_m E)] (gM E M) (gM E M') none := by
  refine gMet.of (own := RX2) (by decide +kernel) (Nat.le_of_ble_eq_true rfl) rfl ?_
  intro p e s m args below meth c S hr hk hnm hE hM hS ls hl
  have hl : lv_has ls 6 [(0, .ref (gx_m E))] := hl
  have hx := S.1
  have hb := S.2.1
  have J171 : ∀ (x1 x2 x3 x4 : Int32) (M : MM) (H : Heap) (locs : List Loc) (ls : Array Slot), mm_question_J171 x1 x2 x3 x4 M = some M' → gM E M H → va_S (gx_A E) s.heap H locs → lv_has ls 6 [(0, .ref (gx_m E)), (1, .int x1), (2, .int x2), (3, .int x3), (4, .int x4)] → W p l e (gRm 74 0 0) s m args below meth c H locs 0 0 (MQ below (gQ none (gM E M') (gx_A E)) args s 0 0 (gx_A E)) (F0 m 171 ls []) := by
    intro x1 x2 x3 x4 M H locs ls h hM hS hl
    unfold mm_question_J171 at h
    refine lv_aload_n hx hb dX2_question_171 rfl (lv_at hl 0 rfl) ?_
    refine ma_askNot dX2_question_172 S hE hM ?_
    refine lv_aload_n hx hb dX2_question_175 rfl (lv_at hl 0 rfl) ?_
    refine mg_asks dX2_question_176 S hE hM ?_
    refine lv_iload_n hx hb dX2_question_179 rfl (lv_at hl 1 rfl) ?_
    refine lv_iconst (v := 2) hx hb dX2_question_180 (by decide) ?_
    refine lv_irem hx hb dX2_question_181 (by decide) ?_
    obtain ⟨M182, e182, h⟩ := g_bd h
    refine m_ast 46 dX2_question_182 (by decide) rfl S hE hM hS e182 (fun H locs hM hS => ?_)
    refine lv_aload_n hx hb dX2_question_183 rfl (lv_at hl 0 rfl) ?_
    refine ma_askSign dX2_question_184 S hE hM ?_
    refine lv_aload_n hx hb dX2_question_187 rfl (lv_at hl 0 rfl) ?_
    refine mg_asks dX2_question_188 S hE hM ?_
    refine lv_iload hx hb dX2_question_191 (lv_at hl 4 rfl) ?_
    obtain ⟨M193, e193, h⟩ := g_bd h
    refine m_ast 47 dX2_question_193 (by decide) rfl S hE hM hS e193 (fun H locs hM hS => ?_)
    refine lv_aload_n hx hb dX2_question_194 rfl (lv_at hl 0 rfl) ?_
    refine ma_askA dX2_question_195 S hE hM ?_
    refine lv_aload_n hx hb dX2_question_198 rfl (lv_at hl 0 rfl) ?_
    refine mg_asks dX2_question_199 S hE hM ?_
    refine lv_iload_n hx hb dX2_question_202 rfl (lv_at hl 2 rfl) ?_
    obtain ⟨M203, e203, h⟩ := g_bd h
    refine m_ast 48 dX2_question_203 (by decide) rfl S hE hM hS e203 (fun H locs hM hS => ?_)
    refine lv_aload_n hx hb dX2_question_204 rfl (lv_at hl 0 rfl) ?_
    refine ma_askB dX2_question_205 S hE hM ?_
    refine lv_aload_n hx hb dX2_question_208 rfl (lv_at hl 0 rfl) ?_
    refine mg_asks dX2_question_209 S hE hM ?_
    refine lv_iload_n hx hb dX2_question_212 rfl (lv_at hl 3 rfl) ?_
    obtain ⟨M213, e213, h⟩ := g_bd h
    refine m_ast 49 dX2_question_213 (by decide) rfl S hE hM hS e213 (fun H locs hM hS => ?_)
    refine lv_aload_n hx hb dX2_question_214 rfl (lv_at hl 0 rfl) ?_
    refine ma_askNext dX2_question_215 S hE hM ?_
    refine lv_aload_n hx hb dX2_question_218 rfl (lv_at hl 0 rfl) ?_
    refine mg_asks dX2_question_219 S hE hM ?_
    refine lv_iconst (v := (-1)) hx hb dX2_question_222 (by decide) ?_
    obtain ⟨M223, e223, h⟩ := g_bd h
    refine m_ast 50 dX2_question_223 (by decide) rfl S hE hM hS e223 (fun H locs hM hS => ?_)
    refine lv_aload_n hx hb dX2_question_224 rfl (lv_at hl 0 rfl) ?_
    refine lv_dup hx hb dX2_question_225 rfl ?_
    refine mg_asks dX2_question_226 S hE hM ?_
    refine lv_iconst (v := 1) hx hb dX2_question_229 (by decide) ?_
    refine lv_iadd hx hb dX2_question_230 ?_
    obtain ⟨M231, e231, h⟩ := g_bd h
    refine mp_asks dX2_question_231 S hE hM hS e231 (fun H locs hM hS => ?_)
    exact m_vretW dX2_question_234 S hr hk hM hS h
  have J154 : ∀ (x1 x2 x4 : Int32) (M : MM) (H : Heap) (locs : List Loc) (ls : Array Slot), mm_question_J154 x1 x2 x4 M = some M' → gM E M H → va_S (gx_A E) s.heap H locs → lv_has ls 6 [(0, .ref (gx_m E)), (1, .int x1), (2, .int x2), (4, .int x4)] → W p l e (gRm 74 0 0) s m args below meth c H locs 0 0 (MQ below (gQ none (gM E M') (gx_A E)) args s 0 0 (gx_A E)) (F0 m 154 ls []) := by
    intro x1 x2 x4 M H locs ls h hM hS hl
    unfold mm_question_J154 at h
    refine lv_aload_n hx hb dX2_question_154 rfl (lv_at hl 0 rfl) ?_
    refine mg_fault dX2_question_155 S hE hM ?_
    refine lv_if_eq (tgt := 162) hx hb dX2_question_158 (by decide) (fun c158 => ?_) (fun c158 => ?_)
    · have h := g_it c158 h
      refine lv_aload_n hx hb dX2_question_162 rfl (lv_at hl 0 rfl) ?_
      obtain ⟨M163, e163, h⟩ := g_bd h
      refine m_cV (y := yX2_cut) (rest := []) dX2_question_163 q3057 q3059 qs57 q3060 hm_cut S hE hM hS hl.1 rfl (wm_cut E l _ _ e163) rfl (Nat.le_of_ble_eq_true rfl) ⟨Nat.le_of_ble_eq_true rfl, Nat.le_of_ble_eq_true rfl⟩ ⟨Nat.le_refl 0, Nat.le_refl 0⟩ (fun H locs hM hS => ?_)
      refine lv_aload_n hx hb dX2_question_166 rfl (lv_at hl 0 rfl) ?_
      obtain ⟨q167, e167, h⟩ := g_bd h
      refine m_cV (y := yX2_expression) (rest := []) dX2_question_167 q3140 q3142 qs75 q3143 hm_expression S hE hM hS hl.1 rfl (wm_expression E l _ _ _ e167) rfl (Nat.le_of_ble_eq_true rfl) ⟨Nat.le_of_ble_eq_true rfl, Nat.le_of_ble_eq_true rfl⟩ ⟨Nat.le_refl 0, Nat.le_refl 0⟩ (fun H locs hM hS => ?_)
      refine lv_istore_n (lv' := [(3, .int q167.1), (0, .ref (gx_m E)), (1, .int x1), (2, .int x2), (4, .int x4)]) hx hb dX2_question_170 rfl hl (by decide) rfl (fun ls hl => ?_)
      exact J171 x1 x2 q167.1 x4 q167.2 _ _ _ h hM hS (lv_sub hl [1, 2, 3, 0, 4] rfl)
    · have h := g_if c158 h
      exact m_vretW dX2_question_161 S hr hk hM hS h
  have J138 : ∀ (x1 x2 x4 s0 : Int32) (M : MM) (H : Heap) (locs : List Loc) (ls : Array Slot), mm_question_J138 x1 x2 x4 s0 M = some M' → gM E M H → va_S (gx_A E) s.heap H locs → lv_has ls 6 [(0, .ref (gx_m E)), (1, .int x1), (2, .int x2), (4, .int x4)] → W p l e (gRm 74 0 0) s m args below meth c H locs 0 0 (MQ below (gQ none (gM E M') (gx_A E)) args s 0 0 (gx_A E)) (F0 m 138 ls [.int s0]) := by
    intro x1 x2 x4 s0 M H locs ls h hM hS hl
    unfold mm_question_J138 at h
    refine lv_istore (lv' := [(5, .int s0), (0, .ref (gx_m E)), (1, .int x1), (2, .int x2), (4, .int x4)]) hx hb dX2_question_138 hl (by decide) rfl (fun ls hl => ?_)
    refine lv_iload hx hb dX2_question_140 (lv_at hl 0 rfl) ?_
    refine lv_if_ne (tgt := 154) hx hb dX2_question_142 (by decide) (fun c142 => ?_) (fun c142 => ?_)
    · have h := g_if c142 h
      exact J154 x1 x2 x4 M _ _ _ h hM hS (lv_sub hl [1, 2, 3, 4] rfl)
    · have h := g_it c142 h
      refine lv_aload_n hx hb dX2_question_145 rfl (lv_at hl 1 rfl) ?_
      refine lv_iconst (v := 1) hx hb dX2_question_146 (by decide) ?_
      refine lv_aload_n hx hb dX2_question_147 rfl (lv_at hl 1 rfl) ?_
      refine mg_begins dX2_question_148 S hE hM ?_
      obtain ⟨M151, e151, h⟩ := g_bd h
      refine m_cV (y := yX2_wrong) (rest := []) dX2_question_151 q3089 q3091 qs63 q3092 hm_wrong S hE hM hS hl.1 rfl (wm_wrong E l _ _ _ _ e151) rfl (Nat.le_of_ble_eq_true rfl) ⟨Nat.le_of_ble_eq_true rfl, Nat.le_of_ble_eq_true rfl⟩ ⟨Nat.le_refl 0, Nat.le_refl 0⟩ (fun H locs hM hS => ?_)
      exact J154 x1 x2 x4 M151 _ _ _ h hM hS (lv_sub hl [1, 2, 3, 4] rfl)
  have J133 : ∀ (x1 x2 x4 : Int32) (M : MM) (H : Heap) (locs : List Loc) (ls : Array Slot), mm_question_J133 x1 x2 x4 M = some M' → gM E M H → va_S (gx_A E) s.heap H locs → lv_has ls 6 [(0, .ref (gx_m E)), (1, .int x1), (2, .int x2), (4, .int x4)] → W p l e (gRm 74 0 0) s m args below meth c H locs 0 0 (MQ below (gQ none (gM E M') (gx_A E)) args s 0 0 (gx_A E)) (F0 m 133 ls []) := by
    intro x1 x2 x4 M H locs ls h hM hS hl
    unfold mm_question_J133 at h
    refine lv_iconst (v := 1) hx hb dX2_question_133 (by decide) ?_
    refine lv_goto (tgt := 138) hx hb dX2_question_134 (by decide) ?_
    exact J138 x1 x2 x4 1 M _ _ _ h hM hS (lv_sub hl [0, 1, 2, 3] rfl)
  have J85 : ∀ (x1 x2 s0 : Int32) (M : MM) (H : Heap) (locs : List Loc) (ls : Array Slot), mm_question_J85 x1 x2 s0 M = some M' → gM E M H → va_S (gx_A E) s.heap H locs → lv_has ls 6 [(0, .ref (gx_m E)), (1, .int x1), (2, .int x2)] → W p l e (gRm 74 0 0) s m args below meth c H locs 0 0 (MQ below (gQ none (gM E M') (gx_A E)) args s 0 0 (gx_A E)) (F0 m 85 ls [.int s0]) := by
    intro x1 x2 s0 M H locs ls h hM hS hl
    unfold mm_question_J85 at h
    refine lv_istore (lv' := [(4, .int s0), (0, .ref (gx_m E)), (1, .int x1), (2, .int x2)]) hx hb dX2_question_85 hl (by decide) rfl (fun ls hl => ?_)
    refine lv_iload hx hb dX2_question_87 (lv_at hl 0 rfl) ?_
    refine lv_bipush (v := 60) hx hb dX2_question_89 (by decide) ?_
    refine lv_icmp_eq (tgt := 133) hx hb dX2_question_91 (by decide) (fun c91 => ?_) (fun c91 => ?_)
    · have h := g_it c91 h
      exact J133 x1 x2 s0 M _ _ _ h hM hS (lv_sub hl [1, 2, 3, 0] rfl)
    · have h := g_if c91 h
      refine lv_iload hx hb dX2_question_94 (lv_at hl 0 rfl) ?_
      refine lv_bipush (v := 62) hx hb dX2_question_96 (by decide) ?_
      refine lv_icmp_eq (tgt := 133) hx hb dX2_question_98 (by decide) (fun c98 => ?_) (fun c98 => ?_)
      · have h := g_it c98 h
        exact J133 x1 x2 s0 M _ _ _ h hM hS (lv_sub hl [1, 2, 3, 0] rfl)
      · have h := g_if c98 h
        refine lv_iload hx hb dX2_question_101 (lv_at hl 0 rfl) ?_
        refine lv_sipush (v := 316) hx hb dX2_question_103 (by decide) ?_
        refine lv_icmp_eq (tgt := 133) hx hb dX2_question_106 (by decide) (fun c106 => ?_) (fun c106 => ?_)
        · have h := g_it c106 h
          exact J133 x1 x2 s0 M _ _ _ h hM hS (lv_sub hl [1, 2, 3, 0] rfl)
        · have h := g_if c106 h
          refine lv_iload hx hb dX2_question_109 (lv_at hl 0 rfl) ?_
          refine lv_sipush (v := 318) hx hb dX2_question_111 (by decide) ?_
          refine lv_icmp_eq (tgt := 133) hx hb dX2_question_114 (by decide) (fun c114 => ?_) (fun c114 => ?_)
          · have h := g_it c114 h
            exact J133 x1 x2 s0 M _ _ _ h hM hS (lv_sub hl [1, 2, 3, 0] rfl)
          · have h := g_if c114 h
            refine lv_iload hx hb dX2_question_117 (lv_at hl 0 rfl) ?_
            refine lv_sipush (v := 317) hx hb dX2_question_119 (by decide) ?_
            refine lv_icmp_eq (tgt := 133) hx hb dX2_question_122 (by decide) (fun c122 => ?_) (fun c122 => ?_)
            · have h := g_it c122 h
              exact J133 x1 x2 s0 M _ _ _ h hM hS (lv_sub hl [1, 2, 3, 0] rfl)
            · have h := g_if c122 h
              refine lv_iload hx hb dX2_question_125 (lv_at hl 0 rfl) ?_
              refine lv_sipush (v := 289) hx hb dX2_question_127 (by decide) ?_
              refine lv_icmp_ne (tgt := 137) hx hb dX2_question_130 (by decide) (fun c130 => ?_) (fun c130 => ?_)
              · have h := g_if c130 h
                refine lv_iconst (v := 0) hx hb dX2_question_137 (by decide) ?_
                exact J138 x1 x2 s0 0 M _ _ _ h hM hS (lv_sub hl [1, 2, 3, 0] rfl)
              · have h := g_it c130 h
                exact J133 x1 x2 s0 M _ _ _ h hM hS (lv_sub hl [1, 2, 3, 0] rfl)
  have L2 : ∀ (n : Nat) (x1 : Int32) (M : MM) (H : Heap) (locs : List Loc) (ls : Array Slot), mm_question_L2 n x1 M = some M' → gM E M H → va_S (gx_A E) s.heap H locs → lv_has ls 6 [(0, .ref (gx_m E)), (1, .int x1)] → W p l e (gRm 74 0 0) s m args below meth c H locs 0 0 (MQ below (gQ none (gM E M') (gx_A E)) args s 0 0 (gx_A E)) (F0 m 2 ls []) := by
    intro n2
    induction n2 with
    | zero =>
      intro x1 M H locs ls h
      cases h
    | succ n2 ih2 =>
      intro x1 M H locs ls h hM hS hl
      have h : mm_question_B2 (mm_question_L2 n2) x1 M = some M' := h
      unfold mm_question_B2 at h
      refine lv_aload_n hx hb dX2_question_2 rfl (lv_at hl 0 rfl) ?_
      refine lv_bipush (v := 50) hx hb dX2_question_3 (by decide) ?_
      obtain ⟨v5, e5, h⟩ := g_bd h
      refine m_cV (y := yX2_isWord) (rest := []) dX2_question_5 q3184 q3186 qs86 q3187 hm_isWord S hE hM hS hl.1 rfl (wm_isWord E l _ _ _ e5) rfl (Nat.le_of_ble_eq_true rfl) ⟨Nat.le_of_ble_eq_true rfl, Nat.le_of_ble_eq_true rfl⟩ ⟨Nat.le_refl 0, Nat.le_refl 0⟩ (fun H locs hM hS => ?_)
      refine lv_if_eq (tgt := 37) hx hb dX2_question_8 (by decide) (fun c8 => ?_) (fun c8 => ?_)
      · have h := g_it c8 h
        refine lv_iconst (v := 0) hx hb dX2_question_37 (by decide) ?_
        refine lv_istore_n (lv' := [(3, .int 0), (0, .ref (gx_m E)), (1, .int x1)]) hx hb dX2_question_38 rfl hl (by decide) rfl (fun ls hl => ?_)
        refine lv_iconst (v := 0) hx hb dX2_question_39 (by decide) ?_
        refine lv_istore (lv' := [(4, .int 0), (3, .int 0), (0, .ref (gx_m E)), (1, .int x1)]) hx hb dX2_question_40 hl (by decide) rfl (fun ls hl => ?_)
        refine lv_aload_n hx hb dX2_question_42 rfl (lv_at hl 2 rfl) ?_
        refine lv_bipush (v := 47) hx hb dX2_question_43 (by decide) ?_
        obtain ⟨v45, e45, h⟩ := g_bd h
        refine m_cV (y := yX2_isWord) (rest := []) dX2_question_45 q3184 q3186 qs86 q3187 hm_isWord S hE hM hS hl.1 rfl (wm_isWord E l _ _ _ e45) rfl (Nat.le_of_ble_eq_true rfl) ⟨Nat.le_of_ble_eq_true rfl, Nat.le_of_ble_eq_true rfl⟩ ⟨Nat.le_refl 0, Nat.le_refl 0⟩ (fun H locs hM hS => ?_)
        refine lv_if_eq (tgt := 64) hx hb dX2_question_48 (by decide) (fun c48 => ?_) (fun c48 => ?_)
        · have h := g_it c48 h
          refine lv_aload_n hx hb dX2_question_64 rfl (lv_at hl 2 rfl) ?_
          obtain ⟨q65, e65, h⟩ := g_bd h
          refine m_cV (y := yX2_expression) (rest := []) dX2_question_65 q3140 q3142 qs75 q3143 hm_expression S hE hM hS hl.1 rfl (wm_expression E l _ _ _ e65) rfl (Nat.le_of_ble_eq_true rfl) ⟨Nat.le_of_ble_eq_true rfl, Nat.le_of_ble_eq_true rfl⟩ ⟨Nat.le_refl 0, Nat.le_refl 0⟩ (fun H locs hM hS => ?_)
          refine lv_istore_n (lv' := [(2, .int q65.1), (4, .int 0), (3, .int 0), (0, .ref (gx_m E)), (1, .int x1)]) hx hb dX2_question_68 rfl hl (by decide) rfl (fun ls hl => ?_)
          refine lv_aload_n hx hb dX2_question_69 rfl (lv_at hl 3 rfl) ?_
          refine mg_token dX2_question_70 S hE hM ?_
          refine lv_iconst (v := 3) hx hb dX2_question_73 (by decide) ?_
          refine lv_icmp_ne (tgt := 84) hx hb dX2_question_74 (by decide) (fun c74 => ?_) (fun c74 => ?_)
          · have h := g_if c74 h
            refine lv_iconst (v := 0) hx hb dX2_question_84 (by decide) ?_
            exact J85 x1 q65.1 0 q65.2 _ _ _ h hM hS (lv_sub hl [3, 4, 0] rfl)
          · have h := g_it c74 h
            refine lv_aload_n hx hb dX2_question_77 rfl (lv_at hl 3 rfl) ?_
            refine mg_number dX2_question_78 S hE hM ?_
            refine lv_goto (tgt := 85) hx hb dX2_question_81 (by decide) ?_
            exact J85 x1 q65.1 (q65.2 10 0) q65.2 _ _ _ h hM hS (lv_sub hl [3, 4, 0] rfl)
        · have h := g_if c48 h
          refine lv_aload_n hx hb dX2_question_51 rfl (lv_at hl 2 rfl) ?_
          obtain ⟨M52, e52, h⟩ := g_bd h
          refine m_cV (y := yX2_cut) (rest := []) dX2_question_52 q3057 q3059 qs57 q3060 hm_cut S hE hM hS hl.1 rfl (wm_cut E l _ _ e52) rfl (Nat.le_of_ble_eq_true rfl) ⟨Nat.le_of_ble_eq_true rfl, Nat.le_of_ble_eq_true rfl⟩ ⟨Nat.le_refl 0, Nat.le_refl 0⟩ (fun H locs hM hS => ?_)
          refine lv_aload_n hx hb dX2_question_55 rfl (lv_at hl 2 rfl) ?_
          refine lv_iconst (v := 2) hx hb dX2_question_56 (by decide) ?_
          obtain ⟨q57, e57, h⟩ := g_bd h
          refine m_cV (y := yX2_oldName) (rest := []) dX2_question_57 q3113 q3115 qs69 q3116 hm_oldName S hE hM hS hl.1 rfl (wm_oldName E l _ _ _ _ e57) rfl (Nat.le_of_ble_eq_true rfl) ⟨Nat.le_of_ble_eq_true rfl, Nat.le_of_ble_eq_true rfl⟩ ⟨Nat.le_refl 0, Nat.le_refl 0⟩ (fun H locs hM hS => ?_)
          refine lv_istore_n (lv' := [(2, .int q57.1), (4, .int 0), (3, .int 0), (0, .ref (gx_m E)), (1, .int x1)]) hx hb dX2_question_60 rfl hl (by decide) rfl (fun ls hl => ?_)
          refine lv_goto (tgt := 171) hx hb dX2_question_61 (by decide) ?_
          exact J171 x1 q57.1 0 0 q57.2 _ _ _ h hM hS (lv_sub hl [3, 4, 0, 2, 1] rfl)
      · have h := g_if c8 h
        refine lv_iload_n hx hb dX2_question_11 rfl (lv_at hl 1 rfl) ?_
        refine lv_bipush (v := 12) hx hb dX2_question_12 (by decide) ?_
        refine lv_icmp_ne (tgt := 27) hx hb dX2_question_14 (by decide) (fun c14 => ?_) (fun c14 => ?_)
        · have h := g_if c14 h
          refine lv_iinc (k := 1) (v := (x1 + 1)) (lv' := [(1, .int (x1 + 1)), (0, .ref (gx_m E))]) hx hb dX2_question_27 hl rfl rfl (by decide) rfl (fun ls hl => ?_)
          refine lv_aload_n hx hb dX2_question_30 rfl (lv_at hl 1 rfl) ?_
          obtain ⟨M31, e31, h⟩ := g_bd h
          refine m_cV (y := yX2_cut) (rest := []) dX2_question_31 q3057 q3059 qs57 q3060 hm_cut S hE hM hS hl.1 rfl (wm_cut E l _ _ e31) rfl (Nat.le_of_ble_eq_true rfl) ⟨Nat.le_of_ble_eq_true rfl, Nat.le_of_ble_eq_true rfl⟩ ⟨Nat.le_refl 0, Nat.le_refl 0⟩ (fun H locs hM hS => ?_)
          refine lv_goto (tgt := 2) hx hb dX2_question_34 (by decide) ?_
          exact ih2 (x1 + 1) M31 _ _ _ h hM hS (lv_sub hl [1, 0] rfl)
        · have h := g_it c14 h
          refine lv_aload_n hx hb dX2_question_17 rfl (lv_at hl 0 rfl) ?_
          refine lv_iconst (v := 4) hx hb dX2_question_18 (by decide) ?_
          refine lv_aload_n hx hb dX2_question_19 rfl (lv_at hl 0 rfl) ?_
          refine mg_begins dX2_question_20 S hE hM ?_
          obtain ⟨M23, e23, h⟩ := g_bd h
          refine m_cV (y := yX2_wrong) (rest := []) dX2_question_23 q3089 q3091 qs63 q3092 hm_wrong S hE hM hS hl.1 rfl (wm_wrong E l _ _ _ _ e23) rfl (Nat.le_of_ble_eq_true rfl) ⟨Nat.le_of_ble_eq_true rfl, Nat.le_of_ble_eq_true rfl⟩ ⟨Nat.le_refl 0, Nat.le_refl 0⟩ (fun H locs hM hS => ?_)
          exact m_vretW dX2_question_26 S hr hk hM hS h
  unfold mm_question at h
  refine lv_iconst (v := 0) hx hb dX2_question_0 (by decide) ?_
  refine lv_istore_n (lv' := [(1, .int 0), (0, .ref (gx_m E))]) hx hb dX2_question_1 rfl hl (by decide) rfl (fun ls hl => ?_)
  exact L2 gF 0 M _ _ _ h hM hS (lv_sub hl [1, 0] rfl)
theorem hm_condition : yX2_condition.cls = RX2 ∧ yX2_condition.cls ≠ "java/lang/invoke/MethodHandle" ∧ yX2_condition.cls ≠ "java/lang/invoke/VarHandle" ∧ (parseMethodDescriptor yX2_condition.desc).map (fun d => d.parameters.length) = some 0 := by decide +kernel
set_option maxHeartbeats 4000000 in
set_option maxRecDepth 100000 in
theorem wm_condition (E : gX) (l : Launch) (r : Int32) (M M' : MM) (h : mm_condition M = some (r, M')) : gMet E l yX2_condition cX2_condition 3 (some .int) 75 0 0 (gx_A E) [.ref (gx_m E)] (gM E M) (gM E M') (some (.int r)) := by
  refine gMet.of (own := RX2) (by decide +kernel) (Nat.le_of_ble_eq_true rfl) rfl ?_
  intro p e s m args below meth c S hr hk hnm hE hM hS ls hl
  have hl : lv_has ls 3 [(0, .ref (gx_m E))] := hl
  have hx := S.1
  have hb := S.2.1
  have L26 : ∀ (n : Nat) (x1 x2 : Int32) (M : MM) (H : Heap) (locs : List Loc) (ls : Array Slot), mm_condition_L26 n x1 x2 M = some (r, M') → gM E M H → va_S (gx_A E) s.heap H locs → lv_has ls 3 [(0, .ref (gx_m E)), (1, .int x1), (2, .int x2)] → W p l e (gRm 75 0 0) s m args below meth c H locs 0 0 (MQ below (gQ (some (.int r)) (gM E M') (gx_A E)) args s 0 0 (gx_A E)) (F0 m 26 ls []) := by
    intro n26
    induction n26 with
    | zero =>
      intro x1 x2 M H locs ls h
      cases h
    | succ n26 ih26 =>
      intro x1 x2 M H locs ls h hM hS hl
      have h : mm_condition_B26 (mm_condition_L26 n26) x1 x2 M = some (r, M') := h
      unfold mm_condition_B26 at h
      refine lv_aload_n hx hb dX2_condition_26 rfl (lv_at hl 0 rfl) ?_
      refine mg_fault dX2_condition_27 S hE hM ?_
      refine lv_if_ne (tgt := 64) hx hb dX2_condition_30 (by decide) (fun c30 => ?_) (fun c30 => ?_)
      · have h := g_if c30 h
        refine lv_iload_n hx hb dX2_condition_64 rfl (lv_at hl 1 rfl) ?_
        exact m_iretW dX2_condition_65 S hr hk hM hS h
      · have h := g_it c30 h
        refine lv_aload_n hx hb dX2_condition_33 rfl (lv_at hl 0 rfl) ?_
        refine lv_iload_n hx hb dX2_condition_34 rfl (lv_at hl 2 rfl) ?_
        obtain ⟨v35, e35, h⟩ := g_bd h
        refine m_cV (y := yX2_isWord) (rest := []) dX2_condition_35 q3184 q3186 qs86 q3187 hm_isWord S hE hM hS hl.1 rfl (wm_isWord E l _ _ _ e35) rfl (Nat.le_of_ble_eq_true rfl) ⟨Nat.le_of_ble_eq_true rfl, Nat.le_of_ble_eq_true rfl⟩ ⟨Nat.le_refl 0, Nat.le_refl 0⟩ (fun H locs hM hS => ?_)
        refine lv_if_eq (tgt := 64) hx hb dX2_condition_38 (by decide) (fun c38 => ?_) (fun c38 => ?_)
        · have h := g_it c38 h
          refine lv_iload_n hx hb dX2_condition_64 rfl (lv_at hl 1 rfl) ?_
          exact m_iretW dX2_condition_65 S hr hk hM hS h
        · have h := g_if c38 h
          refine lv_aload_n hx hb dX2_condition_41 rfl (lv_at hl 0 rfl) ?_
          refine ma_askNext dX2_condition_42 S hE hM ?_
          refine lv_aload_n hx hb dX2_condition_45 rfl (lv_at hl 0 rfl) ?_
          refine mg_asks dX2_condition_46 S hE hM ?_
          refine lv_iconst (v := 1) hx hb dX2_condition_49 (by decide) ?_
          refine lv_isub hx hb dX2_condition_50 ?_
          refine lv_iload_n hx hb dX2_condition_51 rfl (lv_at hl 2 rfl) ?_
          obtain ⟨M52, e52, h⟩ := g_bd h
          refine m_ast 50 dX2_condition_52 (by decide) rfl S hE hM hS e52 (fun H locs hM hS => ?_)
          refine lv_aload_n hx hb dX2_condition_53 rfl (lv_at hl 0 rfl) ?_
          obtain ⟨M54, e54, h⟩ := g_bd h
          refine m_cV (y := yX2_cut) (rest := []) dX2_condition_54 q3057 q3059 qs57 q3060 hm_cut S hE hM hS hl.1 rfl (wm_cut E l _ _ e54) rfl (Nat.le_of_ble_eq_true rfl) ⟨Nat.le_of_ble_eq_true rfl, Nat.le_of_ble_eq_true rfl⟩ ⟨Nat.le_refl 0, Nat.le_refl 0⟩ (fun H locs hM hS => ?_)
          refine lv_aload_n hx hb dX2_condition_57 rfl (lv_at hl 0 rfl) ?_
          obtain ⟨M58, e58, h⟩ := g_bd h
          refine m_cV (y := yX2_question) (rest := []) dX2_condition_58 q3180 q3182 qs85 q3183 hm_question S hE hM hS hl.1 rfl (wm_question E l _ _ e58) rfl (Nat.le_of_ble_eq_true rfl) ⟨Nat.le_of_ble_eq_true rfl, Nat.le_of_ble_eq_true rfl⟩ ⟨Nat.le_refl 0, Nat.le_refl 0⟩ (fun H locs hM hS => ?_)
          refine lv_goto (tgt := 26) hx hb dX2_condition_61 (by decide) ?_
          exact ih26 x1 x2 M58 _ _ _ h hM hS (lv_sub hl [0, 1, 2] rfl)
  have J25 : ∀ (x1 s0 : Int32) (M : MM) (H : Heap) (locs : List Loc) (ls : Array Slot), mm_condition_J25 x1 s0 M = some (r, M') → gM E M H → va_S (gx_A E) s.heap H locs → lv_has ls 3 [(0, .ref (gx_m E)), (1, .int x1)] → W p l e (gRm 75 0 0) s m args below meth c H locs 0 0 (MQ below (gQ (some (.int r)) (gM E M') (gx_A E)) args s 0 0 (gx_A E)) (F0 m 25 ls [.int s0]) := by
    intro x1 s0 M H locs ls h hM hS hl
    unfold mm_condition_J25 at h
    refine lv_istore_n (lv' := [(2, .int s0), (0, .ref (gx_m E)), (1, .int x1)]) hx hb dX2_condition_25 rfl hl (by decide) rfl (fun ls hl => ?_)
    exact L26 gF x1 s0 M _ _ _ h hM hS (lv_sub hl [1, 2, 0] rfl)
  unfold mm_condition at h
  refine lv_aload_n hx hb dX2_condition_0 rfl (lv_at hl 0 rfl) ?_
  refine mg_asks dX2_condition_1 S hE hM ?_
  refine lv_istore_n (lv' := [(1, .int (M 51 0)), (0, .ref (gx_m E))]) hx hb dX2_condition_4 rfl hl (by decide) rfl (fun ls hl => ?_)
  refine lv_aload_n hx hb dX2_condition_5 rfl (lv_at hl 1 rfl) ?_
  obtain ⟨M6, e6, h⟩ := g_bd h
  refine m_cV (y := yX2_question) (rest := []) dX2_condition_6 q3180 q3182 qs85 q3183 hm_question S hE hM hS hl.1 rfl (wm_question E l _ _ e6) rfl (Nat.le_of_ble_eq_true rfl) ⟨Nat.le_of_ble_eq_true rfl, Nat.le_of_ble_eq_true rfl⟩ ⟨Nat.le_refl 0, Nat.le_refl 0⟩ (fun H locs hM hS => ?_)
  refine lv_aload_n hx hb dX2_condition_9 rfl (lv_at hl 1 rfl) ?_
  refine lv_bipush (v := 48) hx hb dX2_condition_10 (by decide) ?_
  obtain ⟨v12, e12, h⟩ := g_bd h
  refine m_cV (y := yX2_isWord) (rest := []) dX2_condition_12 q3184 q3186 qs86 q3187 hm_isWord S hE hM hS hl.1 rfl (wm_isWord E l _ _ _ e12) rfl (Nat.le_of_ble_eq_true rfl) ⟨Nat.le_of_ble_eq_true rfl, Nat.le_of_ble_eq_true rfl⟩ ⟨Nat.le_refl 0, Nat.le_refl 0⟩ (fun H locs hM hS => ?_)
  refine lv_if_eq (tgt := 23) hx hb dX2_condition_15 (by decide) (fun c15 => ?_) (fun c15 => ?_)
  · have h := g_it c15 h
    refine lv_bipush (v := 49) hx hb dX2_condition_23 (by decide) ?_
    exact J25 (M 51 0) 49 M6 _ _ _ h hM hS (lv_sub hl [1, 0] rfl)
  · have h := g_if c15 h
    refine lv_bipush (v := 48) hx hb dX2_condition_18 (by decide) ?_
    refine lv_goto (tgt := 25) hx hb dX2_condition_20 (by decide) ?_
    exact J25 (M 51 0) 48 M6 _ _ _ h hM hS (lv_sub hl [1, 0] rfl)
theorem hm_block : yX2_block.cls = RX2 ∧ yX2_block.cls ≠ "java/lang/invoke/MethodHandle" ∧ yX2_block.cls ≠ "java/lang/invoke/VarHandle" ∧ (parseMethodDescriptor yX2_block.desc).map (fun d => d.parameters.length) = some 2 := by decide +kernel
theorem hm_step : yX2_step.cls = RX2 ∧ yX2_step.cls ≠ "java/lang/invoke/MethodHandle" ∧ yX2_step.cls ≠ "java/lang/invoke/VarHandle" ∧ (parseMethodDescriptor yX2_step.desc).map (fun d => d.parameters.length) = some 2 := by decide +kernel
theorem hm_blocks : yX2_blocks.cls = RX2 ∧ yX2_blocks.cls ≠ "java/lang/invoke/MethodHandle" ∧ yX2_blocks.cls ≠ "java/lang/invoke/VarHandle" ∧ (parseMethodDescriptor yX2_blocks.desc).map (fun d => d.parameters.length) = some 4 := by decide +kernel
set_option maxHeartbeats 4000000 in
set_option maxRecDepth 100000 in
theorem wm_S28 (E : gX) (l : Launch) : ∀ d : Nat, (∀ (x1 x2 : Int32) (r : Int32) (M M' : MM), (mm_S28 d).1 x1 x2 M = some (r, M') → gMet E l yX2_block cX2_block 3 (some .boolean) (76 + d) 0 0 (gx_A E) [.ref (gx_m E), .int x1, .int x2] (gM E M) (gM E M') (some (.int r))) ∧ (∀ (x1 x2 : Int32) (M M' : MM), (mm_S28 d).2.1 x1 x2 M = some M' → gMet E l yX2_step cX2_step 5 none (76 + d) 0 0 (gx_A E) [.ref (gx_m E), .int x1, .int x2] (gM E M) (gM E M') none) ∧ (∀ (x1 x2 x3 x4 : Int32) (M M' : MM), (mm_S28 d).2.2 x1 x2 x3 x4 M = some M' → gMet E l yX2_blocks cX2_blocks 8 none (76 + d) 0 0 (gx_A E) [.ref (gx_m E), .int x1, .int x2, .int x3, .int x4] (gM E M) (gM E M') none) := by
  intro d
  induction d with
  | zero =>
    exact ⟨fun _ _ _ _ _ h => (nomatch (show (none : Option (Int32 × MM)) = some _ from h)), fun _ _ _ _ h => (nomatch (show (none : Option MM) = some _ from h)), fun _ _ _ _ _ _ h => (nomatch (show (none : Option MM) = some _ from h))⟩
  | succ d ihd =>
    refine ⟨?_, ?_, ?_⟩
    · intro x1 x2 r M M' h
      refine gMet.of (own := RX2) (by decide +kernel) (Nat.le_of_ble_eq_true rfl) rfl ?_
      intro p e s m args below meth c S hr hk hnm hE hM hS ls hl
      have hl : lv_has ls 3 [(0, .ref (gx_m E)), (1, .int x1), (2, .int x2)] := hl
      have hx := S.1
      have hb := S.2.1
      have J85 : ∀ (M : MM) (H : Heap) (locs : List Loc) (ls : Array Slot), mm_block_J85 (mm_S28 d) M = some (r, M') → gM E M H → va_S (gx_A E) s.heap H locs → lv_has ls 3 [(0, .ref (gx_m E))] → W p l e (gRm (76 + (d + 1)) 0 0) s m args below meth c H locs 0 0 (MQ below (gQ (some (.int r)) (gM E M') (gx_A E)) args s 0 0 (gx_A E)) (F0 m 85 ls []) := by
        intro M H locs ls h hM hS hl
        unfold mm_block_J85 at h
        refine lv_aload_n hx hb dX2_block_85 rfl (lv_at hl 0 rfl) ?_
        refine mg_fault dX2_block_86 S hE hM ?_
        refine lv_if_ne (tgt := 96) hx hb dX2_block_89 (by decide) (fun c89 => ?_) (fun c89 => ?_)
        · have h := g_if c89 h
          refine lv_iconst (v := 0) hx hb dX2_block_96 (by decide) ?_
          exact m_zretW dX2_block_97 S hr hk hM hS h
        · have h := g_it c89 h
          refine lv_iconst (v := 1) hx hb dX2_block_92 (by decide) ?_
          refine lv_goto (tgt := 97) hx hb dX2_block_93 (by decide) ?_
          exact m_zretW dX2_block_97 S hr hk hM hS h
      have J74 : ∀ (M : MM) (H : Heap) (locs : List Loc) (ls : Array Slot), mm_block_J74 (mm_S28 d) M = some (r, M') → gM E M H → va_S (gx_A E) s.heap H locs → lv_has ls 3 [(0, .ref (gx_m E))] → W p l e (gRm (76 + (d + 1)) 0 0) s m args below meth c H locs 0 0 (MQ below (gQ (some (.int r)) (gM E M') (gx_A E)) args s 0 0 (gx_A E)) (F0 m 74 ls []) := by
        intro M H locs ls h hM hS hl
        unfold mm_block_J74 at h
        refine lv_aload_n hx hb dX2_block_74 rfl (lv_at hl 0 rfl) ?_
        refine mg_fault dX2_block_75 S hE hM ?_
        refine lv_if_ne (tgt := 85) hx hb dX2_block_78 (by decide) (fun c78 => ?_) (fun c78 => ?_)
        · have h := g_if c78 h
          exact J85 M _ _ _ h hM hS (lv_sub hl [0] rfl)
        · have h := g_it c78 h
          refine lv_aload_n hx hb dX2_block_81 rfl (lv_at hl 0 rfl) ?_
          obtain ⟨M82, e82, h⟩ := g_bd h
          refine m_cV (y := yX2_cut) (rest := []) dX2_block_82 q3057 q3059 qs57 q3060 hm_cut S hE hM hS hl.1 rfl (wm_cut E l _ _ e82) rfl (Nat.le_of_ble_eq_true rfl) ⟨by dsimp only; omega, by dsimp only; omega⟩ ⟨Nat.le_refl 0, Nat.le_refl 0⟩ (fun H locs hM hS => ?_)
          exact J85 M82 _ _ _ h hM hS (lv_sub hl [0] rfl)
      have L49 : ∀ (n : Nat) (x1 x2 : Int32) (M : MM) (H : Heap) (locs : List Loc) (ls : Array Slot), mm_block_L49 (mm_S28 d) n x1 x2 M = some (r, M') → gM E M H → va_S (gx_A E) s.heap H locs → lv_has ls 3 [(0, .ref (gx_m E)), (1, .int x1), (2, .int x2)] → W p l e (gRm (76 + (d + 1)) 0 0) s m args below meth c H locs 0 0 (MQ below (gQ (some (.int r)) (gM E M') (gx_A E)) args s 0 0 (gx_A E)) (F0 m 49 ls []) := by
        intro n49
        induction n49 with
        | zero =>
          intro x1 x2 M H locs ls h
          cases h
        | succ n49 ih49 =>
          intro x1 x2 M H locs ls h hM hS hl
          have h : mm_block_B49 (mm_S28 d) (mm_block_L49 (mm_S28 d) n49) x1 x2 M = some (r, M') := h
          unfold mm_block_B49 at h
          refine lv_aload_n hx hb dX2_block_49 rfl (lv_at hl 0 rfl) ?_
          refine mg_fault dX2_block_50 S hE hM ?_
          refine lv_if_ne (tgt := 74) hx hb dX2_block_53 (by decide) (fun c53 => ?_) (fun c53 => ?_)
          · have h := g_if c53 h
            exact J74 M _ _ _ h hM hS (lv_sub hl [0] rfl)
          · have h := g_it c53 h
            refine lv_aload_n hx hb dX2_block_56 rfl (lv_at hl 0 rfl) ?_
            refine lv_bipush (v := 125) hx hb dX2_block_57 (by decide) ?_
            obtain ⟨v59, e59, h⟩ := g_bd h
            refine m_cV (y := yX2_isSign) (rest := []) dX2_block_59 q3121 q3123 qs71 q3124 hm_isSign S hE hM hS hl.1 rfl (wm_isSign E l _ _ _ e59) rfl (Nat.le_of_ble_eq_true rfl) ⟨by dsimp only; omega, by dsimp only; omega⟩ ⟨Nat.le_refl 0, Nat.le_refl 0⟩ (fun H locs hM hS => ?_)
            refine lv_if_ne (tgt := 74) hx hb dX2_block_62 (by decide) (fun c62 => ?_) (fun c62 => ?_)
            · have h := g_if c62 h
              exact J74 M _ _ _ h hM hS (lv_sub hl [0] rfl)
            · have h := g_it c62 h
              refine lv_aload_n hx hb dX2_block_65 rfl (lv_at hl 0 rfl) ?_
              refine lv_iload_n hx hb dX2_block_66 rfl (lv_at hl 1 rfl) ?_
              refine lv_iload_n hx hb dX2_block_67 rfl (lv_at hl 2 rfl) ?_
              obtain ⟨M68, e68, h⟩ := g_bd h
              refine m_cV (y := yX2_step) (rest := []) dX2_block_68 q3125 q3127 qs72 q3128 hm_step S hE hM hS hl.1 rfl (ihd.2.1 _ _ _ _ e68) rfl (Nat.le_of_ble_eq_true rfl) ⟨by dsimp only; omega, by dsimp only; omega⟩ ⟨Nat.le_refl 0, Nat.le_refl 0⟩ (fun H locs hM hS => ?_)
              refine lv_goto (tgt := 49) hx hb dX2_block_71 (by decide) ?_
              exact ih49 x1 x2 M68 _ _ _ h hM hS (lv_sub hl [0, 1, 2] rfl)
      have J36 : ∀ (x1 x2 : Int32) (M : MM) (H : Heap) (locs : List Loc) (ls : Array Slot), mm_block_J36 (mm_S28 d) x1 x2 M = some (r, M') → gM E M H → va_S (gx_A E) s.heap H locs → lv_has ls 3 [(0, .ref (gx_m E)), (1, .int x1), (2, .int x2)] → W p l e (gRm (76 + (d + 1)) 0 0) s m args below meth c H locs 0 0 (MQ below (gQ (some (.int r)) (gM E M') (gx_A E)) args s 0 0 (gx_A E)) (F0 m 36 ls []) := by
        intro x1 x2 M H locs ls h hM hS hl
        unfold mm_block_J36 at h
        refine lv_aload_n hx hb dX2_block_36 rfl (lv_at hl 0 rfl) ?_
        refine mg_fault dX2_block_37 S hE hM ?_
        refine lv_if_eq (tgt := 45) hx hb dX2_block_40 (by decide) (fun c40 => ?_) (fun c40 => ?_)
        · have h := g_it c40 h
          refine lv_aload_n hx hb dX2_block_45 rfl (lv_at hl 0 rfl) ?_
          obtain ⟨M46, e46, h⟩ := g_bd h
          refine m_cV (y := yX2_cut) (rest := []) dX2_block_46 q3057 q3059 qs57 q3060 hm_cut S hE hM hS hl.1 rfl (wm_cut E l _ _ e46) rfl (Nat.le_of_ble_eq_true rfl) ⟨by dsimp only; omega, by dsimp only; omega⟩ ⟨Nat.le_refl 0, Nat.le_refl 0⟩ (fun H locs hM hS => ?_)
          exact L49 gF x1 x2 M46 _ _ _ h hM hS (lv_sub hl [0, 1, 2] rfl)
        · have h := g_if c40 h
          refine lv_iconst (v := 0) hx hb dX2_block_43 (by decide) ?_
          exact m_zretW dX2_block_44 S hr hk hM hS h
      have h : mm_block_B (mm_S28 d) x1 x2 M = some (r, M') := h
      unfold mm_block_B at h
      refine lv_aload_n hx hb dX2_block_0 rfl (lv_at hl 0 rfl) ?_
      refine lv_bipush (v := 123) hx hb dX2_block_1 (by decide) ?_
      obtain ⟨v3, e3, h⟩ := g_bd h
      refine m_cV (y := yX2_isSign) (rest := []) dX2_block_3 q3121 q3123 qs71 q3124 hm_isSign S hE hM hS hl.1 rfl (wm_isSign E l _ _ _ e3) rfl (Nat.le_of_ble_eq_true rfl) ⟨by dsimp only; omega, by dsimp only; omega⟩ ⟨Nat.le_refl 0, Nat.le_refl 0⟩ (fun H locs hM hS => ?_)
      refine lv_if_ne (tgt := 21) hx hb dX2_block_6 (by decide) (fun c6 => ?_) (fun c6 => ?_)
      · have h := g_if c6 h
        refine lv_iload_n hx hb dX2_block_21 rfl (lv_at hl 1 rfl) ?_
        refine lv_bipush (v := 10) hx hb dX2_block_22 (by decide) ?_
        refine lv_icmp_le (tgt := 36) hx hb dX2_block_24 (by decide) (fun c24 => ?_) (fun c24 => ?_)
        · have h := g_it c24 h
          exact J36 x1 x2 M _ _ _ h hM hS (lv_sub hl [0, 1, 2] rfl)
        · have h := g_if c24 h
          refine lv_aload_n hx hb dX2_block_27 rfl (lv_at hl 0 rfl) ?_
          refine lv_iconst (v := 4) hx hb dX2_block_28 (by decide) ?_
          refine lv_aload_n hx hb dX2_block_29 rfl (lv_at hl 0 rfl) ?_
          refine mg_begins dX2_block_30 S hE hM ?_
          obtain ⟨M33, e33, h⟩ := g_bd h
          refine m_cV (y := yX2_wrong) (rest := []) dX2_block_33 q3089 q3091 qs63 q3092 hm_wrong S hE hM hS hl.1 rfl (wm_wrong E l _ _ _ _ e33) rfl (Nat.le_of_ble_eq_true rfl) ⟨by dsimp only; omega, by dsimp only; omega⟩ ⟨Nat.le_refl 0, Nat.le_refl 0⟩ (fun H locs hM hS => ?_)
          exact J36 x1 x2 M33 _ _ _ h hM hS (lv_sub hl [0, 1, 2] rfl)
      · have h := g_it c6 h
        refine lv_aload_n hx hb dX2_block_9 rfl (lv_at hl 0 rfl) ?_
        refine lv_iconst (v := 1) hx hb dX2_block_10 (by decide) ?_
        refine lv_aload_n hx hb dX2_block_11 rfl (lv_at hl 0 rfl) ?_
        refine mg_begins dX2_block_12 S hE hM ?_
        obtain ⟨M15, e15, h⟩ := g_bd h
        refine m_cV (y := yX2_wrong) (rest := []) dX2_block_15 q3089 q3091 qs63 q3092 hm_wrong S hE hM hS hl.1 rfl (wm_wrong E l _ _ _ _ e15) rfl (Nat.le_of_ble_eq_true rfl) ⟨by dsimp only; omega, by dsimp only; omega⟩ ⟨Nat.le_refl 0, Nat.le_refl 0⟩ (fun H locs hM hS => ?_)
        refine lv_goto (tgt := 36) hx hb dX2_block_18 (by decide) ?_
        exact J36 x1 x2 M15 _ _ _ h hM hS (lv_sub hl [0, 1, 2] rfl)
    · intro x1 x2 M M' h
      refine gMet.of (own := RX2) (by decide +kernel) (Nat.le_of_ble_eq_true rfl) rfl ?_
      intro p e s m args below meth c S hr hk hnm hE hM hS ls hl
      have hl : lv_has ls 5 [(0, .ref (gx_m E)), (1, .int x1), (2, .int x2)] := hl
      have hx := S.1
      have hb := S.2.1
      have J315 : ∀ (M : MM) (H : Heap) (locs : List Loc) (ls : Array Slot), mm_step_J315 (mm_S28 d) M = some M' → gM E M H → va_S (gx_A E) s.heap H locs → lv_has ls 5 [(0, .ref (gx_m E))] → W p l e (gRm (76 + (d + 1)) 0 0) s m args below meth c H locs 0 0 (MQ below (gQ none (gM E M') (gx_A E)) args s 0 0 (gx_A E)) (F0 m 315 ls []) := by
        intro M H locs ls h hM hS hl
        unfold mm_step_J315 at h
        refine lv_aload_n hx hb dX2_step_315 rfl (lv_at hl 0 rfl) ?_
        refine mg_fault dX2_step_316 S hE hM ?_
        refine lv_if_ne (tgt := 329) hx hb dX2_step_319 (by decide) (fun c319 => ?_) (fun c319 => ?_)
        · have h := g_if c319 h
          exact m_vretW dX2_step_329 S hr hk hM hS h
        · have h := g_it c319 h
          refine lv_aload_n hx hb dX2_step_322 rfl (lv_at hl 0 rfl) ?_
          refine lv_bipush (v := 59) hx hb dX2_step_323 (by decide) ?_
          obtain ⟨q325, e325, h⟩ := g_bd h
          refine m_cV (y := yX2_need) (rest := []) dX2_step_325 q3160 q3162 qs80 q3163 hm_need S hE hM hS hl.1 rfl (wm_need E l _ _ _ _ e325) rfl (Nat.le_of_ble_eq_true rfl) ⟨by dsimp only; omega, by dsimp only; omega⟩ ⟨Nat.le_refl 0, Nat.le_refl 0⟩ (fun H locs hM hS => ?_)
          refine lv_pop hx hb dX2_step_328 rfl ?_
          exact m_vretW dX2_step_329 S hr hk hM hS h
      have J194 : ∀ (x2 x3 x4 : Int32) (M : MM) (H : Heap) (locs : List Loc) (ls : Array Slot), mm_step_J194 (mm_S28 d) x2 x3 x4 M = some M' → gM E M H → va_S (gx_A E) s.heap H locs → lv_has ls 5 [(0, .ref (gx_m E)), (2, .int x2), (3, .int x3), (4, .int x4)] → W p l e (gRm (76 + (d + 1)) 0 0) s m args below meth c H locs 0 0 (MQ below (gQ none (gM E M') (gx_A E)) args s 0 0 (gx_A E)) (F0 m 194 ls []) := by
        intro x2 x3 x4 M H locs ls h hM hS hl
        unfold mm_step_J194 at h
        refine lv_aload_n hx hb dX2_step_194 rfl (lv_at hl 0 rfl) ?_
        refine lv_iload hx hb dX2_step_195 (lv_at hl 3 rfl) ?_
        refine lv_iload_n hx hb dX2_step_197 rfl (lv_at hl 2 rfl) ?_
        refine lv_aload_n hx hb dX2_step_198 rfl (lv_at hl 0 rfl) ?_
        refine lv_iconst (v := 1) hx hb dX2_step_199 (by decide) ?_
        obtain ⟨q200, e200, h⟩ := g_bd h
        refine m_cV (y := yX2_oldName) (rest := [.int x3, .int x4, .ref (gx_m E)]) dX2_step_200 q3113 q3115 qs69 q3116 hm_oldName S hE hM hS hl.1 rfl (wm_oldName E l _ _ _ _ e200) rfl (Nat.le_of_ble_eq_true rfl) ⟨by dsimp only; omega, by dsimp only; omega⟩ ⟨Nat.le_refl 0, Nat.le_refl 0⟩ (fun H locs hM hS => ?_)
        refine lv_iconst (v := 0) hx hb dX2_step_203 (by decide) ?_
        refine lv_iconst (v := 0) hx hb dX2_step_204 (by decide) ?_
        refine lv_iload_n hx hb dX2_step_205 rfl (lv_at hl 1 rfl) ?_
        obtain ⟨q206, e206, h⟩ := g_bd h
        refine m_cV (y := yX2_newOp) (rest := []) dX2_step_206 q3172 q3174 qs83 q3175 hm_newOp S hE hM hS hl.1 rfl (wm_newOp E l _ _ _ _ _ _ _ _ _ e206) rfl (Nat.le_of_ble_eq_true rfl) ⟨by dsimp only; omega, by dsimp only; omega⟩ ⟨Nat.le_refl 0, Nat.le_refl 0⟩ (fun H locs hM hS => ?_)
        refine lv_pop hx hb dX2_step_209 rfl ?_
        refine lv_goto (tgt := 315) hx hb dX2_step_210 (by decide) ?_
        exact J315 q206.2 _ _ _ h hM hS (lv_sub hl [0] rfl)
      have J227 : ∀ (x2 x3 x4 : Int32) (M : MM) (H : Heap) (locs : List Loc) (ls : Array Slot), mm_step_J227 (mm_S28 d) x2 x3 x4 M = some M' → gM E M H → va_S (gx_A E) s.heap H locs → lv_has ls 5 [(0, .ref (gx_m E)), (2, .int x2), (3, .int x3), (4, .int x4)] → W p l e (gRm (76 + (d + 1)) 0 0) s m args below meth c H locs 0 0 (MQ below (gQ none (gM E M') (gx_A E)) args s 0 0 (gx_A E)) (F0 m 227 ls []) := by
        intro x2 x3 x4 M H locs ls h hM hS hl
        unfold mm_step_J227 at h
        refine lv_aload_n hx hb dX2_step_227 rfl (lv_at hl 0 rfl) ?_
        refine lv_iload hx hb dX2_step_228 (lv_at hl 3 rfl) ?_
        refine lv_iload_n hx hb dX2_step_230 rfl (lv_at hl 2 rfl) ?_
        refine lv_aload_n hx hb dX2_step_231 rfl (lv_at hl 0 rfl) ?_
        refine lv_iconst (v := 2) hx hb dX2_step_232 (by decide) ?_
        obtain ⟨q233, e233, h⟩ := g_bd h
        refine m_cV (y := yX2_oldName) (rest := [.int x3, .int x4, .ref (gx_m E)]) dX2_step_233 q3113 q3115 qs69 q3116 hm_oldName S hE hM hS hl.1 rfl (wm_oldName E l _ _ _ _ e233) rfl (Nat.le_of_ble_eq_true rfl) ⟨by dsimp only; omega, by dsimp only; omega⟩ ⟨Nat.le_refl 0, Nat.le_refl 0⟩ (fun H locs hM hS => ?_)
        refine lv_iconst (v := 0) hx hb dX2_step_236 (by decide) ?_
        refine lv_iconst (v := 0) hx hb dX2_step_237 (by decide) ?_
        refine lv_iload_n hx hb dX2_step_238 rfl (lv_at hl 1 rfl) ?_
        obtain ⟨q239, e239, h⟩ := g_bd h
        refine m_cV (y := yX2_newOp) (rest := []) dX2_step_239 q3172 q3174 qs83 q3175 hm_newOp S hE hM hS hl.1 rfl (wm_newOp E l _ _ _ _ _ _ _ _ _ e239) rfl (Nat.le_of_ble_eq_true rfl) ⟨by dsimp only; omega, by dsimp only; omega⟩ ⟨Nat.le_refl 0, Nat.le_refl 0⟩ (fun H locs hM hS => ?_)
        refine lv_pop hx hb dX2_step_242 rfl ?_
        refine lv_goto (tgt := 315) hx hb dX2_step_243 (by decide) ?_
        exact J315 q239.2 _ _ _ h hM hS (lv_sub hl [0] rfl)
      have J285 : ∀ (x2 x3 x4 : Int32) (M : MM) (H : Heap) (locs : List Loc) (ls : Array Slot), mm_step_J285 (mm_S28 d) x2 x3 x4 M = some M' → gM E M H → va_S (gx_A E) s.heap H locs → lv_has ls 5 [(0, .ref (gx_m E)), (2, .int x2), (3, .int x3), (4, .int x4)] → W p l e (gRm (76 + (d + 1)) 0 0) s m args below meth c H locs 0 0 (MQ below (gQ none (gM E M') (gx_A E)) args s 0 0 (gx_A E)) (F0 m 285 ls []) := by
        intro x2 x3 x4 M H locs ls h hM hS hl
        unfold mm_step_J285 at h
        refine lv_aload_n hx hb dX2_step_285 rfl (lv_at hl 0 rfl) ?_
        refine lv_iload hx hb dX2_step_286 (lv_at hl 3 rfl) ?_
        refine lv_iload_n hx hb dX2_step_288 rfl (lv_at hl 2 rfl) ?_
        refine lv_iconst (v := 0) hx hb dX2_step_289 (by decide) ?_
        refine lv_iconst (v := 0) hx hb dX2_step_290 (by decide) ?_
        refine lv_iconst (v := 0) hx hb dX2_step_291 (by decide) ?_
        refine lv_iload_n hx hb dX2_step_292 rfl (lv_at hl 1 rfl) ?_
        obtain ⟨q293, e293, h⟩ := g_bd h
        refine m_cV (y := yX2_newOp) (rest := []) dX2_step_293 q3172 q3174 qs83 q3175 hm_newOp S hE hM hS hl.1 rfl (wm_newOp E l _ _ _ _ _ _ _ _ _ e293) rfl (Nat.le_of_ble_eq_true rfl) ⟨by dsimp only; omega, by dsimp only; omega⟩ ⟨Nat.le_refl 0, Nat.le_refl 0⟩ (fun H locs hM hS => ?_)
        refine lv_pop hx hb dX2_step_296 rfl ?_
        refine lv_goto (tgt := 315) hx hb dX2_step_297 (by decide) ?_
        exact J315 q293.2 _ _ _ h hM hS (lv_sub hl [0] rfl)
      have J116 : ∀ (x2 x3 x4 : Int32) (M : MM) (H : Heap) (locs : List Loc) (ls : Array Slot), mm_step_J116 (mm_S28 d) x2 x3 x4 M = some M' → gM E M H → va_S (gx_A E) s.heap H locs → lv_has ls 5 [(0, .ref (gx_m E)), (2, .int x2), (3, .int x3), (4, .int x4)] → W p l e (gRm (76 + (d + 1)) 0 0) s m args below meth c H locs 0 0 (MQ below (gQ none (gM E M') (gx_A E)) args s 0 0 (gx_A E)) (F0 m 116 ls []) := by
        intro x2 x3 x4 M H locs ls h hM hS hl
        unfold mm_step_J116 at h
        refine lv_iload hx hb dX2_step_116 (lv_at hl 3 rfl) ?_
        refine lv_bipush (v := 41) hx hb dX2_step_118 (by decide) ?_
        refine lv_icmp_lt (tgt := 155) hx hb dX2_step_120 (by decide) (fun c120 => ?_) (fun c120 => ?_)
        · have h := g_it c120 h
          refine lv_iload hx hb dX2_step_155 (lv_at hl 3 rfl) ?_
          refine lv_bipush (v := 12) hx hb dX2_step_157 (by decide) ?_
          refine lv_icmp_ne (tgt := 180) hx hb dX2_step_159 (by decide) (fun c159 => ?_) (fun c159 => ?_)
          · have h := g_if c159 h
            refine lv_iload hx hb dX2_step_180 (lv_at hl 3 rfl) ?_
            refine lv_bipush (v := 13) hx hb dX2_step_182 (by decide) ?_
            refine lv_icmp_eq (tgt := 194) hx hb dX2_step_184 (by decide) (fun c184 => ?_) (fun c184 => ?_)
            · have h := g_it c184 h
              exact J194 x2 x3 x4 M _ _ _ h hM hS (lv_sub hl [0, 1, 2, 3] rfl)
            · have h := g_if c184 h
              refine lv_iload hx hb dX2_step_187 (lv_at hl 3 rfl) ?_
              refine lv_bipush (v := 14) hx hb dX2_step_189 (by decide) ?_
              refine lv_icmp_ne (tgt := 213) hx hb dX2_step_191 (by decide) (fun c191 => ?_) (fun c191 => ?_)
              · have h := g_if c191 h
                refine lv_iload hx hb dX2_step_213 (lv_at hl 3 rfl) ?_
                refine lv_bipush (v := 15) hx hb dX2_step_215 (by decide) ?_
                refine lv_icmp_eq (tgt := 227) hx hb dX2_step_217 (by decide) (fun c217 => ?_) (fun c217 => ?_)
                · have h := g_it c217 h
                  exact J227 x2 x3 x4 M _ _ _ h hM hS (lv_sub hl [0, 1, 2, 3] rfl)
                · have h := g_if c217 h
                  refine lv_iload hx hb dX2_step_220 (lv_at hl 3 rfl) ?_
                  refine lv_bipush (v := 16) hx hb dX2_step_222 (by decide) ?_
                  refine lv_icmp_ne (tgt := 246) hx hb dX2_step_224 (by decide) (fun c224 => ?_) (fun c224 => ?_)
                  · have h := g_if c224 h
                    refine lv_iload hx hb dX2_step_246 (lv_at hl 3 rfl) ?_
                    refine lv_bipush (v := 21) hx hb dX2_step_248 (by decide) ?_
                    refine lv_icmp_ne (tgt := 271) hx hb dX2_step_250 (by decide) (fun c250 => ?_) (fun c250 => ?_)
                    · have h := g_if c250 h
                      refine lv_iload hx hb dX2_step_271 (lv_at hl 3 rfl) ?_
                      refine lv_bipush (v := 9) hx hb dX2_step_273 (by decide) ?_
                      refine lv_icmp_eq (tgt := 285) hx hb dX2_step_275 (by decide) (fun c275 => ?_) (fun c275 => ?_)
                      · have h := g_it c275 h
                        exact J285 x2 x3 x4 M _ _ _ h hM hS (lv_sub hl [0, 1, 2, 3] rfl)
                      · have h := g_if c275 h
                        refine lv_iload hx hb dX2_step_278 (lv_at hl 3 rfl) ?_
                        refine lv_bipush (v := 22) hx hb dX2_step_280 (by decide) ?_
                        refine lv_icmp_ne (tgt := 300) hx hb dX2_step_282 (by decide) (fun c282 => ?_) (fun c282 => ?_)
                        · have h := g_if c282 h
                          refine lv_aload_n hx hb dX2_step_300 rfl (lv_at hl 0 rfl) ?_
                          refine lv_iload hx hb dX2_step_301 (lv_at hl 3 rfl) ?_
                          refine lv_iload_n hx hb dX2_step_303 rfl (lv_at hl 2 rfl) ?_
                          refine lv_aload_n hx hb dX2_step_304 rfl (lv_at hl 0 rfl) ?_
                          obtain ⟨q305, e305, h⟩ := g_bd h
                          refine m_cV (y := yX2_expression) (rest := [.int x3, .int x4, .ref (gx_m E)]) dX2_step_305 q3140 q3142 qs75 q3143 hm_expression S hE hM hS hl.1 rfl (wm_expression E l _ _ _ e305) rfl (Nat.le_of_ble_eq_true rfl) ⟨by dsimp only; omega, by dsimp only; omega⟩ ⟨Nat.le_refl 0, Nat.le_refl 0⟩ (fun H locs hM hS => ?_)
                          refine lv_iconst (v := 0) hx hb dX2_step_308 (by decide) ?_
                          refine lv_iconst (v := 0) hx hb dX2_step_309 (by decide) ?_
                          refine lv_iload_n hx hb dX2_step_310 rfl (lv_at hl 1 rfl) ?_
                          obtain ⟨q311, e311, h⟩ := g_bd h
                          refine m_cV (y := yX2_newOp) (rest := []) dX2_step_311 q3172 q3174 qs83 q3175 hm_newOp S hE hM hS hl.1 rfl (wm_newOp E l _ _ _ _ _ _ _ _ _ e311) rfl (Nat.le_of_ble_eq_true rfl) ⟨by dsimp only; omega, by dsimp only; omega⟩ ⟨Nat.le_refl 0, Nat.le_refl 0⟩ (fun H locs hM hS => ?_)
                          refine lv_pop hx hb dX2_step_314 rfl ?_
                          exact J315 q311.2 _ _ _ h hM hS (lv_sub hl [0] rfl)
                        · have h := g_it c282 h
                          exact J285 x2 x3 x4 M _ _ _ h hM hS (lv_sub hl [0, 1, 2, 3] rfl)
                    · have h := g_it c250 h
                      refine lv_aload_n hx hb dX2_step_253 rfl (lv_at hl 0 rfl) ?_
                      refine lv_iload hx hb dX2_step_254 (lv_at hl 3 rfl) ?_
                      refine lv_iload_n hx hb dX2_step_256 rfl (lv_at hl 2 rfl) ?_
                      refine lv_aload_n hx hb dX2_step_257 rfl (lv_at hl 0 rfl) ?_
                      refine mg_loop dX2_step_258 S hE hM ?_
                      refine lv_iconst (v := 0) hx hb dX2_step_261 (by decide) ?_
                      refine lv_iconst (v := 0) hx hb dX2_step_262 (by decide) ?_
                      refine lv_iload_n hx hb dX2_step_263 rfl (lv_at hl 1 rfl) ?_
                      obtain ⟨q264, e264, h⟩ := g_bd h
                      refine m_cV (y := yX2_newOp) (rest := []) dX2_step_264 q3172 q3174 qs83 q3175 hm_newOp S hE hM hS hl.1 rfl (wm_newOp E l _ _ _ _ _ _ _ _ _ e264) rfl (Nat.le_of_ble_eq_true rfl) ⟨by dsimp only; omega, by dsimp only; omega⟩ ⟨Nat.le_refl 0, Nat.le_refl 0⟩ (fun H locs hM hS => ?_)
                      refine lv_pop hx hb dX2_step_267 rfl ?_
                      refine lv_goto (tgt := 315) hx hb dX2_step_268 (by decide) ?_
                      exact J315 q264.2 _ _ _ h hM hS (lv_sub hl [0] rfl)
                  · have h := g_it c224 h
                    exact J227 x2 x3 x4 M _ _ _ h hM hS (lv_sub hl [0, 1, 2, 3] rfl)
              · have h := g_it c191 h
                exact J194 x2 x3 x4 M _ _ _ h hM hS (lv_sub hl [0, 1, 2, 3] rfl)
          · have h := g_it c159 h
            refine lv_aload_n hx hb dX2_step_162 rfl (lv_at hl 0 rfl) ?_
            refine lv_iload hx hb dX2_step_163 (lv_at hl 3 rfl) ?_
            refine lv_iload_n hx hb dX2_step_165 rfl (lv_at hl 2 rfl) ?_
            refine lv_aload_n hx hb dX2_step_166 rfl (lv_at hl 0 rfl) ?_
            obtain ⟨q167, e167, h⟩ := g_bd h
            refine m_cV (y := yX2_condition) (rest := [.int x3, .int x4, .ref (gx_m E)]) dX2_step_167 q3176 q3178 qs84 q3179 hm_condition S hE hM hS hl.1 rfl (wm_condition E l _ _ _ e167) rfl (Nat.le_of_ble_eq_true rfl) ⟨by dsimp only; omega, by dsimp only; omega⟩ ⟨Nat.le_refl 0, Nat.le_refl 0⟩ (fun H locs hM hS => ?_)
            refine lv_iconst (v := 0) hx hb dX2_step_170 (by decide) ?_
            refine lv_iconst (v := 0) hx hb dX2_step_171 (by decide) ?_
            refine lv_iload_n hx hb dX2_step_172 rfl (lv_at hl 1 rfl) ?_
            obtain ⟨q173, e173, h⟩ := g_bd h
            refine m_cV (y := yX2_newOp) (rest := []) dX2_step_173 q3172 q3174 qs83 q3175 hm_newOp S hE hM hS hl.1 rfl (wm_newOp E l _ _ _ _ _ _ _ _ _ e173) rfl (Nat.le_of_ble_eq_true rfl) ⟨by dsimp only; omega, by dsimp only; omega⟩ ⟨Nat.le_refl 0, Nat.le_refl 0⟩ (fun H locs hM hS => ?_)
            refine lv_pop hx hb dX2_step_176 rfl ?_
            refine lv_goto (tgt := 315) hx hb dX2_step_177 (by decide) ?_
            exact J315 q173.2 _ _ _ h hM hS (lv_sub hl [0] rfl)
        · have h := g_if c120 h
          refine lv_aload_n hx hb dX2_step_123 rfl (lv_at hl 0 rfl) ?_
          refine lv_bipush (v := 61) hx hb dX2_step_124 (by decide) ?_
          obtain ⟨q126, e126, h⟩ := g_bd h
          refine m_cV (y := yX2_need) (rest := []) dX2_step_126 q3160 q3162 qs80 q3163 hm_need S hE hM hS hl.1 rfl (wm_need E l _ _ _ _ e126) rfl (Nat.le_of_ble_eq_true rfl) ⟨by dsimp only; omega, by dsimp only; omega⟩ ⟨Nat.le_refl 0, Nat.le_refl 0⟩ (fun H locs hM hS => ?_)
          refine lv_if_ne (tgt := 133) hx hb dX2_step_129 (by decide) (fun c129 => ?_) (fun c129 => ?_)
          · have h := g_if c129 h
            refine lv_aload_n hx hb dX2_step_133 rfl (lv_at hl 0 rfl) ?_
            refine lv_bipush (v := 50) hx hb dX2_step_134 (by decide) ?_
            refine lv_iload_n hx hb dX2_step_136 rfl (lv_at hl 2 rfl) ?_
            refine lv_aload_n hx hb dX2_step_137 rfl (lv_at hl 0 rfl) ?_
            obtain ⟨q138, e138, h⟩ := g_bd h
            refine m_cV (y := yX2_expression) (rest := [.int x3, .int 50, .ref (gx_m E)]) dX2_step_138 q3140 q3142 qs75 q3143 hm_expression S hE hM hS hl.1 rfl (wm_expression E l _ _ _ e138) rfl (Nat.le_of_ble_eq_true rfl) ⟨by dsimp only; omega, by dsimp only; omega⟩ ⟨Nat.le_refl 0, Nat.le_refl 0⟩ (fun H locs hM hS => ?_)
            refine lv_iload hx hb dX2_step_141 (lv_at hl 3 rfl) ?_
            refine lv_bipush (v := 41) hx hb dX2_step_143 (by decide) ?_
            refine lv_isub hx hb dX2_step_145 ?_
            refine lv_iconst (v := 0) hx hb dX2_step_146 (by decide) ?_
            refine lv_iload_n hx hb dX2_step_147 rfl (lv_at hl 1 rfl) ?_
            obtain ⟨q148, e148, h⟩ := g_bd h
            refine m_cV (y := yX2_newOp) (rest := []) dX2_step_148 q3172 q3174 qs83 q3175 hm_newOp S hE hM hS hl.1 rfl (wm_newOp E l _ _ _ _ _ _ _ _ _ e148) rfl (Nat.le_of_ble_eq_true rfl) ⟨by dsimp only; omega, by dsimp only; omega⟩ ⟨Nat.le_refl 0, Nat.le_refl 0⟩ (fun H locs hM hS => ?_)
            refine lv_pop hx hb dX2_step_151 rfl ?_
            refine lv_goto (tgt := 315) hx hb dX2_step_152 (by decide) ?_
            exact J315 q148.2 _ _ _ h hM hS (lv_sub hl [0] rfl)
          · have h := g_it c129 h
            exact m_vretW dX2_step_132 S hr hk hM hS h
      have J70 : ∀ (x1 x2 x3 x4 : Int32) (M : MM) (H : Heap) (locs : List Loc) (ls : Array Slot), mm_step_J70 (mm_S28 d) x1 x2 x3 x4 M = some M' → gM E M H → va_S (gx_A E) s.heap H locs → lv_has ls 5 [(0, .ref (gx_m E)), (1, .int x1), (2, .int x2), (3, .int x3), (4, .int x4)] → W p l e (gRm (76 + (d + 1)) 0 0) s m args below meth c H locs 0 0 (MQ below (gQ none (gM E M') (gx_A E)) args s 0 0 (gx_A E)) (F0 m 70 ls []) := by
        intro x1 x2 x3 x4 M H locs ls h hM hS hl
        unfold mm_step_J70 at h
        refine lv_aload_n hx hb dX2_step_70 rfl (lv_at hl 0 rfl) ?_
        refine mg_fault dX2_step_71 S hE hM ?_
        refine lv_if_eq (tgt := 78) hx hb dX2_step_74 (by decide) (fun c74 => ?_) (fun c74 => ?_)
        · have h := g_it c74 h
          refine lv_aload_n hx hb dX2_step_78 rfl (lv_at hl 0 rfl) ?_
          refine lv_dup hx hb dX2_step_79 rfl ?_
          refine mg_steps dX2_step_80 S hE hM ?_
          refine lv_iconst (v := 1) hx hb dX2_step_83 (by decide) ?_
          refine lv_iadd hx hb dX2_step_84 ?_
          obtain ⟨M85, e85, h⟩ := g_bd h
          refine mp_steps dX2_step_85 S hE hM hS e85 (fun H locs hM hS => ?_)
          refine lv_aload_n hx hb dX2_step_88 rfl (lv_at hl 0 rfl) ?_
          obtain ⟨M89, e89, h⟩ := g_bd h
          refine m_cV (y := yX2_cut) (rest := []) dX2_step_89 q3057 q3059 qs57 q3060 hm_cut S hE hM hS hl.1 rfl (wm_cut E l _ _ e89) rfl (Nat.le_of_ble_eq_true rfl) ⟨by dsimp only; omega, by dsimp only; omega⟩ ⟨Nat.le_refl 0, Nat.le_refl 0⟩ (fun H locs hM hS => ?_)
          refine lv_iload hx hb dX2_step_92 (lv_at hl 4 rfl) ?_
          refine lv_bipush (v := 17) hx hb dX2_step_94 (by decide) ?_
          refine lv_icmp_lt (tgt := 116) hx hb dX2_step_96 (by decide) (fun c96 => ?_) (fun c96 => ?_)
          · have h := g_it c96 h
            exact J116 x2 x3 x4 M89 _ _ _ h hM hS (lv_sub hl [0, 2, 3, 4] rfl)
          · have h := g_if c96 h
            refine lv_iload hx hb dX2_step_99 (lv_at hl 4 rfl) ?_
            refine lv_bipush (v := 20) hx hb dX2_step_101 (by decide) ?_
            refine lv_icmp_gt (tgt := 116) hx hb dX2_step_103 (by decide) (fun c103 => ?_) (fun c103 => ?_)
            · have h := g_it c103 h
              exact J116 x2 x3 x4 M89 _ _ _ h hM hS (lv_sub hl [0, 2, 3, 4] rfl)
            · have h := g_if c103 h
              refine lv_aload_n hx hb dX2_step_106 rfl (lv_at hl 0 rfl) ?_
              refine lv_iload hx hb dX2_step_107 (lv_at hl 4 rfl) ?_
              refine lv_iload_n hx hb dX2_step_109 rfl (lv_at hl 3 rfl) ?_
              refine lv_iload_n hx hb dX2_step_110 rfl (lv_at hl 1 rfl) ?_
              refine lv_iload_n hx hb dX2_step_111 rfl (lv_at hl 2 rfl) ?_
              obtain ⟨M112, e112, h⟩ := g_bd h
              refine m_cV (y := yX2_blocks) (rest := []) dX2_step_112 q3136 q3138 qs74 q3139 hm_blocks S hE hM hS hl.1 rfl (ihd.2.2 _ _ _ _ _ _ e112) rfl (Nat.le_of_ble_eq_true rfl) ⟨by dsimp only; omega, by dsimp only; omega⟩ ⟨Nat.le_refl 0, Nat.le_refl 0⟩ (fun H locs hM hS => ?_)
              exact m_vretW dX2_step_115 S hr hk hM hS h
        · have h := g_if c74 h
          exact m_vretW dX2_step_77 S hr hk hM hS h
      have J27 : ∀ (x1 x2 x3 x4 : Int32) (M : MM) (H : Heap) (locs : List Loc) (ls : Array Slot), mm_step_J27 (mm_S28 d) x1 x2 x3 x4 M = some M' → gM E M H → va_S (gx_A E) s.heap H locs → lv_has ls 5 [(0, .ref (gx_m E)), (1, .int x1), (2, .int x2), (3, .int x3), (4, .int x4)] → W p l e (gRm (76 + (d + 1)) 0 0) s m args below meth c H locs 0 0 (MQ below (gQ none (gM E M') (gx_A E)) args s 0 0 (gx_A E)) (F0 m 27 ls []) := by
        intro x1 x2 x3 x4 M H locs ls h hM hS hl
        unfold mm_step_J27 at h
        refine lv_aload_n hx hb dX2_step_27 rfl (lv_at hl 0 rfl) ?_
        refine lv_iconst (v := 1) hx hb dX2_step_28 (by decide) ?_
        refine lv_iload_n hx hb dX2_step_29 rfl (lv_at hl 3 rfl) ?_
        obtain ⟨M30, e30, h⟩ := g_bd h
        refine m_cV (y := yX2_wrong) (rest := []) dX2_step_30 q3089 q3091 qs63 q3092 hm_wrong S hE hM hS hl.1 rfl (wm_wrong E l _ _ _ _ e30) rfl (Nat.le_of_ble_eq_true rfl) ⟨by dsimp only; omega, by dsimp only; omega⟩ ⟨Nat.le_refl 0, Nat.le_refl 0⟩ (fun H locs hM hS => ?_)
        refine lv_goto (tgt := 70) hx hb dX2_step_33 (by decide) ?_
        exact J70 x1 x2 x3 x4 M30 _ _ _ h hM hS (lv_sub hl [0, 1, 2, 3, 4] rfl)
      have h : mm_step_B (mm_S28 d) x1 x2 M = some M' := h
      unfold mm_step_B at h
      refine lv_aload_n hx hb dX2_step_0 rfl (lv_at hl 0 rfl) ?_
      refine mg_begins dX2_step_1 S hE hM ?_
      refine lv_istore_n (lv' := [(3, .int (M 8 0)), (0, .ref (gx_m E)), (1, .int x1), (2, .int x2)]) hx hb dX2_step_4 rfl hl (by decide) rfl (fun ls hl => ?_)
      refine lv_aload_n hx hb dX2_step_5 rfl (lv_at hl 1 rfl) ?_
      refine mg_word dX2_step_6 S hE hM ?_
      refine lv_istore (lv' := [(4, .int (M 11 0)), (3, .int (M 8 0)), (0, .ref (gx_m E)), (1, .int x1), (2, .int x2)]) hx hb dX2_step_9 hl (by decide) rfl (fun ls hl => ?_)
      refine lv_aload_n hx hb dX2_step_11 rfl (lv_at hl 2 rfl) ?_
      refine mg_token dX2_step_12 S hE hM ?_
      refine lv_iconst (v := 1) hx hb dX2_step_15 (by decide) ?_
      refine lv_icmp_ne (tgt := 27) hx hb dX2_step_16 (by decide) (fun c16 => ?_) (fun c16 => ?_)
      · have h := g_if c16 h
        exact J27 x1 x2 (M 8 0) (M 11 0) M _ _ _ h hM hS (lv_sub hl [2, 3, 4, 1, 0] rfl)
      · have h := g_it c16 h
        refine lv_iload hx hb dX2_step_19 (lv_at hl 0 rfl) ?_
        obtain ⟨v21, e21, h⟩ := g_bd h
        refine m_cS (y := yX2_isStep) (rest := []) dX2_step_21 q3129 q3130 q3131 hm_isStep S hE hM hS hl.1 rfl (wm_isStep E l _ _ _ e21) rfl (Nat.le_of_ble_eq_true rfl) ⟨by dsimp only; omega, by dsimp only; omega⟩ ⟨Nat.le_refl 0, Nat.le_refl 0⟩ (fun H locs hM hS => ?_)
        refine lv_if_ne (tgt := 36) hx hb dX2_step_24 (by decide) (fun c24 => ?_) (fun c24 => ?_)
        · have h := g_if c24 h
          refine lv_aload_n hx hb dX2_step_36 rfl (lv_at hl 2 rfl) ?_
          refine mg_steps dX2_step_37 S hE hM ?_
          refine lv_sipush (v := 150) hx hb dX2_step_40 (by decide) ?_
          refine lv_icmp_ne (tgt := 55) hx hb dX2_step_43 (by decide) (fun c43 => ?_) (fun c43 => ?_)
          · have h := g_if c43 h
            refine lv_aload_n hx hb dX2_step_55 rfl (lv_at hl 2 rfl) ?_
            refine lv_iload hx hb dX2_step_56 (lv_at hl 0 rfl) ?_
            obtain ⟨v58, e58, h⟩ := g_bd h
            refine m_cV (y := yX2_fits) (rest := []) dX2_step_58 q3132 q3134 qs73 q3135 hm_fits S hE hM hS hl.1 rfl (wm_fits E l _ _ _ e58) rfl (Nat.le_of_ble_eq_true rfl) ⟨by dsimp only; omega, by dsimp only; omega⟩ ⟨Nat.le_refl 0, Nat.le_refl 0⟩ (fun H locs hM hS => ?_)
            refine lv_if_ne (tgt := 70) hx hb dX2_step_61 (by decide) (fun c61 => ?_) (fun c61 => ?_)
            · have h := g_if c61 h
              exact J70 x1 x2 (M 8 0) (M 11 0) M _ _ _ h hM hS (lv_sub hl [2, 3, 4, 1, 0] rfl)
            · have h := g_it c61 h
              refine lv_aload_n hx hb dX2_step_64 rfl (lv_at hl 2 rfl) ?_
              refine lv_iconst (v := 5) hx hb dX2_step_65 (by decide) ?_
              refine lv_iload_n hx hb dX2_step_66 rfl (lv_at hl 1 rfl) ?_
              obtain ⟨M67, e67, h⟩ := g_bd h
              refine m_cV (y := yX2_wrong) (rest := []) dX2_step_67 q3089 q3091 qs63 q3092 hm_wrong S hE hM hS hl.1 rfl (wm_wrong E l _ _ _ _ e67) rfl (Nat.le_of_ble_eq_true rfl) ⟨by dsimp only; omega, by dsimp only; omega⟩ ⟨Nat.le_refl 0, Nat.le_refl 0⟩ (fun H locs hM hS => ?_)
              exact J70 x1 x2 (M 8 0) (M 11 0) M67 _ _ _ h hM hS (lv_sub hl [2, 3, 4, 1, 0] rfl)
          · have h := g_it c43 h
            refine lv_aload_n hx hb dX2_step_46 rfl (lv_at hl 2 rfl) ?_
            refine lv_iconst (v := 4) hx hb dX2_step_47 (by decide) ?_
            refine lv_iload_n hx hb dX2_step_48 rfl (lv_at hl 1 rfl) ?_
            obtain ⟨M49, e49, h⟩ := g_bd h
            refine m_cV (y := yX2_wrong) (rest := []) dX2_step_49 q3089 q3091 qs63 q3092 hm_wrong S hE hM hS hl.1 rfl (wm_wrong E l _ _ _ _ e49) rfl (Nat.le_of_ble_eq_true rfl) ⟨by dsimp only; omega, by dsimp only; omega⟩ ⟨Nat.le_refl 0, Nat.le_refl 0⟩ (fun H locs hM hS => ?_)
            refine lv_goto (tgt := 70) hx hb dX2_step_52 (by decide) ?_
            exact J70 x1 x2 (M 8 0) (M 11 0) M49 _ _ _ h hM hS (lv_sub hl [2, 3, 4, 1, 0] rfl)
        · have h := g_it c24 h
          exact J27 x1 x2 (M 8 0) (M 11 0) M _ _ _ h hM hS (lv_sub hl [2, 3, 4, 1, 0] rfl)
    · intro x1 x2 x3 x4 M M' h
      refine gMet.of (own := RX2) (by decide +kernel) (Nat.le_of_ble_eq_true rfl) rfl ?_
      intro p e s m args below meth c S hr hk hnm hE hM hS ls hl
      have hl : lv_has ls 8 [(0, .ref (gx_m E)), (1, .int x1), (2, .int x2), (3, .int x3), (4, .int x4)] := hl
      have hx := S.1
      have hb := S.2.1
      have J109 : ∀ (x5 : Int32) (M : MM) (H : Heap) (locs : List Loc) (ls : Array Slot), mm_blocks_J109 (mm_S28 d) x5 M = some M' → gM E M H → va_S (gx_A E) s.heap H locs → lv_has ls 8 [(0, .ref (gx_m E)), (5, .int x5)] → W p l e (gRm (76 + (d + 1)) 0 0) s m args below meth c H locs 0 0 (MQ below (gQ none (gM E M') (gx_A E)) args s 0 0 (gx_A E)) (F0 m 109 ls []) := by
        intro x5 M H locs ls h hM hS hl
        unfold mm_blocks_J109 at h
        refine lv_aload_n hx hb dX2_blocks_109 rfl (lv_at hl 0 rfl) ?_
        refine lv_iload hx hb dX2_blocks_110 (lv_at hl 1 rfl) ?_
        obtain ⟨M112, e112, h⟩ := g_bd h
        refine mp_loop dX2_blocks_112 S hE hM hS e112 (fun H locs hM hS => ?_)
        exact m_vretW dX2_blocks_115 S hr hk hM hS h
      have J87 : ∀ (x2 x3 x4 x5 x7 s1 : Int32) (M : MM) (H : Heap) (locs : List Loc) (ls : Array Slot), mm_blocks_J87 (mm_S28 d) x2 x3 x4 x5 x7 s1 M = some M' → gM E M H → va_S (gx_A E) s.heap H locs → lv_has ls 8 [(0, .ref (gx_m E)), (2, .int x2), (3, .int x3), (4, .int x4), (5, .int x5), (7, .int x7)] → W p l e (gRm (76 + (d + 1)) 0 0) s m args below meth c H locs 0 0 (MQ below (gQ none (gM E M') (gx_A E)) args s 0 0 (gx_A E)) (F0 m 87 ls [.int s1, .ref (gx_m E)]) := by
        intro x2 x3 x4 x5 x7 s1 M H locs ls h hM hS hl
        unfold mm_blocks_J87 at h
        refine lv_iload_n hx hb dX2_blocks_87 rfl (lv_at hl 1 rfl) ?_
        refine lv_iload hx hb dX2_blocks_88 (lv_at hl 5 rfl) ?_
        refine lv_iconst (v := 0) hx hb dX2_blocks_90 (by decide) ?_
        refine lv_iload_n hx hb dX2_blocks_91 rfl (lv_at hl 2 rfl) ?_
        refine lv_iload hx hb dX2_blocks_92 (lv_at hl 3 rfl) ?_
        obtain ⟨q94, e94, h⟩ := g_bd h
        refine m_cV (y := yX2_newOp) (rest := []) dX2_blocks_94 q3172 q3174 qs83 q3175 hm_newOp S hE hM hS hl.1 rfl (wm_newOp E l _ _ _ _ _ _ _ _ _ e94) rfl (Nat.le_of_ble_eq_true rfl) ⟨by dsimp only; omega, by dsimp only; omega⟩ ⟨Nat.le_refl 0, Nat.le_refl 0⟩ (fun H locs hM hS => ?_)
        refine lv_pop hx hb dX2_blocks_97 rfl ?_
        refine lv_aload_n hx hb dX2_blocks_98 rfl (lv_at hl 0 rfl) ?_
        refine ma_opB dX2_blocks_99 S hE hM ?_
        refine lv_iload hx hb dX2_blocks_102 (lv_at hl 5 rfl) ?_
        refine lv_aload_n hx hb dX2_blocks_104 rfl (lv_at hl 0 rfl) ?_
        refine mg_ops dX2_blocks_105 S hE hM ?_
        obtain ⟨M108, e108, h⟩ := g_bd h
        refine m_ast 38 dX2_blocks_108 (by decide) rfl S hE hM hS e108 (fun H locs hM hS => ?_)
        exact J109 x5 M108 _ _ _ h hM hS (lv_sub hl [0, 4] rfl)
      have J32 : ∀ (x1 x2 x3 x4 x5 s0 : Int32) (M : MM) (H : Heap) (locs : List Loc) (ls : Array Slot), mm_blocks_J32 (mm_S28 d) x1 x2 x3 x4 x5 s0 M = some M' → gM E M H → va_S (gx_A E) s.heap H locs → lv_has ls 8 [(0, .ref (gx_m E)), (1, .int x1), (2, .int x2), (3, .int x3), (4, .int x4), (5, .int x5)] → W p l e (gRm (76 + (d + 1)) 0 0) s m args below meth c H locs 0 0 (MQ below (gQ none (gM E M') (gx_A E)) args s 0 0 (gx_A E)) (F0 m 32 ls [.int s0]) := by
        intro x1 x2 x3 x4 x5 s0 M H locs ls h hM hS hl
        unfold mm_blocks_J32 at h
        refine lv_istore (lv' := [(6, .int s0), (0, .ref (gx_m E)), (1, .int x1), (2, .int x2), (3, .int x3), (4, .int x4), (5, .int x5)]) hx hb dX2_blocks_32 hl (by decide) rfl (fun ls hl => ?_)
        refine lv_aload_n hx hb dX2_blocks_34 rfl (lv_at hl 1 rfl) ?_
        refine lv_iload_n hx hb dX2_blocks_35 rfl (lv_at hl 2 rfl) ?_
        refine lv_iload_n hx hb dX2_blocks_36 rfl (lv_at hl 3 rfl) ?_
        refine lv_iload hx hb dX2_blocks_37 (lv_at hl 0 rfl) ?_
        refine lv_iconst (v := 0) hx hb dX2_blocks_39 (by decide) ?_
        refine lv_iload_n hx hb dX2_blocks_40 rfl (lv_at hl 4 rfl) ?_
        refine lv_iload hx hb dX2_blocks_41 (lv_at hl 5 rfl) ?_
        obtain ⟨q43, e43, h⟩ := g_bd h
        refine m_cV (y := yX2_newOp) (rest := []) dX2_blocks_43 q3172 q3174 qs83 q3175 hm_newOp S hE hM hS hl.1 rfl (wm_newOp E l _ _ _ _ _ _ _ _ _ e43) rfl (Nat.le_of_ble_eq_true rfl) ⟨by dsimp only; omega, by dsimp only; omega⟩ ⟨Nat.le_refl 0, Nat.le_refl 0⟩ (fun H locs hM hS => ?_)
        refine lv_istore (lv' := [(7, .int q43.1), (6, .int s0), (0, .ref (gx_m E)), (1, .int x1), (2, .int x2), (3, .int x3), (4, .int x4), (5, .int x5)]) hx hb dX2_blocks_46 hl (by decide) rfl (fun ls hl => ?_)
        refine lv_aload_n hx hb dX2_blocks_48 rfl (lv_at hl 2 rfl) ?_
        refine lv_iload hx hb dX2_blocks_49 (lv_at hl 0 rfl) ?_
        obtain ⟨M51, e51, h⟩ := g_bd h
        refine mp_loop dX2_blocks_51 S hE hM hS e51 (fun H locs hM hS => ?_)
        refine lv_aload_n hx hb dX2_blocks_54 rfl (lv_at hl 2 rfl) ?_
        refine mg_fault dX2_blocks_55 S hE hM ?_
        refine lv_if_ne (tgt := 109) hx hb dX2_blocks_58 (by decide) (fun c58 => ?_) (fun c58 => ?_)
        · have h := g_if c58 h
          exact J109 x5 M51 _ _ _ h hM hS (lv_sub hl [2, 7] rfl)
        · have h := g_it c58 h
          refine lv_aload_n hx hb dX2_blocks_61 rfl (lv_at hl 2 rfl) ?_
          refine lv_iload_n hx hb dX2_blocks_62 rfl (lv_at hl 5 rfl) ?_
          refine lv_iconst (v := 1) hx hb dX2_blocks_63 (by decide) ?_
          refine lv_iadd hx hb dX2_blocks_64 ?_
          refine lv_iload hx hb dX2_blocks_65 (lv_at hl 6 rfl) ?_
          obtain ⟨q67, e67, h⟩ := g_bd h
          refine m_cV (y := yX2_block) (rest := []) dX2_blocks_67 q3117 q3119 qs70 q3120 hm_block S hE hM hS hl.1 rfl (ihd.1 _ _ _ _ _ e67) rfl (Nat.le_of_ble_eq_true rfl) ⟨by dsimp only; omega, by dsimp only; omega⟩ ⟨Nat.le_refl 0, Nat.le_refl 0⟩ (fun H locs hM hS => ?_)
          refine lv_if_eq (tgt := 109) hx hb dX2_blocks_70 (by decide) (fun c70 => ?_) (fun c70 => ?_)
          · have h := g_it c70 h
            exact J109 x5 q67.2 _ _ _ h hM hS (lv_sub hl [2, 7] rfl)
          · have h := g_if c70 h
            refine lv_aload_n hx hb dX2_blocks_73 rfl (lv_at hl 2 rfl) ?_
            refine lv_iload_n hx hb dX2_blocks_74 rfl (lv_at hl 3 rfl) ?_
            refine lv_bipush (v := 17) hx hb dX2_blocks_75 (by decide) ?_
            refine lv_icmp_ne (tgt := 85) hx hb dX2_blocks_77 (by decide) (fun c77 => ?_) (fun c77 => ?_)
            · have h := g_if c77 h
              refine lv_bipush (v := 53) hx hb dX2_blocks_85 (by decide) ?_
              exact J87 x2 x3 x4 x5 q43.1 53 q67.2 _ _ _ h hM hS (lv_sub hl [2, 4, 5, 6, 7, 0] rfl)
            · have h := g_it c77 h
              refine lv_bipush (v := 52) hx hb dX2_blocks_80 (by decide) ?_
              refine lv_goto (tgt := 87) hx hb dX2_blocks_82 (by decide) ?_
              exact J87 x2 x3 x4 x5 q43.1 52 q67.2 _ _ _ h hM hS (lv_sub hl [2, 4, 5, 6, 7, 0] rfl)
      have J18 : ∀ (x1 x2 x3 x4 x5 : Int32) (M : MM) (H : Heap) (locs : List Loc) (ls : Array Slot), mm_blocks_J18 (mm_S28 d) x1 x2 x3 x4 x5 M = some M' → gM E M H → va_S (gx_A E) s.heap H locs → lv_has ls 8 [(0, .ref (gx_m E)), (1, .int x1), (2, .int x2), (3, .int x3), (4, .int x4), (5, .int x5)] → W p l e (gRm (76 + (d + 1)) 0 0) s m args below meth c H locs 0 0 (MQ below (gQ none (gM E M') (gx_A E)) args s 0 0 (gx_A E)) (F0 m 18 ls []) := by
        intro x1 x2 x3 x4 x5 M H locs ls h hM hS hl
        unfold mm_blocks_J18 at h
        refine lv_iload_n hx hb dX2_blocks_18 rfl (lv_at hl 1 rfl) ?_
        refine lv_bipush (v := 17) hx hb dX2_blocks_19 (by decide) ?_
        refine lv_icmp_ne (tgt := 31) hx hb dX2_blocks_21 (by decide) (fun c21 => ?_) (fun c21 => ?_)
        · have h := g_if c21 h
          refine lv_iconst (v := (-1)) hx hb dX2_blocks_31 (by decide) ?_
          exact J32 x1 x2 x3 x4 x5 (-1) M _ _ _ h hM hS (lv_sub hl [0, 1, 2, 3, 4, 5] rfl)
        · have h := g_it c21 h
          refine lv_aload_n hx hb dX2_blocks_24 rfl (lv_at hl 0 rfl) ?_
          obtain ⟨q25, e25, h⟩ := g_bd h
          refine m_cV (y := yX2_expression) (rest := []) dX2_blocks_25 q3140 q3142 qs75 q3143 hm_expression S hE hM hS hl.1 rfl (wm_expression E l _ _ _ e25) rfl (Nat.le_of_ble_eq_true rfl) ⟨by dsimp only; omega, by dsimp only; omega⟩ ⟨Nat.le_refl 0, Nat.le_refl 0⟩ (fun H locs hM hS => ?_)
          refine lv_goto (tgt := 32) hx hb dX2_blocks_28 (by decide) ?_
          exact J32 x1 x2 x3 x4 x5 q25.1 q25.2 _ _ _ h hM hS (lv_sub hl [0, 1, 2, 3, 4, 5] rfl)
      have J206 : ∀ (x7 : Int32) (M : MM) (H : Heap) (locs : List Loc) (ls : Array Slot), mm_blocks_J206 (mm_S28 d) x7 M = some M' → gM E M H → va_S (gx_A E) s.heap H locs → lv_has ls 8 [(0, .ref (gx_m E)), (7, .int x7)] → W p l e (gRm (76 + (d + 1)) 0 0) s m args below meth c H locs 0 0 (MQ below (gQ none (gM E M') (gx_A E)) args s 0 0 (gx_A E)) (F0 m 206 ls []) := by
        intro x7 M H locs ls h hM hS hl
        unfold mm_blocks_J206 at h
        refine lv_aload_n hx hb dX2_blocks_206 rfl (lv_at hl 0 rfl) ?_
        refine ma_opB dX2_blocks_207 S hE hM ?_
        refine lv_iload hx hb dX2_blocks_210 (lv_at hl 1 rfl) ?_
        refine lv_aload_n hx hb dX2_blocks_212 rfl (lv_at hl 0 rfl) ?_
        refine mg_ops dX2_blocks_213 S hE hM ?_
        obtain ⟨M216, e216, h⟩ := g_bd h
        refine m_ast 38 dX2_blocks_216 (by decide) rfl S hE hM hS e216 (fun H locs hM hS => ?_)
        exact m_vretW dX2_blocks_217 S hr hk hM hS h
      have h : mm_blocks_B (mm_S28 d) x1 x2 x3 x4 M = some M' := h
      unfold mm_blocks_B at h
      refine lv_aload_n hx hb dX2_blocks_0 rfl (lv_at hl 0 rfl) ?_
      refine mg_loop dX2_blocks_1 S hE hM ?_
      refine lv_istore (lv' := [(5, .int (M 54 0)), (0, .ref (gx_m E)), (1, .int x1), (2, .int x2), (3, .int x3), (4, .int x4)]) hx hb dX2_blocks_4 hl (by decide) rfl (fun ls hl => ?_)
      refine lv_iload_n hx hb dX2_blocks_6 rfl (lv_at hl 2 rfl) ?_
      refine lv_bipush (v := 17) hx hb dX2_blocks_7 (by decide) ?_
      refine lv_icmp_eq (tgt := 18) hx hb dX2_blocks_9 (by decide) (fun c9 => ?_) (fun c9 => ?_)
      · have h := g_it c9 h
        exact J18 x1 x2 x3 x4 (M 54 0) M _ _ _ h hM hS (lv_sub hl [1, 2, 3, 4, 5, 0] rfl)
      · have h := g_if c9 h
        refine lv_iload_n hx hb dX2_blocks_12 rfl (lv_at hl 2 rfl) ?_
        refine lv_bipush (v := 18) hx hb dX2_blocks_13 (by decide) ?_
        refine lv_icmp_ne (tgt := 116) hx hb dX2_blocks_15 (by decide) (fun c15 => ?_) (fun c15 => ?_)
        · have h := g_if c15 h
          refine lv_iload_n hx hb dX2_blocks_116 rfl (lv_at hl 2 rfl) ?_
          refine lv_bipush (v := 19) hx hb dX2_blocks_117 (by decide) ?_
          refine lv_icmp_ne (tgt := 218) hx hb dX2_blocks_119 (by decide) (fun c119 => ?_) (fun c119 => ?_)
          · have h := g_if c119 h
            refine lv_aload_n hx hb dX2_blocks_218 rfl (lv_at hl 1 rfl) ?_
            refine lv_iload_n hx hb dX2_blocks_219 rfl (lv_at hl 2 rfl) ?_
            refine lv_iload_n hx hb dX2_blocks_220 rfl (lv_at hl 3 rfl) ?_
            refine lv_iconst (v := 0) hx hb dX2_blocks_221 (by decide) ?_
            refine lv_iconst (v := 0) hx hb dX2_blocks_222 (by decide) ?_
            refine lv_iconst (v := 0) hx hb dX2_blocks_223 (by decide) ?_
            refine lv_iload hx hb dX2_blocks_224 (lv_at hl 5 rfl) ?_
            obtain ⟨q226, e226, h⟩ := g_bd h
            refine m_cV (y := yX2_newOp) (rest := []) dX2_blocks_226 q3172 q3174 qs83 q3175 hm_newOp S hE hM hS hl.1 rfl (wm_newOp E l _ _ _ _ _ _ _ _ _ e226) rfl (Nat.le_of_ble_eq_true rfl) ⟨by dsimp only; omega, by dsimp only; omega⟩ ⟨Nat.le_refl 0, Nat.le_refl 0⟩ (fun H locs hM hS => ?_)
            refine lv_istore (lv' := [(6, .int q226.1), (5, .int (M 54 0)), (0, .ref (gx_m E)), (1, .int x1), (2, .int x2), (3, .int x3), (4, .int x4)]) hx hb dX2_blocks_229 hl (by decide) rfl (fun ls hl => ?_)
            refine lv_aload_n hx hb dX2_blocks_231 rfl (lv_at hl 2 rfl) ?_
            refine lv_iload_n hx hb dX2_blocks_232 rfl (lv_at hl 5 rfl) ?_
            refine lv_iconst (v := 1) hx hb dX2_blocks_233 (by decide) ?_
            refine lv_iadd hx hb dX2_blocks_234 ?_
            refine lv_iload hx hb dX2_blocks_235 (lv_at hl 0 rfl) ?_
            obtain ⟨q237, e237, h⟩ := g_bd h
            refine m_cV (y := yX2_block) (rest := []) dX2_blocks_237 q3117 q3119 qs70 q3120 hm_block S hE hM hS hl.1 rfl (ihd.1 _ _ _ _ _ e237) rfl (Nat.le_of_ble_eq_true rfl) ⟨by dsimp only; omega, by dsimp only; omega⟩ ⟨Nat.le_refl 0, Nat.le_refl 0⟩ (fun H locs hM hS => ?_)
            refine lv_if_ne (tgt := 244) hx hb dX2_blocks_240 (by decide) (fun c240 => ?_) (fun c240 => ?_)
            · have h := g_if c240 h
              refine lv_aload_n hx hb dX2_blocks_244 rfl (lv_at hl 2 rfl) ?_
              refine lv_bipush (v := 51) hx hb dX2_blocks_245 (by decide) ?_
              refine lv_iload_n hx hb dX2_blocks_247 rfl (lv_at hl 4 rfl) ?_
              refine lv_iconst (v := 0) hx hb dX2_blocks_248 (by decide) ?_
              refine lv_iconst (v := 0) hx hb dX2_blocks_249 (by decide) ?_
              refine lv_iconst (v := 0) hx hb dX2_blocks_250 (by decide) ?_
              refine lv_iload hx hb dX2_blocks_251 (lv_at hl 6 rfl) ?_
              obtain ⟨q253, e253, h⟩ := g_bd h
              refine m_cV (y := yX2_newOp) (rest := []) dX2_blocks_253 q3172 q3174 qs83 q3175 hm_newOp S hE hM hS hl.1 rfl (wm_newOp E l _ _ _ _ _ _ _ _ _ e253) rfl (Nat.le_of_ble_eq_true rfl) ⟨by dsimp only; omega, by dsimp only; omega⟩ ⟨Nat.le_refl 0, Nat.le_refl 0⟩ (fun H locs hM hS => ?_)
              refine lv_istore (lv' := [(7, .int q253.1), (6, .int q226.1), (5, .int (M 54 0)), (0, .ref (gx_m E)), (1, .int x1), (2, .int x2), (3, .int x3), (4, .int x4)]) hx hb dX2_blocks_256 hl (by decide) rfl (fun ls hl => ?_)
              refine lv_aload_n hx hb dX2_blocks_258 rfl (lv_at hl 3 rfl) ?_
              refine ma_opB dX2_blocks_259 S hE hM ?_
              refine lv_iload hx hb dX2_blocks_262 (lv_at hl 1 rfl) ?_
              refine lv_aload_n hx hb dX2_blocks_264 rfl (lv_at hl 3 rfl) ?_
              refine mg_ops dX2_blocks_265 S hE hM ?_
              obtain ⟨M268, e268, h⟩ := g_bd h
              refine m_ast 38 dX2_blocks_268 (by decide) rfl S hE hM hS e268 (fun H locs hM hS => ?_)
              refine lv_aload_n hx hb dX2_blocks_269 rfl (lv_at hl 3 rfl) ?_
              refine lv_bipush (v := 45) hx hb dX2_blocks_270 (by decide) ?_
              obtain ⟨v272, e272, h⟩ := g_bd h
              refine m_cV (y := yX2_isWord) (rest := []) dX2_blocks_272 q3184 q3186 qs86 q3187 hm_isWord S hE hM hS hl.1 rfl (wm_isWord E l _ _ _ e272) rfl (Nat.le_of_ble_eq_true rfl) ⟨by dsimp only; omega, by dsimp only; omega⟩ ⟨Nat.le_refl 0, Nat.le_refl 0⟩ (fun H locs hM hS => ?_)
              refine lv_if_ne (tgt := 288) hx hb dX2_blocks_275 (by decide) (fun c275 => ?_) (fun c275 => ?_)
              · have h := g_if c275 h
                refine lv_aload_n hx hb dX2_blocks_288 rfl (lv_at hl 3 rfl) ?_
                obtain ⟨M289, e289, h⟩ := g_bd h
                refine m_cV (y := yX2_cut) (rest := []) dX2_blocks_289 q3057 q3059 qs57 q3060 hm_cut S hE hM hS hl.1 rfl (wm_cut E l _ _ e289) rfl (Nat.le_of_ble_eq_true rfl) ⟨by dsimp only; omega, by dsimp only; omega⟩ ⟨Nat.le_refl 0, Nat.le_refl 0⟩ (fun H locs hM hS => ?_)
                refine lv_aload_n hx hb dX2_blocks_292 rfl (lv_at hl 3 rfl) ?_
                refine lv_iload_n hx hb dX2_blocks_293 rfl (lv_at hl 6 rfl) ?_
                refine lv_iconst (v := 1) hx hb dX2_blocks_294 (by decide) ?_
                refine lv_iadd hx hb dX2_blocks_295 ?_
                refine lv_iload hx hb dX2_blocks_296 (lv_at hl 7 rfl) ?_
                obtain ⟨q298, e298, h⟩ := g_bd h
                refine m_cV (y := yX2_block) (rest := []) dX2_blocks_298 q3117 q3119 qs70 q3120 hm_block S hE hM hS hl.1 rfl (ihd.1 _ _ _ _ _ e298) rfl (Nat.le_of_ble_eq_true rfl) ⟨by dsimp only; omega, by dsimp only; omega⟩ ⟨Nat.le_refl 0, Nat.le_refl 0⟩ (fun H locs hM hS => ?_)
                refine lv_pop hx hb dX2_blocks_301 rfl ?_
                refine lv_aload_n hx hb dX2_blocks_302 rfl (lv_at hl 3 rfl) ?_
                refine ma_opB dX2_blocks_303 S hE hM ?_
                refine lv_iload hx hb dX2_blocks_306 (lv_at hl 0 rfl) ?_
                refine lv_aload_n hx hb dX2_blocks_308 rfl (lv_at hl 3 rfl) ?_
                refine mg_ops dX2_blocks_309 S hE hM ?_
                obtain ⟨M312, e312, h⟩ := g_bd h
                refine m_ast 38 dX2_blocks_312 (by decide) rfl S hE hM hS e312 (fun H locs hM hS => ?_)
                exact m_vretW dX2_blocks_313 S hr hk hM hS h
              · have h := g_it c275 h
                refine lv_aload_n hx hb dX2_blocks_278 rfl (lv_at hl 3 rfl) ?_
                refine lv_iconst (v := 1) hx hb dX2_blocks_279 (by decide) ?_
                refine lv_aload_n hx hb dX2_blocks_280 rfl (lv_at hl 3 rfl) ?_
                refine mg_begins dX2_blocks_281 S hE hM ?_
                obtain ⟨M284, e284, h⟩ := g_bd h
                refine m_cV (y := yX2_wrong) (rest := []) dX2_blocks_284 q3089 q3091 qs63 q3092 hm_wrong S hE hM hS hl.1 rfl (wm_wrong E l _ _ _ _ e284) rfl (Nat.le_of_ble_eq_true rfl) ⟨by dsimp only; omega, by dsimp only; omega⟩ ⟨Nat.le_refl 0, Nat.le_refl 0⟩ (fun H locs hM hS => ?_)
                exact m_vretW dX2_blocks_287 S hr hk hM hS h
            · have h := g_it c240 h
              exact m_vretW dX2_blocks_243 S hr hk hM hS h
          · have h := g_it c119 h
            refine lv_aload_n hx hb dX2_blocks_122 rfl (lv_at hl 1 rfl) ?_
            refine lv_iload_n hx hb dX2_blocks_123 rfl (lv_at hl 2 rfl) ?_
            refine lv_iload_n hx hb dX2_blocks_124 rfl (lv_at hl 3 rfl) ?_
            refine lv_aload_n hx hb dX2_blocks_125 rfl (lv_at hl 1 rfl) ?_
            obtain ⟨q126, e126, h⟩ := g_bd h
            refine m_cV (y := yX2_condition) (rest := [.int x2, .int x1, .ref (gx_m E)]) dX2_blocks_126 q3176 q3178 qs84 q3179 hm_condition S hE hM hS hl.1 rfl (wm_condition E l _ _ _ e126) rfl (Nat.le_of_ble_eq_true rfl) ⟨by dsimp only; omega, by dsimp only; omega⟩ ⟨Nat.le_refl 0, Nat.le_refl 0⟩ (fun H locs hM hS => ?_)
            refine lv_iconst (v := 0) hx hb dX2_blocks_129 (by decide) ?_
            refine lv_iconst (v := 0) hx hb dX2_blocks_130 (by decide) ?_
            refine lv_iload hx hb dX2_blocks_131 (lv_at hl 5 rfl) ?_
            obtain ⟨q133, e133, h⟩ := g_bd h
            refine m_cV (y := yX2_newOp) (rest := []) dX2_blocks_133 q3172 q3174 qs83 q3175 hm_newOp S hE hM hS hl.1 rfl (wm_newOp E l _ _ _ _ _ _ _ _ _ e133) rfl (Nat.le_of_ble_eq_true rfl) ⟨by dsimp only; omega, by dsimp only; omega⟩ ⟨Nat.le_refl 0, Nat.le_refl 0⟩ (fun H locs hM hS => ?_)
            refine lv_istore (lv' := [(6, .int q133.1), (5, .int (M 54 0)), (0, .ref (gx_m E)), (1, .int x1), (2, .int x2), (3, .int x3), (4, .int x4)]) hx hb dX2_blocks_136 hl (by decide) rfl (fun ls hl => ?_)
            refine lv_aload_n hx hb dX2_blocks_138 rfl (lv_at hl 2 rfl) ?_
            refine mg_fault dX2_blocks_139 S hE hM ?_
            refine lv_if_ne (tgt := 157) hx hb dX2_blocks_142 (by decide) (fun c142 => ?_) (fun c142 => ?_)
            · have h := g_if c142 h
              exact m_vretW dX2_blocks_157 S hr hk hM hS h
            · have h := g_it c142 h
              refine lv_aload_n hx hb dX2_blocks_145 rfl (lv_at hl 2 rfl) ?_
              refine lv_iload_n hx hb dX2_blocks_146 rfl (lv_at hl 5 rfl) ?_
              refine lv_iconst (v := 1) hx hb dX2_blocks_147 (by decide) ?_
              refine lv_iadd hx hb dX2_blocks_148 ?_
              refine lv_iload hx hb dX2_blocks_149 (lv_at hl 6 rfl) ?_
              obtain ⟨q151, e151, h⟩ := g_bd h
              refine m_cV (y := yX2_block) (rest := []) dX2_blocks_151 q3117 q3119 qs70 q3120 hm_block S hE hM hS hl.1 rfl (ihd.1 _ _ _ _ _ e151) rfl (Nat.le_of_ble_eq_true rfl) ⟨by dsimp only; omega, by dsimp only; omega⟩ ⟨Nat.le_refl 0, Nat.le_refl 0⟩ (fun H locs hM hS => ?_)
              refine lv_if_ne (tgt := 158) hx hb dX2_blocks_154 (by decide) (fun c154 => ?_) (fun c154 => ?_)
              · have h := g_if c154 h
                refine lv_aload_n hx hb dX2_blocks_158 rfl (lv_at hl 2 rfl) ?_
                refine lv_bipush (v := 51) hx hb dX2_blocks_159 (by decide) ?_
                refine lv_iload_n hx hb dX2_blocks_161 rfl (lv_at hl 4 rfl) ?_
                refine lv_iconst (v := 0) hx hb dX2_blocks_162 (by decide) ?_
                refine lv_iconst (v := 0) hx hb dX2_blocks_163 (by decide) ?_
                refine lv_iconst (v := 0) hx hb dX2_blocks_164 (by decide) ?_
                refine lv_iload hx hb dX2_blocks_165 (lv_at hl 6 rfl) ?_
                obtain ⟨q167, e167, h⟩ := g_bd h
                refine m_cV (y := yX2_newOp) (rest := []) dX2_blocks_167 q3172 q3174 qs83 q3175 hm_newOp S hE hM hS hl.1 rfl (wm_newOp E l _ _ _ _ _ _ _ _ _ e167) rfl (Nat.le_of_ble_eq_true rfl) ⟨by dsimp only; omega, by dsimp only; omega⟩ ⟨Nat.le_refl 0, Nat.le_refl 0⟩ (fun H locs hM hS => ?_)
                refine lv_istore (lv' := [(7, .int q167.1), (6, .int q133.1), (5, .int (M 54 0)), (0, .ref (gx_m E)), (1, .int x1), (2, .int x2), (3, .int x3), (4, .int x4)]) hx hb dX2_blocks_170 hl (by decide) rfl (fun ls hl => ?_)
                refine lv_aload_n hx hb dX2_blocks_172 rfl (lv_at hl 3 rfl) ?_
                refine ma_opB dX2_blocks_173 S hE hM ?_
                refine lv_iload hx hb dX2_blocks_176 (lv_at hl 1 rfl) ?_
                refine lv_aload_n hx hb dX2_blocks_178 rfl (lv_at hl 3 rfl) ?_
                refine mg_ops dX2_blocks_179 S hE hM ?_
                obtain ⟨M182, e182, h⟩ := g_bd h
                refine m_ast 38 dX2_blocks_182 (by decide) rfl S hE hM hS e182 (fun H locs hM hS => ?_)
                refine lv_aload_n hx hb dX2_blocks_183 rfl (lv_at hl 3 rfl) ?_
                refine lv_bipush (v := 46) hx hb dX2_blocks_184 (by decide) ?_
                obtain ⟨v186, e186, h⟩ := g_bd h
                refine m_cV (y := yX2_isWord) (rest := []) dX2_blocks_186 q3184 q3186 qs86 q3187 hm_isWord S hE hM hS hl.1 rfl (wm_isWord E l _ _ _ e186) rfl (Nat.le_of_ble_eq_true rfl) ⟨by dsimp only; omega, by dsimp only; omega⟩ ⟨Nat.le_refl 0, Nat.le_refl 0⟩ (fun H locs hM hS => ?_)
                refine lv_if_eq (tgt := 206) hx hb dX2_blocks_189 (by decide) (fun c189 => ?_) (fun c189 => ?_)
                · have h := g_it c189 h
                  exact J206 q167.1 M182 _ _ _ h hM hS (lv_sub hl [3, 0] rfl)
                · have h := g_if c189 h
                  refine lv_aload_n hx hb dX2_blocks_192 rfl (lv_at hl 3 rfl) ?_
                  obtain ⟨M193, e193, h⟩ := g_bd h
                  refine m_cV (y := yX2_cut) (rest := []) dX2_blocks_193 q3057 q3059 qs57 q3060 hm_cut S hE hM hS hl.1 rfl (wm_cut E l _ _ e193) rfl (Nat.le_of_ble_eq_true rfl) ⟨by dsimp only; omega, by dsimp only; omega⟩ ⟨Nat.le_refl 0, Nat.le_refl 0⟩ (fun H locs hM hS => ?_)
                  refine lv_aload_n hx hb dX2_blocks_196 rfl (lv_at hl 3 rfl) ?_
                  refine lv_iload_n hx hb dX2_blocks_197 rfl (lv_at hl 6 rfl) ?_
                  refine lv_iconst (v := 1) hx hb dX2_blocks_198 (by decide) ?_
                  refine lv_iadd hx hb dX2_blocks_199 ?_
                  refine lv_iload hx hb dX2_blocks_200 (lv_at hl 7 rfl) ?_
                  obtain ⟨q202, e202, h⟩ := g_bd h
                  refine m_cV (y := yX2_block) (rest := []) dX2_blocks_202 q3117 q3119 qs70 q3120 hm_block S hE hM hS hl.1 rfl (ihd.1 _ _ _ _ _ e202) rfl (Nat.le_of_ble_eq_true rfl) ⟨by dsimp only; omega, by dsimp only; omega⟩ ⟨Nat.le_refl 0, Nat.le_refl 0⟩ (fun H locs hM hS => ?_)
                  refine lv_pop hx hb dX2_blocks_205 rfl ?_
                  exact J206 q167.1 q202.2 _ _ _ h hM hS (lv_sub hl [3, 0] rfl)
              · have h := g_it c154 h
                exact m_vretW dX2_blocks_157 S hr hk hM hS h
        · have h := g_it c15 h
          exact J18 x1 x2 x3 x4 (M 54 0) M _ _ _ h hM hS (lv_sub hl [1, 2, 3, 4, 5, 0] rfl)
theorem wm_block (E : gX) (l : Launch) (d : Nat) (x1 x2 : Int32) (r : Int32) (M M' : MM) (h : mm_block d x1 x2 M = some (r, M')) : gMet E l yX2_block cX2_block 3 (some .boolean) (76 + d) 0 0 (gx_A E) [.ref (gx_m E), .int x1, .int x2] (gM E M) (gM E M') (some (.int r)) := (wm_S28 E l d).1 x1 x2 r M M' h
theorem wm_step (E : gX) (l : Launch) (d : Nat) (x1 x2 : Int32) (M M' : MM) (h : mm_step d x1 x2 M = some M') : gMet E l yX2_step cX2_step 5 none (76 + d) 0 0 (gx_A E) [.ref (gx_m E), .int x1, .int x2] (gM E M) (gM E M') none := (wm_S28 E l d).2.1 x1 x2 M M' h
theorem wm_blocks (E : gX) (l : Launch) (d : Nat) (x1 x2 x3 x4 : Int32) (M M' : MM) (h : mm_blocks d x1 x2 x3 x4 M = some M') : gMet E l yX2_blocks cX2_blocks 8 none (76 + d) 0 0 (gx_A E) [.ref (gx_m E), .int x1, .int x2, .int x3, .int x4] (gM E M) (gM E M') none := (wm_S28 E l d).2.2 x1 x2 x3 x4 M M' h
