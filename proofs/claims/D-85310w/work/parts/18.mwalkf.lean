/-! walks of the model's methods: printed by mgen.py -/
set_option maxRecDepth 100000
theorem hm_shed : yX2_shed.cls = RX2 ∧ yX2_shed.cls ≠ "java/lang/invoke/MethodHandle" ∧ yX2_shed.cls ≠ "java/lang/invoke/VarHandle" ∧ (parseMethodDescriptor yX2_shed.desc).map (fun d => d.parameters.length) = some 0 := by decide +kernel
set_option maxHeartbeats 4000000 in
set_option maxRecDepth 100000 in
theorem wm_shed (E : gX) (l : Launch) (M M' : MM) (h : mm_shed M = some M') : gMet E l yX2_shed cX2_shed 3 none 5 0 0 (gx_A E) [.ref (gx_m E)] (gM E M) (gM E M') none := by
  refine gMet.of (own := RX2) (by decide +kernel) (Nat.le_of_ble_eq_true rfl) rfl ?_
  intro p e s m args below meth c S hr hk hnm hE hM hS ls hl
  have hl : lv_has ls 3 [(0, .ref (gx_m E))] := hl
  have hx := S.1
  have hb := S.2.1
  have L45 : ∀ (n : Nat) (x1 x2 : Int32) (M : MM) (H : Heap) (locs : List Loc) (ls : Array Slot), mm_shed_L45 n x1 x2 M = some M' → gM E M H → va_S (gx_A E) s.heap H locs → lv_has ls 3 [(0, .ref (gx_m E)), (1, .int x1), (2, .int x2)] → W p l e (gRm 5 0 0) s m args below meth c H locs 0 0 (MQ below (gQ none (gM E M') (gx_A E)) args s 0 0 (gx_A E)) (F0 m 45 ls []) := by
    intro n45
    induction n45 with
    | zero =>
      intro x1 x2 M H locs ls h
      cases h
    | succ n45 ih45 =>
      have J170 : ∀ (x1 x2 : Int32) (M : MM) (H : Heap) (locs : List Loc) (ls : Array Slot), mm_shed_J170 (mm_shed_L45 n45) x1 x2 M = some M' → gM E M H → va_S (gx_A E) s.heap H locs → lv_has ls 3 [(0, .ref (gx_m E)), (1, .int x1), (2, .int x2)] → W p l e (gRm 5 0 0) s m args below meth c H locs 0 0 (MQ below (gQ none (gM E M') (gx_A E)) args s 0 0 (gx_A E)) (F0 m 170 ls []) := by
        intro x1 x2 M H locs ls h hM hS hl
        unfold mm_shed_J170 at h
        refine lv_iinc (k := 2) (v := (x2 + (-1))) (lv' := [(2, .int (x2 + (-1))), (0, .ref (gx_m E)), (1, .int x1)]) hx hb dX2_shed_170 hl rfl rfl (by decide) rfl (fun ls hl => ?_)
        refine lv_goto (tgt := 45) hx hb dX2_shed_173 (by decide) ?_
        exact ih45 x1 (x2 + (-1)) M _ _ _ h hM hS (lv_sub hl [1, 2, 0] rfl)
      have J105 : ∀ (x1 x2 : Int32) (M : MM) (H : Heap) (locs : List Loc) (ls : Array Slot), mm_shed_J105 (mm_shed_L45 n45) x1 x2 M = some M' → gM E M H → va_S (gx_A E) s.heap H locs → lv_has ls 3 [(0, .ref (gx_m E)), (1, .int x1), (2, .int x2)] → W p l e (gRm 5 0 0) s m args below meth c H locs 0 0 (MQ below (gQ none (gM E M') (gx_A E)) args s 0 0 (gx_A E)) (F0 m 105 ls []) := by
        intro x1 x2 M H locs ls h hM hS hl
        unfold mm_shed_J105 at h
        refine lv_aload_n hx hb dX2_shed_105 rfl (lv_at hl 0 rfl) ?_
        refine ma_goal dX2_shed_106 S hE hM ?_
        refine lv_iload_n hx hb dX2_shed_109 rfl (lv_at hl 2 rfl) ?_
        refine lv_iconst (v := 0) hx hb dX2_shed_110 (by decide) ?_
        obtain ⟨M111, e111, h⟩ := g_bd h
        refine m_ast 57 dX2_shed_111 (by decide) rfl S hE hM hS e111 (fun H locs hM hS => ?_)
        refine lv_aload_n hx hb dX2_shed_112 rfl (lv_at hl 0 rfl) ?_
        refine ma_lift dX2_shed_113 S hE hM ?_
        refine lv_iload_n hx hb dX2_shed_116 rfl (lv_at hl 2 rfl) ?_
        refine lv_iconst (v := 0) hx hb dX2_shed_117 (by decide) ?_
        obtain ⟨M118, e118, h⟩ := g_bd h
        refine m_ast 59 dX2_shed_118 (by decide) rfl S hE hM hS e118 (fun H locs hM hS => ?_)
        refine lv_aload_n hx hb dX2_shed_119 rfl (lv_at hl 0 rfl) ?_
        refine ma_glow dX2_shed_120 S hE hM ?_
        refine lv_iload_n hx hb dX2_shed_123 rfl (lv_at hl 2 rfl) ?_
        refine lv_iconst (v := 0) hx hb dX2_shed_124 (by decide) ?_
        obtain ⟨M125, e125, h⟩ := g_bd h
        refine m_ast 62 dX2_shed_125 (by decide) rfl S hE hM hS e125 (fun H locs hM hS => ?_)
        refine lv_aload_n hx hb dX2_shed_126 rfl (lv_at hl 0 rfl) ?_
        refine ma_volume dX2_shed_127 S hE hM ?_
        refine lv_iload_n hx hb dX2_shed_130 rfl (lv_at hl 2 rfl) ?_
        refine lv_iconst (v := 0) hx hb dX2_shed_131 (by decide) ?_
        obtain ⟨M132, e132, h⟩ := g_bd h
        refine m_ast 63 dX2_shed_132 (by decide) rfl S hE hM hS e132 (fun H locs hM hS => ?_)
        refine lv_iload_n hx hb dX2_shed_133 rfl (lv_at hl 1 rfl) ?_
        refine lv_aload_n hx hb dX2_shed_134 rfl (lv_at hl 0 rfl) ?_
        refine ma_draws dX2_shed_135 S hE hM ?_
        refine lv_iload_n hx hb dX2_shed_138 rfl (lv_at hl 2 rfl) ?_
        obtain ⟨v139, e139, h⟩ := g_bd h
        refine m_ald 86 dX2_shed_139 (by decide) rfl S hE hM e139 ?_
        refine lv_isub hx hb dX2_shed_140 ?_
        refine lv_istore_n (lv' := [(1, .int (x1 - v139)), (0, .ref (gx_m E)), (2, .int x2)]) hx hb dX2_shed_141 rfl hl (by decide) rfl (fun ls hl => ?_)
        refine lv_aload_n hx hb dX2_shed_142 rfl (lv_at hl 1 rfl) ?_
        refine lv_iconst (v := 3) hx hb dX2_shed_143 (by decide) ?_
        refine lv_iload_n hx hb dX2_shed_144 rfl (lv_at hl 2 rfl) ?_
        refine lv_aload_n hx hb dX2_shed_145 rfl (lv_at hl 1 rfl) ?_
        refine ma_draws dX2_shed_146 S hE hM ?_
        refine lv_iload_n hx hb dX2_shed_149 rfl (lv_at hl 2 rfl) ?_
        obtain ⟨v150, e150, h⟩ := g_bd h
        refine m_ald 86 dX2_shed_150 (by decide) rfl S hE hM e150 ?_
        obtain ⟨M151, e151, h⟩ := g_bd h
        refine m_cV (y := yX2_note) (rest := []) dX2_shed_151 q3240 q3242 qs94 q3243 hm_note S hE hM hS hl.1 rfl (wm_note E l _ _ _ _ _ e151) rfl (Nat.le_of_ble_eq_true rfl) ⟨Nat.le_of_ble_eq_true rfl, Nat.le_of_ble_eq_true rfl⟩ ⟨Nat.le_refl 0, Nat.le_refl 0⟩ (fun H locs hM hS => ?_)
        refine lv_aload_n hx hb dX2_shed_154 rfl (lv_at hl 1 rfl) ?_
        refine ma_state dX2_shed_155 S hE hM ?_
        refine lv_iload_n hx hb dX2_shed_158 rfl (lv_at hl 2 rfl) ?_
        obtain ⟨v159, e159, h⟩ := g_bd h
        refine m_ald 65 dX2_shed_159 (by decide) rfl S hE hM e159 ?_
        refine lv_if_ne (tgt := 170) hx hb dX2_shed_160 (by decide) (fun c160 => ?_) (fun c160 => ?_)
        · have h := g_if c160 h
          exact J170 (x1 - v139) x2 M151 _ _ _ h hM hS (lv_sub hl [1, 0, 2] rfl)
        · have h := g_it c160 h
          refine lv_aload_n hx hb dX2_shed_163 rfl (lv_at hl 1 rfl) ?_
          refine lv_iload_n hx hb dX2_shed_164 rfl (lv_at hl 2 rfl) ?_
          refine lv_bipush (v := 7) hx hb dX2_shed_165 (by decide) ?_
          obtain ⟨M167, e167, h⟩ := g_bd h
          refine m_cV (y := yX2_stalls) (rest := []) dX2_shed_167 q3276 q3278 qs103 q3279 hm_stalls S hE hM hS hl.1 rfl (wm_stalls E l _ _ _ _ e167) rfl (Nat.le_of_ble_eq_true rfl) ⟨Nat.le_of_ble_eq_true rfl, Nat.le_of_ble_eq_true rfl⟩ ⟨Nat.le_refl 0, Nat.le_refl 0⟩ (fun H locs hM hS => ?_)
          exact J170 (x1 - v139) x2 M167 _ _ _ h hM hS (lv_sub hl [1, 0, 2] rfl)
      intro x1 x2 M H locs ls h hM hS hl
      have h : mm_shed_B45 (mm_shed_L45 n45) x1 x2 M = some M' := h
      unfold mm_shed_B45 at h
      refine lv_iload_n hx hb dX2_shed_45 rfl (lv_at hl 2 rfl) ?_
      refine lv_if_lt (tgt := 176) hx hb dX2_shed_46 (by decide) (fun c46 => ?_) (fun c46 => ?_)
      · have h := g_it c46 h
        exact m_vretW dX2_shed_176 S hr hk hM hS h
      · have h := g_if c46 h
        refine lv_iload_n hx hb dX2_shed_49 rfl (lv_at hl 1 rfl) ?_
        refine lv_aload_n hx hb dX2_shed_50 rfl (lv_at hl 0 rfl) ?_
        refine mg_power dX2_shed_51 S hE hM ?_
        refine lv_icmp_le (tgt := 176) hx hb dX2_shed_54 (by decide) (fun c54 => ?_) (fun c54 => ?_)
        · have h := g_it c54 h
          exact m_vretW dX2_shed_176 S hr hk hM hS h
        · have h := g_if c54 h
          refine lv_aload_n hx hb dX2_shed_57 rfl (lv_at hl 0 rfl) ?_
          refine ma_draws dX2_shed_58 S hE hM ?_
          refine lv_iload_n hx hb dX2_shed_61 rfl (lv_at hl 2 rfl) ?_
          obtain ⟨v62, e62, h⟩ := g_bd h
          refine m_ald 86 dX2_shed_62 (by decide) rfl S hE hM e62 ?_
          refine lv_if_eq (tgt := 170) hx hb dX2_shed_63 (by decide) (fun c63 => ?_) (fun c63 => ?_)
          · have h := g_it c63 h
            exact J170 x1 x2 M _ _ _ h hM hS (lv_sub hl [0, 1, 2] rfl)
          · have h := g_if c63 h
            refine lv_aload_n hx hb dX2_shed_66 rfl (lv_at hl 0 rfl) ?_
            refine ma_goal dX2_shed_67 S hE hM ?_
            refine lv_iload_n hx hb dX2_shed_70 rfl (lv_at hl 2 rfl) ?_
            obtain ⟨v71, e71, h⟩ := g_bd h
            refine m_ald 57 dX2_shed_71 (by decide) rfl S hE hM e71 ?_
            refine lv_if_ne (tgt := 105) hx hb dX2_shed_72 (by decide) (fun c72 => ?_) (fun c72 => ?_)
            · have h := g_if c72 h
              exact J105 x1 x2 M _ _ _ h hM hS (lv_sub hl [0, 1, 2] rfl)
            · have h := g_it c72 h
              refine lv_aload_n hx hb dX2_shed_75 rfl (lv_at hl 0 rfl) ?_
              refine ma_lift dX2_shed_76 S hE hM ?_
              refine lv_iload_n hx hb dX2_shed_79 rfl (lv_at hl 2 rfl) ?_
              obtain ⟨v80, e80, h⟩ := g_bd h
              refine m_ald 59 dX2_shed_80 (by decide) rfl S hE hM e80 ?_
              refine lv_if_ne (tgt := 105) hx hb dX2_shed_81 (by decide) (fun c81 => ?_) (fun c81 => ?_)
              · have h := g_if c81 h
                exact J105 x1 x2 M _ _ _ h hM hS (lv_sub hl [0, 1, 2] rfl)
              · have h := g_it c81 h
                refine lv_aload_n hx hb dX2_shed_84 rfl (lv_at hl 0 rfl) ?_
                refine ma_glow dX2_shed_85 S hE hM ?_
                refine lv_iload_n hx hb dX2_shed_88 rfl (lv_at hl 2 rfl) ?_
                obtain ⟨v89, e89, h⟩ := g_bd h
                refine m_ald 62 dX2_shed_89 (by decide) rfl S hE hM e89 ?_
                refine lv_if_ne (tgt := 105) hx hb dX2_shed_90 (by decide) (fun c90 => ?_) (fun c90 => ?_)
                · have h := g_if c90 h
                  exact J105 x1 x2 M _ _ _ h hM hS (lv_sub hl [0, 1, 2] rfl)
                · have h := g_it c90 h
                  refine lv_aload_n hx hb dX2_shed_93 rfl (lv_at hl 0 rfl) ?_
                  refine ma_volume dX2_shed_94 S hE hM ?_
                  refine lv_iload_n hx hb dX2_shed_97 rfl (lv_at hl 2 rfl) ?_
                  obtain ⟨v98, e98, h⟩ := g_bd h
                  refine m_ald 63 dX2_shed_98 (by decide) rfl S hE hM e98 ?_
                  refine lv_if_ne (tgt := 105) hx hb dX2_shed_99 (by decide) (fun c99 => ?_) (fun c99 => ?_)
                  · have h := g_if c99 h
                    exact J105 x1 x2 M _ _ _ h hM hS (lv_sub hl [0, 1, 2] rfl)
                  · have h := g_it c99 h
                    refine lv_goto (tgt := 170) hx hb dX2_shed_102 (by decide) ?_
                    exact J170 x1 x2 M _ _ _ h hM hS (lv_sub hl [0, 1, 2] rfl)
  have L4 : ∀ (n : Nat) (x1 x2 : Int32) (M : MM) (H : Heap) (locs : List Loc) (ls : Array Slot), mm_shed_L4 n x1 x2 M = some M' → gM E M H → va_S (gx_A E) s.heap H locs → lv_has ls 3 [(0, .ref (gx_m E)), (1, .int x1), (2, .int x2)] → W p l e (gRm 5 0 0) s m args below meth c H locs 0 0 (MQ below (gQ none (gM E M') (gx_A E)) args s 0 0 (gx_A E)) (F0 m 4 ls []) := by
    intro n4
    induction n4 with
    | zero =>
      intro x1 x2 M H locs ls h
      cases h
    | succ n4 ih4 =>
      intro x1 x2 M H locs ls h hM hS hl
      have h : mm_shed_B4 (mm_shed_L4 n4) x1 x2 M = some M' := h
      unfold mm_shed_B4 at h
      refine lv_iload_n hx hb dX2_shed_4 rfl (lv_at hl 2 rfl) ?_
      refine lv_aload_n hx hb dX2_shed_5 rfl (lv_at hl 0 rfl) ?_
      refine mg_rides dX2_shed_6 S hE hM ?_
      refine lv_icmp_ge (tgt := 38) hx hb dX2_shed_9 (by decide) (fun c9 => ?_) (fun c9 => ?_)
      · have h := g_it c9 h
        refine lv_aload_n hx hb dX2_shed_38 rfl (lv_at hl 0 rfl) ?_
        refine mg_rides dX2_shed_39 S hE hM ?_
        refine lv_iconst (v := 1) hx hb dX2_shed_42 (by decide) ?_
        refine lv_isub hx hb dX2_shed_43 ?_
        refine lv_istore_n (lv' := [(2, .int ((M 20 0) - 1)), (0, .ref (gx_m E)), (1, .int x1)]) hx hb dX2_shed_44 rfl hl (by decide) rfl (fun ls hl => ?_)
        exact L45 gF x1 ((M 20 0) - 1) M _ _ _ h hM hS (lv_sub hl [1, 2, 0] rfl)
      · have h := g_if c9 h
        refine lv_aload_n hx hb dX2_shed_12 rfl (lv_at hl 0 rfl) ?_
        refine ma_draws dX2_shed_13 S hE hM ?_
        refine lv_iload_n hx hb dX2_shed_16 rfl (lv_at hl 2 rfl) ?_
        refine lv_aload_n hx hb dX2_shed_17 rfl (lv_at hl 0 rfl) ?_
        refine lv_iload_n hx hb dX2_shed_18 rfl (lv_at hl 2 rfl) ?_
        obtain ⟨v19, e19, h⟩ := g_bd h
        refine m_cV (y := yX2_draw) (rest := [.int x2, .ref (gx_m E + mOff 86)]) dX2_shed_19 q3326 q3328 qs114 q3329 hm_draw S hE hM hS hl.1 rfl (wm_draw E l _ _ _ e19) rfl (Nat.le_of_ble_eq_true rfl) ⟨Nat.le_of_ble_eq_true rfl, Nat.le_of_ble_eq_true rfl⟩ ⟨Nat.le_refl 0, Nat.le_refl 0⟩ (fun H locs hM hS => ?_)
        obtain ⟨M22, e22, h⟩ := g_bd h
        refine m_ast 86 dX2_shed_22 (by decide) rfl S hE hM hS e22 (fun H locs hM hS => ?_)
        refine lv_iload_n hx hb dX2_shed_23 rfl (lv_at hl 1 rfl) ?_
        refine lv_aload_n hx hb dX2_shed_24 rfl (lv_at hl 0 rfl) ?_
        refine ma_draws dX2_shed_25 S hE hM ?_
        refine lv_iload_n hx hb dX2_shed_28 rfl (lv_at hl 2 rfl) ?_
        obtain ⟨v29, e29, h⟩ := g_bd h
        refine m_ald 86 dX2_shed_29 (by decide) rfl S hE hM e29 ?_
        refine lv_iadd hx hb dX2_shed_30 ?_
        refine lv_istore_n (lv' := [(1, .int (x1 + v29)), (0, .ref (gx_m E)), (2, .int x2)]) hx hb dX2_shed_31 rfl hl (by decide) rfl (fun ls hl => ?_)
        refine lv_iinc (k := 2) (v := (x2 + 1)) (lv' := [(2, .int (x2 + 1)), (1, .int (x1 + v29)), (0, .ref (gx_m E))]) hx hb dX2_shed_32 hl rfl rfl (by decide) rfl (fun ls hl => ?_)
        refine lv_goto (tgt := 4) hx hb dX2_shed_35 (by decide) ?_
        exact ih4 (x1 + v29) (x2 + 1) M22 _ _ _ h hM hS (lv_sub hl [2, 1, 0] rfl)
  unfold mm_shed at h
  refine lv_iconst (v := 0) hx hb dX2_shed_0 (by decide) ?_
  refine lv_istore_n (lv' := [(1, .int 0), (0, .ref (gx_m E))]) hx hb dX2_shed_1 rfl hl (by decide) rfl (fun ls hl => ?_)
  refine lv_iconst (v := 0) hx hb dX2_shed_2 (by decide) ?_
  refine lv_istore_n (lv' := [(2, .int 0), (1, .int 0), (0, .ref (gx_m E))]) hx hb dX2_shed_3 rfl hl (by decide) rfl (fun ls hl => ?_)
  exact L4 gF 0 0 M _ _ _ h hM hS (lv_sub hl [2, 1, 0] rfl)
theorem hm_limit : yX2_limit.cls = RX2 ∧ yX2_limit.cls ≠ "java/lang/invoke/MethodHandle" ∧ yX2_limit.cls ≠ "java/lang/invoke/VarHandle" ∧ (parseMethodDescriptor yX2_limit.desc).map (fun d => d.parameters.length) = some 1 := by decide +kernel
set_option maxHeartbeats 4000000 in
set_option maxRecDepth 100000 in
theorem wm_limit (E : gX) (l : Launch) (x1 : Int32) (r : Int32) (M : MM) (h : mm_limit x1 M = some r) : gMet E l yX2_limit cX2_limit 2 (some .int) 1 0 0 (gx_A E) [.ref (gx_m E), .int x1] (gM E M) (gM E M) (some (.int r)) := by
  refine gMet.of (own := RX2) (by decide +kernel) (Nat.le_of_ble_eq_true rfl) rfl ?_
  intro p e s m args below meth c S hr hk hnm hE hM hS ls hl
  have hl : lv_has ls 2 [(0, .ref (gx_m E)), (1, .int x1)] := hl
  have hx := S.1
  have hb := S.2.1
  unfold mm_limit at h
  refine lv_aload_n hx hb dX2_limit_0 rfl (lv_at hl 0 rfl) ?_
  refine ma_kind dX2_limit_1 S hE hM ?_
  refine lv_iload_n hx hb dX2_limit_4 rfl (lv_at hl 1 rfl) ?_
  obtain ⟨v5, e5, h⟩ := g_bd h
  refine m_ald 25 dX2_limit_5 (by decide) rfl S hE hM e5 ?_
  by_cases c6_0 : v5 = 0
  · have h := g_it c6_0 h
    refine lv_tableIn (off := 56) (tgt := 62) hx hb dX2_limit_6 (by rw [c6_0]; decide) (by rw [c6_0]; decide) (by rw [c6_0]; rfl) (by decide) ?_
    refine lv_bipush (v := 80) hx hb dX2_limit_62 (by decide) ?_
    exact m_iretR dX2_limit_64 S hr hk hM hS h
  have h := g_if c6_0 h
  by_cases c6_1 : v5 = 1
  · have h := g_it c6_1 h
    refine lv_tableIn (off := 59) (tgt := 65) hx hb dX2_limit_6 (by rw [c6_1]; decide) (by rw [c6_1]; decide) (by rw [c6_1]; rfl) (by decide) ?_
    refine lv_bipush (v := 60) hx hb dX2_limit_65 (by decide) ?_
    exact m_iretR dX2_limit_67 S hr hk hM hS h
  have h := g_if c6_1 h
  by_cases c6_2 : v5 = 2
  · have h := g_it c6_2 h
    refine lv_tableIn (off := 50) (tgt := 56) hx hb dX2_limit_6 (by rw [c6_2]; decide) (by rw [c6_2]; decide) (by rw [c6_2]; rfl) (by decide) ?_
    refine lv_bipush (v := 50) hx hb dX2_limit_56 (by decide) ?_
    exact m_iretR dX2_limit_58 S hr hk hM hS h
  have h := g_if c6_2 h
  by_cases c6_3 : v5 = 3
  · have h := g_it c6_3 h
    refine lv_tableIn (off := 56) (tgt := 62) hx hb dX2_limit_6 (by rw [c6_3]; decide) (by rw [c6_3]; decide) (by rw [c6_3]; rfl) (by decide) ?_
    refine lv_bipush (v := 80) hx hb dX2_limit_62 (by decide) ?_
    exact m_iretR dX2_limit_64 S hr hk hM hS h
  have h := g_if c6_3 h
  by_cases c6_4 : v5 = 4
  · have h := g_it c6_4 h
    refine lv_tableIn (off := 62) (tgt := 68) hx hb dX2_limit_6 (by rw [c6_4]; decide) (by rw [c6_4]; decide) (by rw [c6_4]; rfl) (by decide) ?_
    refine lv_sipush (v := 200) hx hb dX2_limit_68 (by decide) ?_
    exact m_iretR dX2_limit_71 S hr hk hM hS h
  have h := g_if c6_4 h
  by_cases c6_5 : v5 = 5
  · have h := g_it c6_5 h
    refine lv_tableIn (off := 59) (tgt := 65) hx hb dX2_limit_6 (by rw [c6_5]; decide) (by rw [c6_5]; decide) (by rw [c6_5]; rfl) (by decide) ?_
    refine lv_bipush (v := 60) hx hb dX2_limit_65 (by decide) ?_
    exact m_iretR dX2_limit_67 S hr hk hM hS h
  have h := g_if c6_5 h
  by_cases c6_6 : v5 = 6
  · have h := g_it c6_6 h
    refine lv_tableIn (off := 62) (tgt := 68) hx hb dX2_limit_6 (by rw [c6_6]; decide) (by rw [c6_6]; decide) (by rw [c6_6]; rfl) (by decide) ?_
    refine lv_sipush (v := 200) hx hb dX2_limit_68 (by decide) ?_
    exact m_iretR dX2_limit_71 S hr hk hM hS h
  have h := g_if c6_6 h
  by_cases c6_7 : v5 = 7
  · have h := g_it c6_7 h
    refine lv_tableIn (off := 53) (tgt := 59) hx hb dX2_limit_6 (by rw [c6_7]; decide) (by rw [c6_7]; decide) (by rw [c6_7]; rfl) (by decide) ?_
    refine lv_bipush (v := 40) hx hb dX2_limit_59 (by decide) ?_
    exact m_iretR dX2_limit_61 S hr hk hM hS h
  have h := g_if c6_7 h
  by_cases c6_8 : v5 = 8
  · have h := g_it c6_8 h
    refine lv_tableIn (off := 56) (tgt := 62) hx hb dX2_limit_6 (by rw [c6_8]; decide) (by rw [c6_8]; decide) (by rw [c6_8]; rfl) (by decide) ?_
    refine lv_bipush (v := 80) hx hb dX2_limit_62 (by decide) ?_
    exact m_iretR dX2_limit_64 S hr hk hM hS h
  have h := g_if c6_8 h
  refine lv_tableOut (tgt := 68) hx hb dX2_limit_6 (g_swOut 0 8 (by intro k hk; match k, hk with | 0, _ => exact c6_0 | 1, _ => exact c6_1 | 2, _ => exact c6_2 | 3, _ => exact c6_3 | 4, _ => exact c6_4 | 5, _ => exact c6_5 | 6, _ => exact c6_6 | 7, _ => exact c6_7 | 8, _ => exact c6_8 | k + 9, hk => exact absurd hk (by omega)) (by decide) (by decide)) (by decide) ?_
  refine lv_sipush (v := 200) hx hb dX2_limit_68 (by decide) ?_
  exact m_iretR dX2_limit_71 S hr hk hM hS h
theorem hm_tear : yX2_tear.cls = RX2 ∧ yX2_tear.cls ≠ "java/lang/invoke/MethodHandle" ∧ yX2_tear.cls ≠ "java/lang/invoke/VarHandle" ∧ (parseMethodDescriptor yX2_tear.desc).map (fun d => d.parameters.length) = some 1 := by decide +kernel
set_option maxHeartbeats 4000000 in
set_option maxRecDepth 100000 in
theorem wm_tear (E : gX) (l : Launch) (x1 : Int32) (r : Int32) (M : MM) (h : mm_tear x1 M = some r) : gMet E l yX2_tear cX2_tear 4 (some .int) 2 0 0 (gx_A E) [.ref (gx_m E), .int x1] (gM E M) (gM E M) (some (.int r)) := by
  refine gMet.of (own := RX2) (by decide +kernel) (Nat.le_of_ble_eq_true rfl) rfl ?_
  intro p e s m args below meth c S hr hk hnm hE hM hS ls hl
  have hl : lv_has ls 4 [(0, .ref (gx_m E)), (1, .int x1)] := hl
  have hx := S.1
  have hb := S.2.1
  have J47 : ∀ (x1 x2 s0 : Int32) (M : MM) (H : Heap) (locs : List Loc) (ls : Array Slot), mm_tear_J47 x1 x2 s0 M = some r → gM E M H → va_S (gx_A E) s.heap H locs → lv_has ls 4 [(0, .ref (gx_m E)), (1, .int x1), (2, .int x2)] → W p l e (gRm 2 0 0) s m args below meth c H locs 0 0 (MQ below (gQ (some (.int r)) (gM E M) (gx_A E)) args s 0 0 (gx_A E)) (F0 m 47 ls [.int s0]) := by
    intro x1 x2 s0 M H locs ls h hM hS hl
    unfold mm_tear_J47 at h
    refine lv_istore_n (lv' := [(3, .int s0), (0, .ref (gx_m E)), (1, .int x1), (2, .int x2)]) hx hb dX2_tear_47 rfl hl (by decide) rfl (fun ls hl => ?_)
    refine lv_aload_n hx hb dX2_tear_48 rfl (lv_at hl 1 rfl) ?_
    refine ma_kind dX2_tear_49 S hE hM ?_
    refine lv_iload_n hx hb dX2_tear_52 rfl (lv_at hl 2 rfl) ?_
    obtain ⟨v53, e53, h⟩ := g_bd h
    refine m_ald 25 dX2_tear_53 (by decide) rfl S hE hM e53 ?_
    refine lv_iconst (v := 5) hx hb dX2_tear_54 (by decide) ?_
    refine lv_icmp_ne (tgt := 64) hx hb dX2_tear_55 (by decide) (fun c55 => ?_) (fun c55 => ?_)
    · have h := g_if c55 h
      refine lv_iload_n hx hb dX2_tear_64 rfl (lv_at hl 3 rfl) ?_
      refine lv_iload_n hx hb dX2_tear_65 rfl (lv_at hl 0 rfl) ?_
      refine lv_iadd hx hb dX2_tear_66 ?_
      exact m_iretR dX2_tear_67 S hr hk hM hS h
    · have h := g_it c55 h
      refine lv_iconst (v := 2) hx hb dX2_tear_58 (by decide) ?_
      refine lv_iload_n hx hb dX2_tear_59 rfl (lv_at hl 0 rfl) ?_
      refine lv_imul hx hb dX2_tear_60 ?_
      refine lv_goto (tgt := 67) hx hb dX2_tear_61 (by decide) ?_
      exact m_iretR dX2_tear_67 S hr hk hM hS h
  have J46 : ∀ (x1 x2 : Int32) (M : MM) (H : Heap) (locs : List Loc) (ls : Array Slot), mm_tear_J46 x1 x2 M = some r → gM E M H → va_S (gx_A E) s.heap H locs → lv_has ls 4 [(0, .ref (gx_m E)), (1, .int x1), (2, .int x2)] → W p l e (gRm 2 0 0) s m args below meth c H locs 0 0 (MQ below (gQ (some (.int r)) (gM E M) (gx_A E)) args s 0 0 (gx_A E)) (F0 m 46 ls []) := by
    intro x1 x2 M H locs ls h hM hS hl
    unfold mm_tear_J46 at h
    refine lv_iconst (v := 0) hx hb dX2_tear_46 (by decide) ?_
    exact J47 x1 x2 0 M _ _ _ h hM hS (lv_sub hl [0, 1, 2] rfl)
  have J22 : ∀ (x1 s0 : Int32) (M : MM) (H : Heap) (locs : List Loc) (ls : Array Slot), mm_tear_J22 x1 s0 M = some r → gM E M H → va_S (gx_A E) s.heap H locs → lv_has ls 4 [(0, .ref (gx_m E)), (1, .int x1)] → W p l e (gRm 2 0 0) s m args below meth c H locs 0 0 (MQ below (gQ (some (.int r)) (gM E M) (gx_A E)) args s 0 0 (gx_A E)) (F0 m 22 ls [.int s0]) := by
    intro x1 s0 M H locs ls h hM hS hl
    unfold mm_tear_J22 at h
    refine lv_istore_n (lv' := [(2, .int s0), (0, .ref (gx_m E)), (1, .int x1)]) hx hb dX2_tear_22 rfl hl (by decide) rfl (fun ls hl => ?_)
    refine lv_aload_n hx hb dX2_tear_23 rfl (lv_at hl 1 rfl) ?_
    refine lv_iload_n hx hb dX2_tear_24 rfl (lv_at hl 2 rfl) ?_
    refine lv_iconst (v := 2) hx hb dX2_tear_25 (by decide) ?_
    obtain ⟨v26, e26, h⟩ := g_bd h
    refine m_cV (y := yX2_has) (rest := []) dX2_tear_26 q3212 q3214 qs89 q3215 hm_has S hE hM hS hl.1 rfl (wm_has E l _ _ _ _ e26) rfl (Nat.le_of_ble_eq_true rfl) ⟨Nat.le_of_ble_eq_true rfl, Nat.le_of_ble_eq_true rfl⟩ ⟨Nat.le_refl 0, Nat.le_refl 0⟩ (fun H locs hM hS => ?_)
    refine lv_if_eq (tgt := 46) hx hb dX2_tear_29 (by decide) (fun c29 => ?_) (fun c29 => ?_)
    · have h := g_it c29 h
      exact J46 x1 s0 M _ _ _ h hM hS (lv_sub hl [1, 2, 0] rfl)
    · have h := g_if c29 h
      refine lv_aload_n hx hb dX2_tear_32 rfl (lv_at hl 1 rfl) ?_
      refine ma_moved dX2_tear_33 S hE hM ?_
      refine lv_iload_n hx hb dX2_tear_36 rfl (lv_at hl 2 rfl) ?_
      obtain ⟨v37, e37, h⟩ := g_bd h
      refine m_ald 60 dX2_tear_37 (by decide) rfl S hE hM e37 ?_
      refine lv_if_eq (tgt := 46) hx hb dX2_tear_38 (by decide) (fun c38 => ?_) (fun c38 => ?_)
      · have h := g_it c38 h
        exact J46 x1 s0 M _ _ _ h hM hS (lv_sub hl [1, 2, 0] rfl)
      · have h := g_if c38 h
        refine lv_bipush (v := 10) hx hb dX2_tear_41 (by decide) ?_
        refine lv_goto (tgt := 47) hx hb dX2_tear_43 (by decide) ?_
        exact J47 x1 s0 10 M _ _ _ h hM hS (lv_sub hl [1, 2, 0] rfl)
  unfold mm_tear at h
  refine lv_aload_n hx hb dX2_tear_0 rfl (lv_at hl 0 rfl) ?_
  refine lv_iload_n hx hb dX2_tear_1 rfl (lv_at hl 1 rfl) ?_
  refine lv_iconst (v := 1) hx hb dX2_tear_2 (by decide) ?_
  obtain ⟨v3, e3, h⟩ := g_bd h
  refine m_cV (y := yX2_has) (rest := []) dX2_tear_3 q3212 q3214 qs89 q3215 hm_has S hE hM hS hl.1 rfl (wm_has E l _ _ _ _ e3) rfl (Nat.le_of_ble_eq_true rfl) ⟨Nat.le_of_ble_eq_true rfl, Nat.le_of_ble_eq_true rfl⟩ ⟨Nat.le_refl 0, Nat.le_refl 0⟩ (fun H locs hM hS => ?_)
  refine lv_if_eq (tgt := 21) hx hb dX2_tear_6 (by decide) (fun c6 => ?_) (fun c6 => ?_)
  · have h := g_it c6 h
    refine lv_iconst (v := 0) hx hb dX2_tear_21 (by decide) ?_
    exact J22 x1 0 M _ _ _ h hM hS (lv_sub hl [0, 1] rfl)
  · have h := g_if c6 h
    refine lv_aload_n hx hb dX2_tear_9 rfl (lv_at hl 0 rfl) ?_
    refine ma_speed dX2_tear_10 S hE hM ?_
    refine lv_iload_n hx hb dX2_tear_13 rfl (lv_at hl 1 rfl) ?_
    obtain ⟨v14, e14, h⟩ := g_bd h
    refine m_ald 56 dX2_tear_14 (by decide) rfl S hE hM e14 ?_
    obtain ⟨v15, e15, h⟩ := g_bd h
    refine m_cS (y := yX2_sizeOf) (rest := []) dX2_tear_15 q3319 q3320 q3321 hm_sizeOf S hE hM hS hl.1 rfl (wm_sizeOf E l _ _ _ e15) rfl (Nat.le_of_ble_eq_true rfl) ⟨Nat.le_of_ble_eq_true rfl, Nat.le_of_ble_eq_true rfl⟩ ⟨Nat.le_refl 0, Nat.le_refl 0⟩ (fun H locs hM hS => ?_)
    refine lv_goto (tgt := 22) hx hb dX2_tear_18 (by decide) ?_
    exact J22 x1 v15 M _ _ _ h hM hS (lv_sub hl [0, 1] rfl)
theorem hm_ticks : yX2_ticks.cls = RX2 ∧ yX2_ticks.cls ≠ "java/lang/invoke/MethodHandle" ∧ yX2_ticks.cls ≠ "java/lang/invoke/VarHandle" ∧ (parseMethodDescriptor yX2_ticks.desc).map (fun d => d.parameters.length) = some 0 := by decide +kernel
set_option maxHeartbeats 4000000 in
set_option maxRecDepth 100000 in
theorem wm_ticks (E : gX) (l : Launch) (M M' : MM) (h : mm_ticks M = some M') : gMet E l yX2_ticks cX2_ticks 3 none 9 0 0 (gx_A E) [.ref (gx_m E)] (gM E M) (gM E M') none := by
  refine gMet.of (own := RX2) (by decide +kernel) (Nat.le_of_ble_eq_true rfl) rfl ?_
  intro p e s m args below meth c S hr hk hnm hE hM hS ls hl
  have hl : lv_has ls 3 [(0, .ref (gx_m E))] := hl
  have hx := S.1
  have hb := S.2.1
  have L223 : ∀ (n : Nat) (x1 : Int32) (M : MM) (H : Heap) (locs : List Loc) (ls : Array Slot), mm_ticks_L223 n x1 M = some M' → gM E M H → va_S (gx_A E) s.heap H locs → lv_has ls 3 [(0, .ref (gx_m E)), (1, .int x1)] → W p l e (gRm 9 0 0) s m args below meth c H locs 0 0 (MQ below (gQ none (gM E M') (gx_A E)) args s 0 0 (gx_A E)) (F0 m 223 ls []) := by
    intro n223
    induction n223 with
    | zero =>
      intro x1 M H locs ls h
      cases h
    | succ n223 ih223 =>
      have J263 : ∀ (x1 s1 s2 : Int32) (M : MM) (H : Heap) (locs : List Loc) (ls : Array Slot), mm_ticks_J263 (mm_ticks_L223 n223) x1 s1 s2 M = some M' → gM E M H → va_S (gx_A E) s.heap H locs → lv_has ls 3 [(0, .ref (gx_m E)), (1, .int x1)] → W p l e (gRm 9 0 0) s m args below meth c H locs 0 0 (MQ below (gQ none (gM E M') (gx_A E)) args s 0 0 (gx_A E)) (F0 m 263 ls [.int s2, .int s1, .ref (gx_m E + mOff 64)]) := by
        intro x1 s1 s2 M H locs ls h hM hS hl
        unfold mm_ticks_J263 at h
        obtain ⟨M263, e263, h⟩ := g_bd h
        refine m_ast 64 dX2_ticks_263 (by decide) rfl S hE hM hS e263 (fun H locs hM hS => ?_)
        refine lv_iinc (k := 1) (v := (x1 + 1)) (lv' := [(1, .int (x1 + 1)), (0, .ref (gx_m E))]) hx hb dX2_ticks_264 hl rfl rfl (by decide) rfl (fun ls hl => ?_)
        refine lv_goto (tgt := 223) hx hb dX2_ticks_267 (by decide) ?_
        exact ih223 (x1 + 1) M263 _ _ _ h hM hS (lv_sub hl [1, 0] rfl)
      intro x1 M H locs ls h hM hS hl
      have h : mm_ticks_B223 (mm_ticks_L223 n223) x1 M = some M' := h
      unfold mm_ticks_B223 at h
      refine lv_iload_n hx hb dX2_ticks_223 rfl (lv_at hl 1 rfl) ?_
      refine lv_aload_n hx hb dX2_ticks_224 rfl (lv_at hl 0 rfl) ?_
      refine mg_rides dX2_ticks_225 S hE hM ?_
      refine lv_icmp_ge (tgt := 270) hx hb dX2_ticks_228 (by decide) (fun c228 => ?_) (fun c228 => ?_)
      · have h := g_it c228 h
        exact m_vretW dX2_ticks_270 S hr hk hM hS h
      · have h := g_if c228 h
        refine lv_aload_n hx hb dX2_ticks_231 rfl (lv_at hl 0 rfl) ?_
        refine ma_wear dX2_ticks_232 S hE hM ?_
        refine lv_iload_n hx hb dX2_ticks_235 rfl (lv_at hl 1 rfl) ?_
        obtain ⟨v236, e236, h⟩ := g_bd h
        refine m_ald 64 dX2_ticks_236 (by decide) rfl S hE hM e236 ?_
        refine lv_aload_n hx hb dX2_ticks_237 rfl (lv_at hl 0 rfl) ?_
        refine lv_iload_n hx hb dX2_ticks_238 rfl (lv_at hl 1 rfl) ?_
        obtain ⟨v239, e239, h⟩ := g_bd h
        refine m_cV (y := yX2_tear) (rest := [.int v236]) dX2_ticks_239 q3334 q3336 qs116 q3337 hm_tear S hE hM hS hl.1 rfl (wm_tear E l _ _ _ e239) rfl (Nat.le_of_ble_eq_true rfl) ⟨Nat.le_of_ble_eq_true rfl, Nat.le_of_ble_eq_true rfl⟩ ⟨Nat.le_refl 0, Nat.le_refl 0⟩ (fun H locs hM hS => ?_)
        refine lv_iadd hx hb dX2_ticks_242 ?_
        refine lv_istore_n (lv' := [(2, .int (v236 + v239)), (0, .ref (gx_m E)), (1, .int x1)]) hx hb dX2_ticks_243 rfl hl (by decide) rfl (fun ls hl => ?_)
        refine lv_aload_n hx hb dX2_ticks_244 rfl (lv_at hl 1 rfl) ?_
        refine ma_wear dX2_ticks_245 S hE hM ?_
        refine lv_iload_n hx hb dX2_ticks_248 rfl (lv_at hl 2 rfl) ?_
        refine lv_iload_n hx hb dX2_ticks_249 rfl (lv_at hl 0 rfl) ?_
        refine lv_sipush (v := 9999) hx hb dX2_ticks_250 (by decide) ?_
        refine lv_icmp_le (tgt := 262) hx hb dX2_ticks_253 (by decide) (fun c253 => ?_) (fun c253 => ?_)
        · have h := g_it c253 h
          refine lv_iload_n hx hb dX2_ticks_262 rfl (lv_at hl 0 rfl) ?_
          exact J263 x1 x1 (v236 + v239) M _ _ _ h hM hS (lv_sub hl [1, 2] rfl)
        · have h := g_if c253 h
          refine lv_sipush (v := 9999) hx hb dX2_ticks_256 (by decide) ?_
          refine lv_goto (tgt := 263) hx hb dX2_ticks_259 (by decide) ?_
          exact J263 x1 x1 9999 M _ _ _ h hM hS (lv_sub hl [1, 2] rfl)
  have L145 : ∀ (n : Nat) (x1 : Int32) (M : MM) (H : Heap) (locs : List Loc) (ls : Array Slot), mm_ticks_L145 n x1 M = some M' → gM E M H → va_S (gx_A E) s.heap H locs → lv_has ls 3 [(0, .ref (gx_m E)), (1, .int x1)] → W p l e (gRm 9 0 0) s m args below meth c H locs 0 0 (MQ below (gQ none (gM E M') (gx_A E)) args s 0 0 (gx_A E)) (F0 m 145 ls []) := by
    intro n145
    induction n145 with
    | zero =>
      intro x1 M H locs ls h
      cases h
    | succ n145 ih145 =>
      have J215 : ∀ (x1 : Int32) (M : MM) (H : Heap) (locs : List Loc) (ls : Array Slot), mm_ticks_J215 (mm_ticks_L145 n145) x1 M = some M' → gM E M H → va_S (gx_A E) s.heap H locs → lv_has ls 3 [(0, .ref (gx_m E)), (1, .int x1)] → W p l e (gRm 9 0 0) s m args below meth c H locs 0 0 (MQ below (gQ none (gM E M') (gx_A E)) args s 0 0 (gx_A E)) (F0 m 215 ls []) := by
        intro x1 M H locs ls h hM hS hl
        unfold mm_ticks_J215 at h
        refine lv_iinc (k := 1) (v := (x1 + 1)) (lv' := [(1, .int (x1 + 1)), (0, .ref (gx_m E))]) hx hb dX2_ticks_215 hl rfl rfl (by decide) rfl (fun ls hl => ?_)
        refine lv_goto (tgt := 145) hx hb dX2_ticks_218 (by decide) ?_
        exact ih145 (x1 + 1) M _ _ _ h hM hS (lv_sub hl [1, 0] rfl)
      have J186 : ∀ (x1 : Int32) (M : MM) (H : Heap) (locs : List Loc) (ls : Array Slot), mm_ticks_J186 (mm_ticks_L145 n145) x1 M = some M' → gM E M H → va_S (gx_A E) s.heap H locs → lv_has ls 3 [(0, .ref (gx_m E)), (1, .int x1)] → W p l e (gRm 9 0 0) s m args below meth c H locs 0 0 (MQ below (gQ none (gM E M') (gx_A E)) args s 0 0 (gx_A E)) (F0 m 186 ls []) := by
        intro x1 M H locs ls h hM hS hl
        unfold mm_ticks_J186 at h
        refine lv_aload_n hx hb dX2_ticks_186 rfl (lv_at hl 0 rfl) ?_
        refine ma_goal dX2_ticks_187 S hE hM ?_
        refine lv_iload_n hx hb dX2_ticks_190 rfl (lv_at hl 1 rfl) ?_
        refine lv_iconst (v := 0) hx hb dX2_ticks_191 (by decide) ?_
        obtain ⟨M192, e192, h⟩ := g_bd h
        refine m_ast 57 dX2_ticks_192 (by decide) rfl S hE hM hS e192 (fun H locs hM hS => ?_)
        refine lv_aload_n hx hb dX2_ticks_193 rfl (lv_at hl 0 rfl) ?_
        refine ma_lift dX2_ticks_194 S hE hM ?_
        refine lv_iload_n hx hb dX2_ticks_197 rfl (lv_at hl 1 rfl) ?_
        refine lv_iconst (v := 0) hx hb dX2_ticks_198 (by decide) ?_
        obtain ⟨M199, e199, h⟩ := g_bd h
        refine m_ast 59 dX2_ticks_199 (by decide) rfl S hE hM hS e199 (fun H locs hM hS => ?_)
        refine lv_aload_n hx hb dX2_ticks_200 rfl (lv_at hl 0 rfl) ?_
        refine ma_state dX2_ticks_201 S hE hM ?_
        refine lv_iload_n hx hb dX2_ticks_204 rfl (lv_at hl 1 rfl) ?_
        obtain ⟨v205, e205, h⟩ := g_bd h
        refine m_ald 65 dX2_ticks_205 (by decide) rfl S hE hM e205 ?_
        refine lv_if_ne (tgt := 215) hx hb dX2_ticks_206 (by decide) (fun c206 => ?_) (fun c206 => ?_)
        · have h := g_if c206 h
          exact J215 x1 M199 _ _ _ h hM hS (lv_sub hl [0, 1] rfl)
        · have h := g_it c206 h
          refine lv_aload_n hx hb dX2_ticks_209 rfl (lv_at hl 0 rfl) ?_
          refine lv_iload_n hx hb dX2_ticks_210 rfl (lv_at hl 1 rfl) ?_
          refine lv_iconst (v := 4) hx hb dX2_ticks_211 (by decide) ?_
          obtain ⟨M212, e212, h⟩ := g_bd h
          refine m_cV (y := yX2_stalls) (rest := []) dX2_ticks_212 q3276 q3278 qs103 q3279 hm_stalls S hE hM hS hl.1 rfl (wm_stalls E l _ _ _ _ e212) rfl (Nat.le_of_ble_eq_true rfl) ⟨Nat.le_of_ble_eq_true rfl, Nat.le_of_ble_eq_true rfl⟩ ⟨Nat.le_refl 0, Nat.le_refl 0⟩ (fun H locs hM hS => ?_)
          exact J215 x1 M212 _ _ _ h hM hS (lv_sub hl [0, 1] rfl)
      intro x1 M H locs ls h hM hS hl
      have h : mm_ticks_B145 (mm_ticks_L145 n145) x1 M = some M' := h
      unfold mm_ticks_B145 at h
      refine lv_iload_n hx hb dX2_ticks_145 rfl (lv_at hl 1 rfl) ?_
      refine lv_aload_n hx hb dX2_ticks_146 rfl (lv_at hl 0 rfl) ?_
      refine mg_rides dX2_ticks_147 S hE hM ?_
      refine lv_icmp_ge (tgt := 221) hx hb dX2_ticks_150 (by decide) (fun c150 => ?_) (fun c150 => ?_)
      · have h := g_it c150 h
        refine lv_iconst (v := 0) hx hb dX2_ticks_221 (by decide) ?_
        refine lv_istore_n (lv' := [(1, .int 0), (0, .ref (gx_m E))]) hx hb dX2_ticks_222 rfl hl (by decide) rfl (fun ls hl => ?_)
        exact L223 gF 0 M _ _ _ h hM hS (lv_sub hl [1, 0] rfl)
      · have h := g_if c150 h
        refine lv_aload_n hx hb dX2_ticks_153 rfl (lv_at hl 0 rfl) ?_
        refine lv_iload_n hx hb dX2_ticks_154 rfl (lv_at hl 1 rfl) ?_
        obtain ⟨v155, e155, h⟩ := g_bd h
        refine m_cV (y := yX2_limit) (rest := []) dX2_ticks_155 q3330 q3332 qs115 q3333 hm_limit S hE hM hS hl.1 rfl (wm_limit E l _ _ _ e155) rfl (Nat.le_of_ble_eq_true rfl) ⟨Nat.le_of_ble_eq_true rfl, Nat.le_of_ble_eq_true rfl⟩ ⟨Nat.le_refl 0, Nat.le_refl 0⟩ (fun H locs hM hS => ?_)
        refine lv_aload_n hx hb dX2_ticks_158 rfl (lv_at hl 0 rfl) ?_
        refine mg_wind dX2_ticks_159 S hE hM ?_
        refine lv_icmp_ge (tgt := 215) hx hb dX2_ticks_162 (by decide) (fun c162 => ?_) (fun c162 => ?_)
        · have h := g_it c162 h
          exact J215 x1 M _ _ _ h hM hS (lv_sub hl [0, 1] rfl)
        · have h := g_if c162 h
          refine lv_aload_n hx hb dX2_ticks_165 rfl (lv_at hl 0 rfl) ?_
          refine ma_goal dX2_ticks_166 S hE hM ?_
          refine lv_iload_n hx hb dX2_ticks_169 rfl (lv_at hl 1 rfl) ?_
          obtain ⟨v170, e170, h⟩ := g_bd h
          refine m_ald 57 dX2_ticks_170 (by decide) rfl S hE hM e170 ?_
          refine lv_if_ne (tgt := 186) hx hb dX2_ticks_171 (by decide) (fun c171 => ?_) (fun c171 => ?_)
          · have h := g_if c171 h
            exact J186 x1 M _ _ _ h hM hS (lv_sub hl [0, 1] rfl)
          · have h := g_it c171 h
            refine lv_aload_n hx hb dX2_ticks_174 rfl (lv_at hl 0 rfl) ?_
            refine ma_lift dX2_ticks_175 S hE hM ?_
            refine lv_iload_n hx hb dX2_ticks_178 rfl (lv_at hl 1 rfl) ?_
            obtain ⟨v179, e179, h⟩ := g_bd h
            refine m_ald 59 dX2_ticks_179 (by decide) rfl S hE hM e179 ?_
            refine lv_if_ne (tgt := 186) hx hb dX2_ticks_180 (by decide) (fun c180 => ?_) (fun c180 => ?_)
            · have h := g_if c180 h
              exact J186 x1 M _ _ _ h hM hS (lv_sub hl [0, 1] rfl)
            · have h := g_it c180 h
              refine lv_goto (tgt := 215) hx hb dX2_ticks_183 (by decide) ?_
              exact J215 x1 M _ _ _ h hM hS (lv_sub hl [0, 1] rfl)
  have L120 : ∀ (n : Nat) (x1 : Int32) (M : MM) (H : Heap) (locs : List Loc) (ls : Array Slot), mm_ticks_L120 n x1 M = some M' → gM E M H → va_S (gx_A E) s.heap H locs → lv_has ls 3 [(0, .ref (gx_m E)), (1, .int x1)] → W p l e (gRm 9 0 0) s m args below meth c H locs 0 0 (MQ below (gQ none (gM E M') (gx_A E)) args s 0 0 (gx_A E)) (F0 m 120 ls []) := by
    intro n120
    induction n120 with
    | zero =>
      intro x1 M H locs ls h
      cases h
    | succ n120 ih120 =>
      intro x1 M H locs ls h hM hS hl
      have h : mm_ticks_B120 (mm_ticks_L120 n120) x1 M = some M' := h
      unfold mm_ticks_B120 at h
      refine lv_iload_n hx hb dX2_ticks_120 rfl (lv_at hl 1 rfl) ?_
      refine lv_aload_n hx hb dX2_ticks_121 rfl (lv_at hl 0 rfl) ?_
      refine mg_rides dX2_ticks_122 S hE hM ?_
      refine lv_icmp_ge (tgt := 139) hx hb dX2_ticks_125 (by decide) (fun c125 => ?_) (fun c125 => ?_)
      · have h := g_it c125 h
        refine lv_aload_n hx hb dX2_ticks_139 rfl (lv_at hl 0 rfl) ?_
        obtain ⟨M140, e140, h⟩ := g_bd h
        refine m_cV (y := yX2_shed) (rest := []) dX2_ticks_140 q3322 q3324 qs113 q3325 hm_shed S hE hM hS hl.1 rfl (wm_shed E l _ _ e140) rfl (Nat.le_of_ble_eq_true rfl) ⟨Nat.le_of_ble_eq_true rfl, Nat.le_of_ble_eq_true rfl⟩ ⟨Nat.le_refl 0, Nat.le_refl 0⟩ (fun H locs hM hS => ?_)
        refine lv_iconst (v := 0) hx hb dX2_ticks_143 (by decide) ?_
        refine lv_istore_n (lv' := [(1, .int 0), (0, .ref (gx_m E))]) hx hb dX2_ticks_144 rfl hl (by decide) rfl (fun ls hl => ?_)
        exact L145 gF 0 M140 _ _ _ h hM hS (lv_sub hl [1, 0] rfl)
      · have h := g_if c125 h
        refine lv_aload_n hx hb dX2_ticks_128 rfl (lv_at hl 0 rfl) ?_
        refine lv_iload_n hx hb dX2_ticks_129 rfl (lv_at hl 1 rfl) ?_
        obtain ⟨M130, e130, h⟩ := g_bd h
        refine m_cV (y := yX2_eases) (rest := []) dX2_ticks_130 q3312 q3314 qs112 q3315 hm_eases S hE hM hS hl.1 rfl (wm_eases E l _ _ _ e130) rfl (Nat.le_of_ble_eq_true rfl) ⟨Nat.le_of_ble_eq_true rfl, Nat.le_of_ble_eq_true rfl⟩ ⟨Nat.le_refl 0, Nat.le_refl 0⟩ (fun H locs hM hS => ?_)
        refine lv_iinc (k := 1) (v := (x1 + 1)) (lv' := [(1, .int (x1 + 1)), (0, .ref (gx_m E))]) hx hb dX2_ticks_133 hl rfl rfl (by decide) rfl (fun ls hl => ?_)
        refine lv_goto (tgt := 120) hx hb dX2_ticks_136 (by decide) ?_
        exact ih120 (x1 + 1) M130 _ _ _ h hM hS (lv_sub hl [1, 0] rfl)
  have L99 : ∀ (n : Nat) (x1 : Int32) (M : MM) (H : Heap) (locs : List Loc) (ls : Array Slot), mm_ticks_L99 n x1 M = some M' → gM E M H → va_S (gx_A E) s.heap H locs → lv_has ls 3 [(0, .ref (gx_m E)), (1, .int x1)] → W p l e (gRm 9 0 0) s m args below meth c H locs 0 0 (MQ below (gQ none (gM E M') (gx_A E)) args s 0 0 (gx_A E)) (F0 m 99 ls []) := by
    intro n99
    induction n99 with
    | zero =>
      intro x1 M H locs ls h
      cases h
    | succ n99 ih99 =>
      intro x1 M H locs ls h hM hS hl
      have h : mm_ticks_B99 (mm_ticks_L99 n99) x1 M = some M' := h
      unfold mm_ticks_B99 at h
      refine lv_iload_n hx hb dX2_ticks_99 rfl (lv_at hl 1 rfl) ?_
      refine lv_aload_n hx hb dX2_ticks_100 rfl (lv_at hl 0 rfl) ?_
      refine mg_rides dX2_ticks_101 S hE hM ?_
      refine lv_icmp_ge (tgt := 118) hx hb dX2_ticks_104 (by decide) (fun c104 => ?_) (fun c104 => ?_)
      · have h := g_it c104 h
        refine lv_iconst (v := 0) hx hb dX2_ticks_118 (by decide) ?_
        refine lv_istore_n (lv' := [(1, .int 0), (0, .ref (gx_m E))]) hx hb dX2_ticks_119 rfl hl (by decide) rfl (fun ls hl => ?_)
        exact L120 gF 0 M _ _ _ h hM hS (lv_sub hl [1, 0] rfl)
      · have h := g_if c104 h
        refine lv_aload_n hx hb dX2_ticks_107 rfl (lv_at hl 0 rfl) ?_
        refine lv_iload_n hx hb dX2_ticks_108 rfl (lv_at hl 1 rfl) ?_
        obtain ⟨M109, e109, h⟩ := g_bd h
        refine m_cV (y := yX2_goesOn) (rest := []) dX2_ticks_109 q3244 q3246 qs95 q3247 hm_goesOn S hE hM hS hl.1 rfl (wm_goesOn E l _ _ _ e109) rfl (Nat.le_of_ble_eq_true rfl) ⟨Nat.le_of_ble_eq_true rfl, Nat.le_of_ble_eq_true rfl⟩ ⟨Nat.le_refl 0, Nat.le_refl 0⟩ (fun H locs hM hS => ?_)
        refine lv_iinc (k := 1) (v := (x1 + 1)) (lv' := [(1, .int (x1 + 1)), (0, .ref (gx_m E))]) hx hb dX2_ticks_112 hl rfl rfl (by decide) rfl (fun ls hl => ?_)
        refine lv_goto (tgt := 99) hx hb dX2_ticks_115 (by decide) ?_
        exact ih99 (x1 + 1) M109 _ _ _ h hM hS (lv_sub hl [1, 0] rfl)
  have L12 : ∀ (n : Nat) (x1 : Int32) (M : MM) (H : Heap) (locs : List Loc) (ls : Array Slot), mm_ticks_L12 n x1 M = some M' → gM E M H → va_S (gx_A E) s.heap H locs → lv_has ls 3 [(0, .ref (gx_m E)), (1, .int x1)] → W p l e (gRm 9 0 0) s m args below meth c H locs 0 0 (MQ below (gQ none (gM E M') (gx_A E)) args s 0 0 (gx_A E)) (F0 m 12 ls []) := by
    intro n12
    induction n12 with
    | zero =>
      intro x1 M H locs ls h
      cases h
    | succ n12 ih12 =>
      have J91 : ∀ (x1 : Int32) (M : MM) (H : Heap) (locs : List Loc) (ls : Array Slot), mm_ticks_J91 (mm_ticks_L12 n12) x1 M = some M' → gM E M H → va_S (gx_A E) s.heap H locs → lv_has ls 3 [(0, .ref (gx_m E)), (1, .int x1)] → W p l e (gRm 9 0 0) s m args below meth c H locs 0 0 (MQ below (gQ none (gM E M') (gx_A E)) args s 0 0 (gx_A E)) (F0 m 91 ls []) := by
        intro x1 M H locs ls h hM hS hl
        unfold mm_ticks_J91 at h
        refine lv_iinc (k := 1) (v := (x1 + 1)) (lv' := [(1, .int (x1 + 1)), (0, .ref (gx_m E))]) hx hb dX2_ticks_91 hl rfl rfl (by decide) rfl (fun ls hl => ?_)
        refine lv_goto (tgt := 12) hx hb dX2_ticks_94 (by decide) ?_
        exact ih12 (x1 + 1) M _ _ _ h hM hS (lv_sub hl [1, 0] rfl)
      have J70 : ∀ (x1 x2 : Int32) (M : MM) (H : Heap) (locs : List Loc) (ls : Array Slot), mm_ticks_J70 (mm_ticks_L12 n12) x1 x2 M = some M' → gM E M H → va_S (gx_A E) s.heap H locs → lv_has ls 3 [(0, .ref (gx_m E)), (1, .int x1), (2, .int x2)] → W p l e (gRm 9 0 0) s m args below meth c H locs 0 0 (MQ below (gQ none (gM E M') (gx_A E)) args s 0 0 (gx_A E)) (F0 m 70 ls []) := by
        intro x1 x2 M H locs ls h hM hS hl
        unfold mm_ticks_J70 at h
        refine lv_aload_n hx hb dX2_ticks_70 rfl (lv_at hl 0 rfl) ?_
        refine lv_dup hx hb dX2_ticks_71 rfl ?_
        refine mg_gone dX2_ticks_72 S hE hM ?_
        refine lv_iload_n hx hb dX2_ticks_75 rfl (lv_at hl 2 rfl) ?_
        refine lv_iadd hx hb dX2_ticks_76 ?_
        obtain ⟨M77, e77, h⟩ := g_bd h
        refine mp_gone dX2_ticks_77 S hE hM hS e77 (fun H locs hM hS => ?_)
        refine lv_iload_n hx hb dX2_ticks_80 rfl (lv_at hl 2 rfl) ?_
        refine lv_if_le (tgt := 91) hx hb dX2_ticks_81 (by decide) (fun c81 => ?_) (fun c81 => ?_)
        · have h := g_it c81 h
          exact J91 x1 M77 _ _ _ h hM hS (lv_sub hl [0, 1] rfl)
        · have h := g_if c81 h
          refine lv_aload_n hx hb dX2_ticks_84 rfl (lv_at hl 0 rfl) ?_
          refine lv_iconst (v := 4) hx hb dX2_ticks_85 (by decide) ?_
          refine lv_iload_n hx hb dX2_ticks_86 rfl (lv_at hl 1 rfl) ?_
          refine lv_iload_n hx hb dX2_ticks_87 rfl (lv_at hl 2 rfl) ?_
          obtain ⟨M88, e88, h⟩ := g_bd h
          refine m_cV (y := yX2_note) (rest := []) dX2_ticks_88 q3240 q3242 qs94 q3243 hm_note S hE hM hS hl.1 rfl (wm_note E l _ _ _ _ _ e88) rfl (Nat.le_of_ble_eq_true rfl) ⟨Nat.le_of_ble_eq_true rfl, Nat.le_of_ble_eq_true rfl⟩ ⟨Nat.le_refl 0, Nat.le_refl 0⟩ (fun H locs hM hS => ?_)
          exact J91 x1 M88 _ _ _ h hM hS (lv_sub hl [0, 1] rfl)
      have L22 : ∀ (n : Nat) (x1 x2 : Int32) (M : MM) (H : Heap) (locs : List Loc) (ls : Array Slot), mm_ticks_L22 (mm_ticks_L12 n12) n x1 x2 M = some M' → gM E M H → va_S (gx_A E) s.heap H locs → lv_has ls 3 [(0, .ref (gx_m E)), (1, .int x1), (2, .int x2)] → W p l e (gRm 9 0 0) s m args below meth c H locs 0 0 (MQ below (gQ none (gM E M') (gx_A E)) args s 0 0 (gx_A E)) (F0 m 22 ls []) := by
        intro n22
        induction n22 with
        | zero =>
          intro x1 x2 M H locs ls h
          cases h
        | succ n22 ih22 =>
          intro x1 x2 M H locs ls h hM hS hl
          have h : mm_ticks_B22 (mm_ticks_L12 n12) (mm_ticks_L22 (mm_ticks_L12 n12) n22) x1 x2 M = some M' := h
          unfold mm_ticks_B22 at h
          refine lv_aload_n hx hb dX2_ticks_22 rfl (lv_at hl 0 rfl) ?_
          refine ma_groups dX2_ticks_23 S hE hM ?_
          refine lv_iload_n hx hb dX2_ticks_26 rfl (lv_at hl 1 rfl) ?_
          obtain ⟨v27, e27, h⟩ := g_bd h
          refine m_ald 76 dX2_ticks_27 (by decide) rfl S hE hM e27 ?_
          refine lv_if_le (tgt := 70) hx hb dX2_ticks_28 (by decide) (fun c28 => ?_) (fun c28 => ?_)
          · have h := g_it c28 h
            exact J70 x1 x2 M _ _ _ h hM hS (lv_sub hl [0, 1, 2] rfl)
          · have h := g_if c28 h
            refine lv_aload_n hx hb dX2_ticks_31 rfl (lv_at hl 0 rfl) ?_
            refine mg_clock dX2_ticks_32 S hE hM ?_
            refine lv_aload_n hx hb dX2_ticks_35 rfl (lv_at hl 0 rfl) ?_
            refine ma_groupClock dX2_ticks_36 S hE hM ?_
            refine lv_bipush (v := 30) hx hb dX2_ticks_39 (by decide) ?_
            refine lv_iload_n hx hb dX2_ticks_41 rfl (lv_at hl 1 rfl) ?_
            refine lv_imul hx hb dX2_ticks_42 ?_
            obtain ⟨v43, e43, h⟩ := g_bd h
            refine m_ald 78 dX2_ticks_43 (by decide) rfl S hE hM e43 ?_
            refine lv_isub hx hb dX2_ticks_44 ?_
            refine lv_bipush (v := 60) hx hb dX2_ticks_45 (by decide) ?_
            refine lv_icmp_le (tgt := 70) hx hb dX2_ticks_47 (by decide) (fun c47 => ?_) (fun c47 => ?_)
            · have h := g_it c47 h
              exact J70 x1 x2 M _ _ _ h hM hS (lv_sub hl [0, 1, 2] rfl)
            · have h := g_if c47 h
              refine lv_iload_n hx hb dX2_ticks_50 rfl (lv_at hl 2 rfl) ?_
              refine lv_aload_n hx hb dX2_ticks_51 rfl (lv_at hl 0 rfl) ?_
              refine ma_groupSize dX2_ticks_52 S hE hM ?_
              refine lv_bipush (v := 30) hx hb dX2_ticks_55 (by decide) ?_
              refine lv_iload_n hx hb dX2_ticks_57 rfl (lv_at hl 1 rfl) ?_
              refine lv_imul hx hb dX2_ticks_58 ?_
              obtain ⟨v59, e59, h⟩ := g_bd h
              refine m_ald 77 dX2_ticks_59 (by decide) rfl S hE hM e59 ?_
              refine lv_iadd hx hb dX2_ticks_60 ?_
              refine lv_istore_n (lv' := [(2, .int (x2 + v59)), (0, .ref (gx_m E)), (1, .int x1)]) hx hb dX2_ticks_61 rfl hl (by decide) rfl (fun ls hl => ?_)
              refine lv_aload_n hx hb dX2_ticks_62 rfl (lv_at hl 1 rfl) ?_
              refine lv_iload_n hx hb dX2_ticks_63 rfl (lv_at hl 2 rfl) ?_
              obtain ⟨M64, e64, h⟩ := g_bd h
              refine m_cV (y := yX2_leaves) (rest := []) dX2_ticks_64 q3236 q3238 qs93 q3239 hm_leaves S hE hM hS hl.1 rfl (wm_leaves E l _ _ _ e64) rfl (Nat.le_of_ble_eq_true rfl) ⟨Nat.le_of_ble_eq_true rfl, Nat.le_of_ble_eq_true rfl⟩ ⟨Nat.le_refl 0, Nat.le_refl 0⟩ (fun H locs hM hS => ?_)
              refine lv_goto (tgt := 22) hx hb dX2_ticks_67 (by decide) ?_
              exact ih22 x1 (x2 + v59) M64 _ _ _ h hM hS (lv_sub hl [1, 2, 0] rfl)
      intro x1 M H locs ls h hM hS hl
      have h : mm_ticks_B12 (mm_ticks_L12 n12) x1 M = some M' := h
      unfold mm_ticks_B12 at h
      refine lv_iload_n hx hb dX2_ticks_12 rfl (lv_at hl 1 rfl) ?_
      refine lv_aload_n hx hb dX2_ticks_13 rfl (lv_at hl 0 rfl) ?_
      refine mg_rides dX2_ticks_14 S hE hM ?_
      refine lv_icmp_ge (tgt := 97) hx hb dX2_ticks_17 (by decide) (fun c17 => ?_) (fun c17 => ?_)
      · have h := g_it c17 h
        refine lv_iconst (v := 0) hx hb dX2_ticks_97 (by decide) ?_
        refine lv_istore_n (lv' := [(1, .int 0), (0, .ref (gx_m E))]) hx hb dX2_ticks_98 rfl hl (by decide) rfl (fun ls hl => ?_)
        exact L99 gF 0 M _ _ _ h hM hS (lv_sub hl [1, 0] rfl)
      · have h := g_if c17 h
        refine lv_iconst (v := 0) hx hb dX2_ticks_20 (by decide) ?_
        refine lv_istore_n (lv' := [(2, .int 0), (0, .ref (gx_m E)), (1, .int x1)]) hx hb dX2_ticks_21 rfl hl (by decide) rfl (fun ls hl => ?_)
        exact L22 gF x1 0 M _ _ _ h hM hS (lv_sub hl [1, 2, 0] rfl)
  unfold mm_ticks at h
  refine lv_aload_n hx hb dX2_ticks_0 rfl (lv_at hl 0 rfl) ?_
  refine lv_dup hx hb dX2_ticks_1 rfl ?_
  refine mg_clock dX2_ticks_2 S hE hM ?_
  refine lv_iconst (v := 1) hx hb dX2_ticks_5 (by decide) ?_
  refine lv_iadd hx hb dX2_ticks_6 ?_
  obtain ⟨M7, e7, h⟩ := g_bd h
  refine mp_clock dX2_ticks_7 S hE hM hS e7 (fun H locs hM hS => ?_)
  refine lv_iconst (v := 0) hx hb dX2_ticks_10 (by decide) ?_
  refine lv_istore_n (lv' := [(1, .int 0), (0, .ref (gx_m E))]) hx hb dX2_ticks_11 rfl hl (by decide) rfl (fun ls hl => ?_)
  exact L12 gF 0 M7 _ _ _ h hM hS (lv_sub hl [1, 0] rfl)
theorem hm_tick : yX2_tick.cls = RX2 ∧ yX2_tick.cls ≠ "java/lang/invoke/MethodHandle" ∧ yX2_tick.cls ≠ "java/lang/invoke/VarHandle" ∧ (parseMethodDescriptor yX2_tick.desc).map (fun d => d.parameters.length) = some 1 := by decide +kernel
set_option maxHeartbeats 4000000 in
set_option maxRecDepth 100000 in
theorem wm_tick (E : gX) (l : Launch) (x1 : Int32) (r : Int32) (M M' : MM) (h : mm_tick x1 M = some (r, M')) : gMet E l yX2_tick cX2_tick 4 (some .int) 10 0 0 (gx_A E) [.ref (gx_m E), .int x1] (gM E M) (gM E M') (some (.int r)) := by
  refine gMet.of (own := RX2) (by decide +kernel) (Nat.le_of_ble_eq_true rfl) rfl ?_
  intro p e s m args below meth c S hr hk hnm hE hM hS ls hl
  have hl : lv_has ls 4 [(0, .ref (gx_m E)), (1, .int x1)] := hl
  have hx := S.1
  have hb := S.2.1
  have L47 : ∀ (n : Nat) (x1 x2 x3 : Int32) (M : MM) (H : Heap) (locs : List Loc) (ls : Array Slot), mm_tick_L47 n x1 x2 x3 M = some (r, M') → gM E M H → va_S (gx_A E) s.heap H locs → lv_has ls 4 [(0, .ref (gx_m E)), (1, .int x1), (2, .int x2), (3, .int x3)] → W p l e (gRm 10 0 0) s m args below meth c H locs 0 0 (MQ below (gQ (some (.int r)) (gM E M') (gx_A E)) args s 0 0 (gx_A E)) (F0 m 47 ls []) := by
    intro n47
    induction n47 with
    | zero =>
      intro x1 x2 x3 M H locs ls h
      cases h
    | succ n47 ih47 =>
      intro x1 x2 x3 M H locs ls h hM hS hl
      have h : mm_tick_B47 (mm_tick_L47 n47) x1 x2 x3 M = some (r, M') := h
      unfold mm_tick_B47 at h
      refine lv_iload_n hx hb dX2_tick_47 rfl (lv_at hl 3 rfl) ?_
      refine lv_iload_n hx hb dX2_tick_48 rfl (lv_at hl 1 rfl) ?_
      refine lv_icmp_ge (tgt := 62) hx hb dX2_tick_49 (by decide) (fun c49 => ?_) (fun c49 => ?_)
      · have h := g_it c49 h
        refine lv_aload_n hx hb dX2_tick_62 rfl (lv_at hl 0 rfl) ?_
        refine mg_logged dX2_tick_63 S hE hM ?_
        refine lv_iload_n hx hb dX2_tick_66 rfl (lv_at hl 2 rfl) ?_
        refine lv_isub hx hb dX2_tick_67 ?_
        exact m_iretW dX2_tick_68 S hr hk hM hS h
      · have h := g_if c49 h
        refine lv_aload_n hx hb dX2_tick_52 rfl (lv_at hl 0 rfl) ?_
        obtain ⟨M53, e53, h⟩ := g_bd h
        refine m_cV (y := yX2_ticks) (rest := []) dX2_tick_53 q3232 q3234 qs92 q3235 hm_ticks S hE hM hS hl.1 rfl (wm_ticks E l _ _ e53) rfl (Nat.le_of_ble_eq_true rfl) ⟨Nat.le_of_ble_eq_true rfl, Nat.le_of_ble_eq_true rfl⟩ ⟨Nat.le_refl 0, Nat.le_refl 0⟩ (fun H locs hM hS => ?_)
        refine lv_iinc (k := 3) (v := (x3 + 1)) (lv' := [(3, .int (x3 + 1)), (0, .ref (gx_m E)), (1, .int x1), (2, .int x2)]) hx hb dX2_tick_56 hl rfl rfl (by decide) rfl (fun ls hl => ?_)
        refine lv_goto (tgt := 47) hx hb dX2_tick_59 (by decide) ?_
        exact ih47 x1 x2 (x3 + 1) M53 _ _ _ h hM hS (lv_sub hl [1, 2, 3, 0] rfl)
  have J28 : ∀ (x1 s1 : Int32) (M : MM) (H : Heap) (locs : List Loc) (ls : Array Slot), mm_tick_J28 x1 s1 M = some (r, M') → gM E M H → va_S (gx_A E) s.heap H locs → lv_has ls 4 [(0, .ref (gx_m E)), (1, .int x1)] → W p l e (gRm 10 0 0) s m args below meth c H locs 0 0 (MQ below (gQ (some (.int r)) (gM E M') (gx_A E)) args s 0 0 (gx_A E)) (F0 m 28 ls [.int s1, .ref (gx_m E)]) := by
    intro x1 s1 M H locs ls h hM hS hl
    unfold mm_tick_J28 at h
    obtain ⟨M28, e28, h⟩ := g_bd h
    refine mp_thrown dX2_tick_28 S hE hM hS e28 (fun H locs hM hS => ?_)
    refine lv_aload_n hx hb dX2_tick_31 rfl (lv_at hl 0 rfl) ?_
    refine mg_thrown dX2_tick_32 S hE hM ?_
    refine lv_if_eq (tgt := 40) hx hb dX2_tick_35 (by decide) (fun c35 => ?_) (fun c35 => ?_)
    · have h := g_it c35 h
      refine lv_aload_n hx hb dX2_tick_40 rfl (lv_at hl 0 rfl) ?_
      refine mg_logged dX2_tick_41 S hE hM ?_
      refine lv_istore_n (lv' := [(2, .int (M28 84 0)), (0, .ref (gx_m E)), (1, .int x1)]) hx hb dX2_tick_44 rfl hl (by decide) rfl (fun ls hl => ?_)
      refine lv_iconst (v := 0) hx hb dX2_tick_45 (by decide) ?_
      refine lv_istore_n (lv' := [(3, .int 0), (2, .int (M28 84 0)), (0, .ref (gx_m E)), (1, .int x1)]) hx hb dX2_tick_46 rfl hl (by decide) rfl (fun ls hl => ?_)
      exact L47 gF x1 (M28 84 0) 0 M28 _ _ _ h hM hS (lv_sub hl [2, 3, 1, 0] rfl)
    · have h := g_if c35 h
      refine lv_iconst (v := 0) hx hb dX2_tick_38 (by decide) ?_
      exact m_iretW dX2_tick_39 S hr hk hM hS h
  have J23 : ∀ (x1 : Int32) (M : MM) (H : Heap) (locs : List Loc) (ls : Array Slot), mm_tick_J23 x1 M = some (r, M') → gM E M H → va_S (gx_A E) s.heap H locs → lv_has ls 4 [(0, .ref (gx_m E)), (1, .int x1)] → W p l e (gRm 10 0 0) s m args below meth c H locs 0 0 (MQ below (gQ (some (.int r)) (gM E M') (gx_A E)) args s 0 0 (gx_A E)) (F0 m 23 ls [.ref (gx_m E)]) := by
    intro x1 M H locs ls h hM hS hl
    unfold mm_tick_J23 at h
    refine lv_iconst (v := 2) hx hb dX2_tick_23 (by decide) ?_
    refine lv_goto (tgt := 28) hx hb dX2_tick_24 (by decide) ?_
    exact J28 x1 2 M _ _ _ h hM hS (lv_sub hl [0, 1] rfl)
  unfold mm_tick at h
  refine lv_aload_n hx hb dX2_tick_0 rfl (lv_at hl 0 rfl) ?_
  refine lv_aload_n hx hb dX2_tick_1 rfl (lv_at hl 0 rfl) ?_
  refine mg_isOpen dX2_tick_2 S hE hM ?_
  refine lv_if_ne (tgt := 12) hx hb dX2_tick_5 (by decide) (fun c5 => ?_) (fun c5 => ?_)
  · have h := g_if c5 h
    refine lv_iload_n hx hb dX2_tick_12 rfl (lv_at hl 1 rfl) ?_
    refine lv_iconst (v := 1) hx hb dX2_tick_13 (by decide) ?_
    refine lv_icmp_lt (tgt := 23) hx hb dX2_tick_14 (by decide) (fun c14 => ?_) (fun c14 => ?_)
    · have h := g_it c14 h
      exact J23 x1 M _ _ _ h hM hS (lv_sub hl [0, 1] rfl)
    · have h := g_if c14 h
      refine lv_iload_n hx hb dX2_tick_17 rfl (lv_at hl 1 rfl) ?_
      refine lv_bipush (v := 100) hx hb dX2_tick_18 (by decide) ?_
      refine lv_icmp_le (tgt := 27) hx hb dX2_tick_20 (by decide) (fun c20 => ?_) (fun c20 => ?_)
      · have h := g_it c20 h
        refine lv_iconst (v := 0) hx hb dX2_tick_27 (by decide) ?_
        exact J28 x1 0 M _ _ _ h hM hS (lv_sub hl [0, 1] rfl)
      · have h := g_if c20 h
        exact J23 x1 M _ _ _ h hM hS (lv_sub hl [0, 1] rfl)
  · have h := g_it c5 h
    refine lv_iconst (v := 1) hx hb dX2_tick_8 (by decide) ?_
    refine lv_goto (tgt := 28) hx hb dX2_tick_9 (by decide) ?_
    exact J28 x1 1 M _ _ _ h hM hS (lv_sub hl [0, 1] rfl)
theorem hm_measure : yX2_measure.cls = RX2 ∧ yX2_measure.cls ≠ "java/lang/invoke/MethodHandle" ∧ yX2_measure.cls ≠ "java/lang/invoke/VarHandle" ∧ (parseMethodDescriptor yX2_measure.desc).map (fun d => d.parameters.length) = some 2 := by decide +kernel
set_option maxHeartbeats 4000000 in
set_option maxRecDepth 100000 in
theorem wm_measure (E : gX) (l : Launch) (x1 x2 : Int32) (r : Int32) (M M' : MM) (h : mm_measure x1 x2 M = some (r, M')) : gMet E l yX2_measure cX2_measure 3 (some .int) 2 0 0 (gx_A E) [.ref (gx_m E), .int x1, .int x2] (gM E M) (gM E M') (some (.int r)) := by
  refine gMet.of (own := RX2) (by decide +kernel) (Nat.le_of_ble_eq_true rfl) rfl ?_
  intro p e s m args below meth c S hr hk hnm hE hM hS ls hl
  have hl : lv_has ls 3 [(0, .ref (gx_m E)), (1, .int x1), (2, .int x2)] := hl
  have hx := S.1
  have hb := S.2.1
  have J24 : ∀ (x1 x2 s1 : Int32) (M : MM) (H : Heap) (locs : List Loc) (ls : Array Slot), mm_measure_J24 x1 x2 s1 M = some (r, M') → gM E M H → va_S (gx_A E) s.heap H locs → lv_has ls 3 [(0, .ref (gx_m E)), (1, .int x1), (2, .int x2)] → W p l e (gRm 2 0 0) s m args below meth c H locs 0 0 (MQ below (gQ (some (.int r)) (gM E M') (gx_A E)) args s 0 0 (gx_A E)) (F0 m 24 ls [.int s1, .ref (gx_m E)]) := by
    intro x1 x2 s1 M H locs ls h hM hS hl
    unfold mm_measure_J24 at h
    refine lv_iconst (v := 1) hx hb dX2_measure_24 (by decide) ?_
    obtain ⟨q25, e25, h⟩ := g_bd h
    refine m_cV (y := yX2_may) (rest := []) dX2_measure_25 q3216 q3218 qs90 q3219 hm_may S hE hM hS hl.1 rfl (wm_may E l _ _ _ _ _ e25) rfl (Nat.le_of_ble_eq_true rfl) ⟨Nat.le_of_ble_eq_true rfl, Nat.le_of_ble_eq_true rfl⟩ ⟨Nat.le_refl 0, Nat.le_refl 0⟩ (fun H locs hM hS => ?_)
    refine lv_if_ne (tgt := 33) hx hb dX2_measure_28 (by decide) (fun c28 => ?_) (fun c28 => ?_)
    · have h := g_if c28 h
      refine lv_iload_n hx hb dX2_measure_33 rfl (lv_at hl 2 rfl) ?_
      by_cases c34_0 : x2 = 0
      · have h := g_it c34_0 h
        refine lv_tableIn (off := 54) (tgt := 88) hx hb dX2_measure_34 (by rw [c34_0]; decide) (by rw [c34_0]; decide) (by rw [c34_0]; rfl) (by decide) ?_
        refine lv_aload_n hx hb dX2_measure_88 rfl (lv_at hl 0 rfl) ?_
        refine ma_kind dX2_measure_89 S hE hM ?_
        refine lv_iload_n hx hb dX2_measure_92 rfl (lv_at hl 1 rfl) ?_
        obtain ⟨v93, e93, h⟩ := g_bd h
        refine m_ald 25 dX2_measure_93 (by decide) rfl S hE hM e93 ?_
        exact m_iretW dX2_measure_94 S hr hk hM hS h
      have h := g_if c34_0 h
      by_cases c34_1 : x2 = 1
      · have h := g_it c34_1 h
        refine lv_tableIn (off := 61) (tgt := 95) hx hb dX2_measure_34 (by rw [c34_1]; decide) (by rw [c34_1]; decide) (by rw [c34_1]; rfl) (by decide) ?_
        refine lv_aload_n hx hb dX2_measure_95 rfl (lv_at hl 0 rfl) ?_
        refine ma_speed dX2_measure_96 S hE hM ?_
        refine lv_iload_n hx hb dX2_measure_99 rfl (lv_at hl 1 rfl) ?_
        obtain ⟨v100, e100, h⟩ := g_bd h
        refine m_ald 56 dX2_measure_100 (by decide) rfl S hE hM e100 ?_
        exact m_iretW dX2_measure_101 S hr hk hM hS h
      have h := g_if c34_1 h
      by_cases c34_2 : x2 = 2
      · have h := g_it c34_2 h
        refine lv_tableIn (off := 68) (tgt := 102) hx hb dX2_measure_34 (by rw [c34_2]; decide) (by rw [c34_2]; decide) (by rw [c34_2]; rfl) (by decide) ?_
        refine lv_aload_n hx hb dX2_measure_102 rfl (lv_at hl 0 rfl) ?_
        refine ma_goal dX2_measure_103 S hE hM ?_
        refine lv_iload_n hx hb dX2_measure_106 rfl (lv_at hl 1 rfl) ?_
        obtain ⟨v107, e107, h⟩ := g_bd h
        refine m_ald 57 dX2_measure_107 (by decide) rfl S hE hM e107 ?_
        exact m_iretW dX2_measure_108 S hr hk hM hS h
      have h := g_if c34_2 h
      by_cases c34_3 : x2 = 3
      · have h := g_it c34_3 h
        refine lv_tableIn (off := 75) (tgt := 109) hx hb dX2_measure_34 (by rw [c34_3]; decide) (by rw [c34_3]; decide) (by rw [c34_3]; rfl) (by decide) ?_
        refine lv_aload_n hx hb dX2_measure_109 rfl (lv_at hl 0 rfl) ?_
        refine ma_height dX2_measure_110 S hE hM ?_
        refine lv_iload_n hx hb dX2_measure_113 rfl (lv_at hl 1 rfl) ?_
        obtain ⟨v114, e114, h⟩ := g_bd h
        refine m_ald 58 dX2_measure_114 (by decide) rfl S hE hM e114 ?_
        exact m_iretW dX2_measure_115 S hr hk hM hS h
      have h := g_if c34_3 h
      by_cases c34_4 : x2 = 4
      · have h := g_it c34_4 h
        refine lv_tableIn (off := 82) (tgt := 116) hx hb dX2_measure_34 (by rw [c34_4]; decide) (by rw [c34_4]; decide) (by rw [c34_4]; rfl) (by decide) ?_
        refine lv_aload_n hx hb dX2_measure_116 rfl (lv_at hl 0 rfl) ?_
        refine ma_lift dX2_measure_117 S hE hM ?_
        refine lv_iload_n hx hb dX2_measure_120 rfl (lv_at hl 1 rfl) ?_
        obtain ⟨v121, e121, h⟩ := g_bd h
        refine m_ald 59 dX2_measure_121 (by decide) rfl S hE hM e121 ?_
        exact m_iretW dX2_measure_122 S hr hk hM hS h
      have h := g_if c34_4 h
      by_cases c34_5 : x2 = 5
      · have h := g_it c34_5 h
        refine lv_tableIn (off := 89) (tgt := 123) hx hb dX2_measure_34 (by rw [c34_5]; decide) (by rw [c34_5]; decide) (by rw [c34_5]; rfl) (by decide) ?_
        refine lv_aload_n hx hb dX2_measure_123 rfl (lv_at hl 0 rfl) ?_
        refine ma_aboard dX2_measure_124 S hE hM ?_
        refine lv_iload_n hx hb dX2_measure_127 rfl (lv_at hl 1 rfl) ?_
        obtain ⟨v128, e128, h⟩ := g_bd h
        refine m_ald 61 dX2_measure_128 (by decide) rfl S hE hM e128 ?_
        exact m_iretW dX2_measure_129 S hr hk hM hS h
      have h := g_if c34_5 h
      by_cases c34_6 : x2 = 6
      · have h := g_it c34_6 h
        refine lv_tableIn (off := 96) (tgt := 130) hx hb dX2_measure_34 (by rw [c34_6]; decide) (by rw [c34_6]; decide) (by rw [c34_6]; rfl) (by decide) ?_
        refine lv_aload_n hx hb dX2_measure_130 rfl (lv_at hl 0 rfl) ?_
        refine ma_glow dX2_measure_131 S hE hM ?_
        refine lv_iload_n hx hb dX2_measure_134 rfl (lv_at hl 1 rfl) ?_
        obtain ⟨v135, e135, h⟩ := g_bd h
        refine m_ald 62 dX2_measure_135 (by decide) rfl S hE hM e135 ?_
        exact m_iretW dX2_measure_136 S hr hk hM hS h
      have h := g_if c34_6 h
      by_cases c34_7 : x2 = 7
      · have h := g_it c34_7 h
        refine lv_tableIn (off := 103) (tgt := 137) hx hb dX2_measure_34 (by rw [c34_7]; decide) (by rw [c34_7]; decide) (by rw [c34_7]; rfl) (by decide) ?_
        refine lv_aload_n hx hb dX2_measure_137 rfl (lv_at hl 0 rfl) ?_
        refine ma_volume dX2_measure_138 S hE hM ?_
        refine lv_iload_n hx hb dX2_measure_141 rfl (lv_at hl 1 rfl) ?_
        obtain ⟨v142, e142, h⟩ := g_bd h
        refine m_ald 63 dX2_measure_142 (by decide) rfl S hE hM e142 ?_
        exact m_iretW dX2_measure_143 S hr hk hM hS h
      have h := g_if c34_7 h
      by_cases c34_8 : x2 = 8
      · have h := g_it c34_8 h
        refine lv_tableIn (off := 110) (tgt := 144) hx hb dX2_measure_34 (by rw [c34_8]; decide) (by rw [c34_8]; decide) (by rw [c34_8]; rfl) (by decide) ?_
        refine lv_aload_n hx hb dX2_measure_144 rfl (lv_at hl 0 rfl) ?_
        refine ma_wear dX2_measure_145 S hE hM ?_
        refine lv_iload_n hx hb dX2_measure_148 rfl (lv_at hl 1 rfl) ?_
        obtain ⟨v149, e149, h⟩ := g_bd h
        refine m_ald 64 dX2_measure_149 (by decide) rfl S hE hM e149 ?_
        exact m_iretW dX2_measure_150 S hr hk hM hS h
      have h := g_if c34_8 h
      by_cases c34_9 : x2 = 9
      · have h := g_it c34_9 h
        refine lv_tableIn (off := 117) (tgt := 151) hx hb dX2_measure_34 (by rw [c34_9]; decide) (by rw [c34_9]; decide) (by rw [c34_9]; rfl) (by decide) ?_
        refine lv_aload_n hx hb dX2_measure_151 rfl (lv_at hl 0 rfl) ?_
        refine lv_iload_n hx hb dX2_measure_152 rfl (lv_at hl 1 rfl) ?_
        obtain ⟨v153, e153, h⟩ := g_bd h
        refine m_cV (y := yX2_queue) (rest := []) dX2_measure_153 q3220 q3222 qs91 q3223 hm_queue S hE hM hS hl.1 rfl (wm_queue E l _ _ _ e153) rfl (Nat.le_of_ble_eq_true rfl) ⟨Nat.le_of_ble_eq_true rfl, Nat.le_of_ble_eq_true rfl⟩ ⟨Nat.le_refl 0, Nat.le_refl 0⟩ (fun H locs hM hS => ?_)
        exact m_iretW dX2_measure_156 S hr hk hM hS h
      have h := g_if c34_9 h
      refine lv_tableOut (tgt := 157) hx hb dX2_measure_34 (g_swOut 0 9 (by intro k hk; match k, hk with | 0, _ => exact c34_0 | 1, _ => exact c34_1 | 2, _ => exact c34_2 | 3, _ => exact c34_3 | 4, _ => exact c34_4 | 5, _ => exact c34_5 | 6, _ => exact c34_6 | 7, _ => exact c34_7 | 8, _ => exact c34_8 | 9, _ => exact c34_9 | k + 10, hk => exact absurd hk (by omega)) (by decide) (by decide)) (by decide) ?_
      refine lv_aload_n hx hb dX2_measure_157 rfl (lv_at hl 0 rfl) ?_
      refine ma_places dX2_measure_158 S hE hM ?_
      refine lv_iload_n hx hb dX2_measure_161 rfl (lv_at hl 1 rfl) ?_
      obtain ⟨v162, e162, h⟩ := g_bd h
      refine m_ald 31 dX2_measure_162 (by decide) rfl S hE hM e162 ?_
      exact m_iretW dX2_measure_163 S hr hk hM hS h
    · have h := g_it c28 h
      refine lv_iconst (v := 0) hx hb dX2_measure_31 (by decide) ?_
      exact m_iretW dX2_measure_32 S hr hk hM hS h
  have J23 : ∀ (x1 x2 : Int32) (M : MM) (H : Heap) (locs : List Loc) (ls : Array Slot), mm_measure_J23 x1 x2 M = some (r, M') → gM E M H → va_S (gx_A E) s.heap H locs → lv_has ls 3 [(0, .ref (gx_m E)), (1, .int x1), (2, .int x2)] → W p l e (gRm 2 0 0) s m args below meth c H locs 0 0 (MQ below (gQ (some (.int r)) (gM E M') (gx_A E)) args s 0 0 (gx_A E)) (F0 m 23 ls [.ref (gx_m E)]) := by
    intro x1 x2 M H locs ls h hM hS hl
    unfold mm_measure_J23 at h
    refine lv_iconst (v := 0) hx hb dX2_measure_23 (by decide) ?_
    exact J24 x1 x2 0 M _ _ _ h hM hS (lv_sub hl [0, 1, 2] rfl)
  unfold mm_measure at h
  refine lv_aload_n hx hb dX2_measure_0 rfl (lv_at hl 0 rfl) ?_
  refine lv_aload_n hx hb dX2_measure_1 rfl (lv_at hl 0 rfl) ?_
  refine lv_iload_n hx hb dX2_measure_2 rfl (lv_at hl 1 rfl) ?_
  obtain ⟨v3, e3, h⟩ := g_bd h
  refine m_cV (y := yX2_isRide) (rest := [.ref (gx_m E)]) dX2_measure_3 q3208 q3210 qs88 q3211 hm_isRide S hE hM hS hl.1 rfl (wm_isRide E l _ _ _ e3) rfl (Nat.le_of_ble_eq_true rfl) ⟨Nat.le_of_ble_eq_true rfl, Nat.le_of_ble_eq_true rfl⟩ ⟨Nat.le_refl 0, Nat.le_refl 0⟩ (fun H locs hM hS => ?_)
  refine lv_if_eq (tgt := 23) hx hb dX2_measure_6 (by decide) (fun c6 => ?_) (fun c6 => ?_)
  · have h := g_it c6 h
    exact J23 x1 x2 M _ _ _ h hM hS (lv_sub hl [0, 1, 2] rfl)
  · have h := g_if c6 h
    refine lv_iload_n hx hb dX2_measure_9 rfl (lv_at hl 2 rfl) ?_
    refine lv_if_lt (tgt := 23) hx hb dX2_measure_10 (by decide) (fun c10 => ?_) (fun c10 => ?_)
    · have h := g_it c10 h
      exact J23 x1 x2 M _ _ _ h hM hS (lv_sub hl [0, 1, 2] rfl)
    · have h := g_if c10 h
      refine lv_iload_n hx hb dX2_measure_13 rfl (lv_at hl 2 rfl) ?_
      refine lv_bipush (v := 10) hx hb dX2_measure_14 (by decide) ?_
      refine lv_icmp_gt (tgt := 23) hx hb dX2_measure_16 (by decide) (fun c16 => ?_) (fun c16 => ?_)
      · have h := g_it c16 h
        exact J23 x1 x2 M _ _ _ h hM hS (lv_sub hl [0, 1, 2] rfl)
      · have h := g_if c16 h
        refine lv_iconst (v := 1) hx hb dX2_measure_19 (by decide) ?_
        refine lv_goto (tgt := 24) hx hb dX2_measure_20 (by decide) ?_
        exact J24 x1 x2 1 M _ _ _ h hM hS (lv_sub hl [0, 1, 2] rfl)
theorem hm_noise : yX2_noise.cls = RX2 ∧ yX2_noise.cls ≠ "java/lang/invoke/MethodHandle" ∧ yX2_noise.cls ≠ "java/lang/invoke/VarHandle" ∧ (parseMethodDescriptor yX2_noise.desc).map (fun d => d.parameters.length) = some 1 := by decide +kernel
set_option maxHeartbeats 4000000 in
set_option maxRecDepth 100000 in
theorem wm_noise (E : gX) (l : Launch) (x1 : Int32) (r : Int32) (M : MM) (h : mm_noise x1 M = some r) : gMet E l yX2_noise cX2_noise 6 (some .int) 2 0 0 (gx_A E) [.ref (gx_m E), .int x1] (gM E M) (gM E M) (some (.int r)) := by
  refine gMet.of (own := RX2) (by decide +kernel) (Nat.le_of_ble_eq_true rfl) rfl ?_
  intro p e s m args below meth c S hr hk hnm hE hM hS ls hl
  have hl : lv_has ls 6 [(0, .ref (gx_m E)), (1, .int x1)] := hl
  have hx := S.1
  have hb := S.2.1
  have J149 : ∀ (x4 s0 : Int32) (M : MM) (H : Heap) (locs : List Loc) (ls : Array Slot), mm_noise_J149 x4 s0 M = some r → gM E M H → va_S (gx_A E) s.heap H locs → lv_has ls 6 [(0, .ref (gx_m E)), (4, .int x4)] → W p l e (gRm 2 0 0) s m args below meth c H locs 0 0 (MQ below (gQ (some (.int r)) (gM E M) (gx_A E)) args s 0 0 (gx_A E)) (F0 m 149 ls [.int s0]) := by
    intro x4 s0 M H locs ls h hM hS hl
    unfold mm_noise_J149 at h
    refine lv_istore (lv' := [(5, .int s0), (0, .ref (gx_m E)), (4, .int x4)]) hx hb dX2_noise_149 hl (by decide) rfl (fun ls hl => ?_)
    refine lv_iload hx hb dX2_noise_151 (lv_at hl 0 rfl) ?_
    refine lv_iload hx hb dX2_noise_153 (lv_at hl 2 rfl) ?_
    refine lv_icmp_le (tgt := 163) hx hb dX2_noise_155 (by decide) (fun c155 => ?_) (fun c155 => ?_)
    · have h := g_it c155 h
      refine lv_iload hx hb dX2_noise_163 (lv_at hl 2 rfl) ?_
      exact m_iretR dX2_noise_165 S hr hk hM hS h
    · have h := g_if c155 h
      refine lv_iload hx hb dX2_noise_158 (lv_at hl 0 rfl) ?_
      refine lv_goto (tgt := 165) hx hb dX2_noise_160 (by decide) ?_
      exact m_iretR dX2_noise_165 S hr hk hM hS h
  have J69 : ∀ (x1 x2 x3 s0 : Int32) (M : MM) (H : Heap) (locs : List Loc) (ls : Array Slot), mm_noise_J69 x1 x2 x3 s0 M = some r → gM E M H → va_S (gx_A E) s.heap H locs → lv_has ls 6 [(0, .ref (gx_m E)), (1, .int x1), (2, .int x2), (3, .int x3)] → W p l e (gRm 2 0 0) s m args below meth c H locs 0 0 (MQ below (gQ (some (.int r)) (gM E M) (gx_A E)) args s 0 0 (gx_A E)) (F0 m 69 ls [.int s0]) := by
    intro x1 x2 x3 s0 M H locs ls h hM hS hl
    unfold mm_noise_J69 at h
    refine lv_istore (lv' := [(4, .int s0), (0, .ref (gx_m E)), (1, .int x1), (2, .int x2), (3, .int x3)]) hx hb dX2_noise_69 hl (by decide) rfl (fun ls hl => ?_)
    refine lv_aload_n hx hb dX2_noise_71 rfl (lv_at hl 1 rfl) ?_
    refine ma_kind dX2_noise_72 S hE hM ?_
    refine lv_iload_n hx hb dX2_noise_75 rfl (lv_at hl 2 rfl) ?_
    obtain ⟨v76, e76, h⟩ := g_bd h
    refine m_ald 25 dX2_noise_76 (by decide) rfl S hE hM e76 ?_
    by_cases c77_3 : v76 = 3
    · have h := g_it c77_3 h
      refine lv_lookup (off := 35) (tgt := 112) hx hb dX2_noise_77 (by decide) (by rw [c77_3]; rfl) (by decide) ?_
      refine lv_aload_n hx hb dX2_noise_112 rfl (lv_at hl 1 rfl) ?_
      refine ma_speed dX2_noise_113 S hE hM ?_
      refine lv_iload_n hx hb dX2_noise_116 rfl (lv_at hl 2 rfl) ?_
      obtain ⟨v117, e117, h⟩ := g_bd h
      refine m_ald 56 dX2_noise_117 (by decide) rfl S hE hM e117 ?_
      refine lv_if_ne (tgt := 126) hx hb dX2_noise_118 (by decide) (fun c118 => ?_) (fun c118 => ?_)
      · have h := g_if c118 h
        refine lv_iload hx hb dX2_noise_126 (lv_at hl 0 rfl) ?_
        refine lv_bipush (v := 10) hx hb dX2_noise_128 (by decide) ?_
        refine lv_iadd hx hb dX2_noise_130 ?_
        exact m_iretR dX2_noise_131 S hr hk hM hS h
      · have h := g_it c118 h
        refine lv_iload hx hb dX2_noise_121 (lv_at hl 0 rfl) ?_
        refine lv_goto (tgt := 131) hx hb dX2_noise_123 (by decide) ?_
        exact m_iretR dX2_noise_131 S hr hk hM hS h
    have h := g_if c77_3 h
    by_cases c77_6 : v76 = 6
    · have h := g_it c77_6 h
      refine lv_lookup (off := 55) (tgt := 132) hx hb dX2_noise_77 (by decide) (by rw [c77_6]; rfl) (by decide) ?_
      refine lv_iload hx hb dX2_noise_132 (lv_at hl 0 rfl) ?_
      refine lv_iconst (v := 2) hx hb dX2_noise_134 (by decide) ?_
      refine lv_idiv hx hb dX2_noise_135 (by decide) ?_
      exact m_iretR dX2_noise_136 S hr hk hM hS h
    have h := g_if c77_6 h
    by_cases c77_8 : v76 = 8
    · have h := g_it c77_8 h
      refine lv_lookup (off := 60) (tgt := 137) hx hb dX2_noise_77 (by decide) (by rw [c77_8]; rfl) (by decide) ?_
      refine lv_iconst (v := 0) hx hb dX2_noise_137 (by decide) ?_
      exact m_iretR dX2_noise_138 S hr hk hM hS h
    have h := g_if c77_8 h
    refine lv_lookup (off := 62) (tgt := 139) hx hb dX2_noise_77 (by decide) (by show Op.lookupswitch.offset [(3, 35), (6, 55), (8, 60)] 62 _ = _; rw [lv_osw c77_3 (by decide), lv_osw c77_6 (by decide), lv_osw c77_8 (by decide)]; rfl) (by decide) ?_
    refine lv_iload_n hx hb dX2_noise_139 rfl (lv_at hl 3 rfl) ?_
    refine lv_iload_n hx hb dX2_noise_140 rfl (lv_at hl 4 rfl) ?_
    refine lv_icmp_le (tgt := 148) hx hb dX2_noise_141 (by decide) (fun c141 => ?_) (fun c141 => ?_)
    · have h := g_it c141 h
      refine lv_iload_n hx hb dX2_noise_148 rfl (lv_at hl 4 rfl) ?_
      exact J149 s0 x3 M _ _ _ h hM hS (lv_sub hl [1, 0] rfl)
    · have h := g_if c141 h
      refine lv_iload_n hx hb dX2_noise_144 rfl (lv_at hl 3 rfl) ?_
      refine lv_goto (tgt := 149) hx hb dX2_noise_145 (by decide) ?_
      exact J149 s0 x2 M _ _ _ h hM hS (lv_sub hl [1, 0] rfl)
  have J48 : ∀ (x1 x2 s0 : Int32) (M : MM) (H : Heap) (locs : List Loc) (ls : Array Slot), mm_noise_J48 x1 x2 s0 M = some r → gM E M H → va_S (gx_A E) s.heap H locs → lv_has ls 6 [(0, .ref (gx_m E)), (1, .int x1), (2, .int x2)] → W p l e (gRm 2 0 0) s m args below meth c H locs 0 0 (MQ below (gQ (some (.int r)) (gM E M) (gx_A E)) args s 0 0 (gx_A E)) (F0 m 48 ls [.int s0]) := by
    intro x1 x2 s0 M H locs ls h hM hS hl
    unfold mm_noise_J48 at h
    refine lv_istore_n (lv' := [(3, .int s0), (0, .ref (gx_m E)), (1, .int x1), (2, .int x2)]) hx hb dX2_noise_48 rfl hl (by decide) rfl (fun ls hl => ?_)
    refine lv_aload_n hx hb dX2_noise_49 rfl (lv_at hl 1 rfl) ?_
    refine lv_iload_n hx hb dX2_noise_50 rfl (lv_at hl 2 rfl) ?_
    refine lv_bipush (v := 16) hx hb dX2_noise_51 (by decide) ?_
    obtain ⟨v53, e53, h⟩ := g_bd h
    refine m_cV (y := yX2_has) (rest := []) dX2_noise_53 q3212 q3214 qs89 q3215 hm_has S hE hM hS hl.1 rfl (wm_has E l _ _ _ _ e53) rfl (Nat.le_of_ble_eq_true rfl) ⟨Nat.le_of_ble_eq_true rfl, Nat.le_of_ble_eq_true rfl⟩ ⟨Nat.le_refl 0, Nat.le_refl 0⟩ (fun H locs hM hS => ?_)
    refine lv_if_eq (tgt := 68) hx hb dX2_noise_56 (by decide) (fun c56 => ?_) (fun c56 => ?_)
    · have h := g_it c56 h
      refine lv_iconst (v := 0) hx hb dX2_noise_68 (by decide) ?_
      exact J69 x1 x2 s0 0 M _ _ _ h hM hS (lv_sub hl [1, 2, 3, 0] rfl)
    · have h := g_if c56 h
      refine lv_aload_n hx hb dX2_noise_59 rfl (lv_at hl 1 rfl) ?_
      refine ma_volume dX2_noise_60 S hE hM ?_
      refine lv_iload_n hx hb dX2_noise_63 rfl (lv_at hl 2 rfl) ?_
      obtain ⟨v64, e64, h⟩ := g_bd h
      refine m_ald 63 dX2_noise_64 (by decide) rfl S hE hM e64 ?_
      refine lv_goto (tgt := 69) hx hb dX2_noise_65 (by decide) ?_
      exact J69 x1 x2 s0 v64 M _ _ _ h hM hS (lv_sub hl [1, 2, 3, 0] rfl)
  have J47 : ∀ (x1 x2 : Int32) (M : MM) (H : Heap) (locs : List Loc) (ls : Array Slot), mm_noise_J47 x1 x2 M = some r → gM E M H → va_S (gx_A E) s.heap H locs → lv_has ls 6 [(0, .ref (gx_m E)), (1, .int x1), (2, .int x2)] → W p l e (gRm 2 0 0) s m args below meth c H locs 0 0 (MQ below (gQ (some (.int r)) (gM E M) (gx_A E)) args s 0 0 (gx_A E)) (F0 m 47 ls []) := by
    intro x1 x2 M H locs ls h hM hS hl
    unfold mm_noise_J47 at h
    refine lv_iconst (v := 0) hx hb dX2_noise_47 (by decide) ?_
    exact J48 x1 x2 0 M _ _ _ h hM hS (lv_sub hl [0, 1, 2] rfl)
  have J24 : ∀ (x1 s0 : Int32) (M : MM) (H : Heap) (locs : List Loc) (ls : Array Slot), mm_noise_J24 x1 s0 M = some r → gM E M H → va_S (gx_A E) s.heap H locs → lv_has ls 6 [(0, .ref (gx_m E)), (1, .int x1)] → W p l e (gRm 2 0 0) s m args below meth c H locs 0 0 (MQ below (gQ (some (.int r)) (gM E M) (gx_A E)) args s 0 0 (gx_A E)) (F0 m 24 ls [.int s0]) := by
    intro x1 s0 M H locs ls h hM hS hl
    unfold mm_noise_J24 at h
    refine lv_istore_n (lv' := [(2, .int s0), (0, .ref (gx_m E)), (1, .int x1)]) hx hb dX2_noise_24 rfl hl (by decide) rfl (fun ls hl => ?_)
    refine lv_aload_n hx hb dX2_noise_25 rfl (lv_at hl 1 rfl) ?_
    refine lv_iload_n hx hb dX2_noise_26 rfl (lv_at hl 2 rfl) ?_
    refine lv_iconst (v := 2) hx hb dX2_noise_27 (by decide) ?_
    obtain ⟨v28, e28, h⟩ := g_bd h
    refine m_cV (y := yX2_has) (rest := []) dX2_noise_28 q3212 q3214 qs89 q3215 hm_has S hE hM hS hl.1 rfl (wm_has E l _ _ _ _ e28) rfl (Nat.le_of_ble_eq_true rfl) ⟨Nat.le_of_ble_eq_true rfl, Nat.le_of_ble_eq_true rfl⟩ ⟨Nat.le_refl 0, Nat.le_refl 0⟩ (fun H locs hM hS => ?_)
    refine lv_if_eq (tgt := 47) hx hb dX2_noise_31 (by decide) (fun c31 => ?_) (fun c31 => ?_)
    · have h := g_it c31 h
      exact J47 x1 s0 M _ _ _ h hM hS (lv_sub hl [1, 2, 0] rfl)
    · have h := g_if c31 h
      refine lv_aload_n hx hb dX2_noise_34 rfl (lv_at hl 1 rfl) ?_
      refine ma_moved dX2_noise_35 S hE hM ?_
      refine lv_iload_n hx hb dX2_noise_38 rfl (lv_at hl 2 rfl) ?_
      obtain ⟨v39, e39, h⟩ := g_bd h
      refine m_ald 60 dX2_noise_39 (by decide) rfl S hE hM e39 ?_
      refine lv_if_eq (tgt := 47) hx hb dX2_noise_40 (by decide) (fun c40 => ?_) (fun c40 => ?_)
      · have h := g_it c40 h
        exact J47 x1 s0 M _ _ _ h hM hS (lv_sub hl [1, 2, 0] rfl)
      · have h := g_if c40 h
        refine lv_iconst (v := 5) hx hb dX2_noise_43 (by decide) ?_
        refine lv_goto (tgt := 48) hx hb dX2_noise_44 (by decide) ?_
        exact J48 x1 s0 5 M _ _ _ h hM hS (lv_sub hl [1, 2, 0] rfl)
  unfold mm_noise at h
  refine lv_aload_n hx hb dX2_noise_0 rfl (lv_at hl 0 rfl) ?_
  refine lv_iload_n hx hb dX2_noise_1 rfl (lv_at hl 1 rfl) ?_
  refine lv_iconst (v := 1) hx hb dX2_noise_2 (by decide) ?_
  obtain ⟨v3, e3, h⟩ := g_bd h
  refine m_cV (y := yX2_has) (rest := []) dX2_noise_3 q3212 q3214 qs89 q3215 hm_has S hE hM hS hl.1 rfl (wm_has E l _ _ _ _ e3) rfl (Nat.le_of_ble_eq_true rfl) ⟨Nat.le_of_ble_eq_true rfl, Nat.le_of_ble_eq_true rfl⟩ ⟨Nat.le_refl 0, Nat.le_refl 0⟩ (fun H locs hM hS => ?_)
  refine lv_if_eq (tgt := 23) hx hb dX2_noise_6 (by decide) (fun c6 => ?_) (fun c6 => ?_)
  · have h := g_it c6 h
    refine lv_iconst (v := 0) hx hb dX2_noise_23 (by decide) ?_
    exact J24 x1 0 M _ _ _ h hM hS (lv_sub hl [0, 1] rfl)
  · have h := g_if c6 h
    refine lv_aload_n hx hb dX2_noise_9 rfl (lv_at hl 0 rfl) ?_
    refine ma_speed dX2_noise_10 S hE hM ?_
    refine lv_iload_n hx hb dX2_noise_13 rfl (lv_at hl 1 rfl) ?_
    obtain ⟨v14, e14, h⟩ := g_bd h
    refine m_ald 56 dX2_noise_14 (by decide) rfl S hE hM e14 ?_
    obtain ⟨v15, e15, h⟩ := g_bd h
    refine m_cS (y := yX2_sizeOf) (rest := []) dX2_noise_15 q3319 q3320 q3321 hm_sizeOf S hE hM hS hl.1 rfl (wm_sizeOf E l _ _ _ e15) rfl (Nat.le_of_ble_eq_true rfl) ⟨Nat.le_of_ble_eq_true rfl, Nat.le_of_ble_eq_true rfl⟩ ⟨Nat.le_refl 0, Nat.le_refl 0⟩ (fun H locs hM hS => ?_)
    refine lv_iconst (v := 2) hx hb dX2_noise_18 (by decide) ?_
    refine lv_idiv hx hb dX2_noise_19 (by decide) ?_
    refine lv_goto (tgt := 24) hx hb dX2_noise_20 (by decide) ?_
    exact J24 x1 (v15 / 2) M _ _ _ h hM hS (lv_sub hl [0, 1] rfl)
theorem hm_says : yX2_says.cls = RX2 ∧ yX2_says.cls ≠ "java/lang/invoke/MethodHandle" ∧ yX2_says.cls ≠ "java/lang/invoke/VarHandle" ∧ (parseMethodDescriptor yX2_says.desc).map (fun d => d.parameters.length) = some 2 := by decide +kernel
set_option maxHeartbeats 4000000 in
set_option maxRecDepth 100000 in
theorem wm_says (E : gX) (l : Launch) (x1 x2 : Int32) (r : Int32) (M M' : MM) (h : mm_says x1 x2 M = some (r, M')) : gMet E l yX2_says cX2_says 3 (some .int) 3 0 0 (gx_A E) [.ref (gx_m E), .int x1, .int x2] (gM E M) (gM E M') (some (.int r)) := by
  refine gMet.of (own := RX2) (by decide +kernel) (Nat.le_of_ble_eq_true rfl) rfl ?_
  intro p e s m args below meth c S hr hk hnm hE hM hS ls hl
  have hl : lv_has ls 3 [(0, .ref (gx_m E)), (1, .int x1), (2, .int x2)] := hl
  have hx := S.1
  have hb := S.2.1
  have J23 : ∀ (x1 x2 s1 : Int32) (M : MM) (H : Heap) (locs : List Loc) (ls : Array Slot), mm_says_J23 x1 x2 s1 M = some (r, M') → gM E M H → va_S (gx_A E) s.heap H locs → lv_has ls 3 [(0, .ref (gx_m E)), (1, .int x1), (2, .int x2)] → W p l e (gRm 3 0 0) s m args below meth c H locs 0 0 (MQ below (gQ (some (.int r)) (gM E M') (gx_A E)) args s 0 0 (gx_A E)) (F0 m 23 ls [.int s1, .ref (gx_m E)]) := by
    intro x1 x2 s1 M H locs ls h hM hS hl
    unfold mm_says_J23 at h
    refine lv_iconst (v := 1) hx hb dX2_says_23 (by decide) ?_
    obtain ⟨q24, e24, h⟩ := g_bd h
    refine m_cV (y := yX2_may) (rest := []) dX2_says_24 q3216 q3218 qs90 q3219 hm_may S hE hM hS hl.1 rfl (wm_may E l _ _ _ _ _ e24) rfl (Nat.le_of_ble_eq_true rfl) ⟨Nat.le_of_ble_eq_true rfl, Nat.le_of_ble_eq_true rfl⟩ ⟨Nat.le_refl 0, Nat.le_refl 0⟩ (fun H locs hM hS => ?_)
    refine lv_if_ne (tgt := 32) hx hb dX2_says_27 (by decide) (fun c27 => ?_) (fun c27 => ?_)
    · have h := g_if c27 h
      refine lv_iload_n hx hb dX2_says_32 rfl (lv_at hl 2 rfl) ?_
      by_cases c33_0 : x2 = 0
      · have h := g_it c33_0 h
        refine lv_tableIn (off := 31) (tgt := 64) hx hb dX2_says_33 (by rw [c33_0]; decide) (by rw [c33_0]; decide) (by rw [c33_0]; rfl) (by decide) ?_
        refine lv_aload_n hx hb dX2_says_64 rfl (lv_at hl 0 rfl) ?_
        refine lv_iload_n hx hb dX2_says_65 rfl (lv_at hl 1 rfl) ?_
        obtain ⟨v66, e66, h⟩ := g_bd h
        refine m_cV (y := yX2_draw) (rest := []) dX2_says_66 q3326 q3328 qs114 q3329 hm_draw S hE hM hS hl.1 rfl (wm_draw E l _ _ _ e66) rfl (Nat.le_of_ble_eq_true rfl) ⟨Nat.le_of_ble_eq_true rfl, Nat.le_of_ble_eq_true rfl⟩ ⟨Nat.le_refl 0, Nat.le_refl 0⟩ (fun H locs hM hS => ?_)
        exact m_iretW dX2_says_69 S hr hk hM hS h
      have h := g_if c33_0 h
      by_cases c33_1 : x2 = 1
      · have h := g_it c33_1 h
        refine lv_tableIn (off := 37) (tgt := 70) hx hb dX2_says_33 (by rw [c33_1]; decide) (by rw [c33_1]; decide) (by rw [c33_1]; rfl) (by decide) ?_
        refine lv_aload_n hx hb dX2_says_70 rfl (lv_at hl 0 rfl) ?_
        refine lv_iload_n hx hb dX2_says_71 rfl (lv_at hl 1 rfl) ?_
        obtain ⟨v72, e72, h⟩ := g_bd h
        refine m_cV (y := yX2_noise) (rest := []) dX2_says_72 q3346 q3348 qs117 q3349 hm_noise S hE hM hS hl.1 rfl (wm_noise E l _ _ _ e72) rfl (Nat.le_of_ble_eq_true rfl) ⟨Nat.le_of_ble_eq_true rfl, Nat.le_of_ble_eq_true rfl⟩ ⟨Nat.le_refl 0, Nat.le_refl 0⟩ (fun H locs hM hS => ?_)
        exact m_iretW dX2_says_75 S hr hk hM hS h
      have h := g_if c33_1 h
      by_cases c33_2 : x2 = 2
      · have h := g_it c33_2 h
        refine lv_tableIn (off := 43) (tgt := 76) hx hb dX2_says_33 (by rw [c33_2]; decide) (by rw [c33_2]; decide) (by rw [c33_2]; rfl) (by decide) ?_
        refine lv_aload_n hx hb dX2_says_76 rfl (lv_at hl 0 rfl) ?_
        refine lv_iload_n hx hb dX2_says_77 rfl (lv_at hl 1 rfl) ?_
        obtain ⟨v78, e78, h⟩ := g_bd h
        refine m_cV (y := yX2_tear) (rest := []) dX2_says_78 q3334 q3336 qs116 q3337 hm_tear S hE hM hS hl.1 rfl (wm_tear E l _ _ _ e78) rfl (Nat.le_of_ble_eq_true rfl) ⟨Nat.le_of_ble_eq_true rfl, Nat.le_of_ble_eq_true rfl⟩ ⟨Nat.le_refl 0, Nat.le_refl 0⟩ (fun H locs hM hS => ?_)
        exact m_iretW dX2_says_81 S hr hk hM hS h
      have h := g_if c33_2 h
      by_cases c33_3 : x2 = 3
      · have h := g_it c33_3 h
        refine lv_tableIn (off := 49) (tgt := 82) hx hb dX2_says_33 (by rw [c33_3]; decide) (by rw [c33_3]; decide) (by rw [c33_3]; rfl) (by decide) ?_
        refine lv_aload_n hx hb dX2_says_82 rfl (lv_at hl 0 rfl) ?_
        refine lv_iload_n hx hb dX2_says_83 rfl (lv_at hl 1 rfl) ?_
        obtain ⟨v84, e84, h⟩ := g_bd h
        refine m_cV (y := yX2_isCalm) (rest := []) dX2_says_84 q3284 q3286 qs105 q3287 hm_isCalm S hE hM hS hl.1 rfl (wm_isCalm E l _ _ _ e84) rfl (Nat.le_of_ble_eq_true rfl) ⟨Nat.le_of_ble_eq_true rfl, Nat.le_of_ble_eq_true rfl⟩ ⟨Nat.le_refl 0, Nat.le_refl 0⟩ (fun H locs hM hS => ?_)
        refine lv_if_eq (tgt := 94) hx hb dX2_says_87 (by decide) (fun c87 => ?_) (fun c87 => ?_)
        · have h := g_it c87 h
          refine lv_iconst (v := 0) hx hb dX2_says_94 (by decide) ?_
          exact m_iretW dX2_says_95 S hr hk hM hS h
        · have h := g_if c87 h
          refine lv_iconst (v := 1) hx hb dX2_says_90 (by decide) ?_
          refine lv_goto (tgt := 95) hx hb dX2_says_91 (by decide) ?_
          exact m_iretW dX2_says_95 S hr hk hM hS h
      have h := g_if c33_3 h
      refine lv_tableOut (tgt := 96) hx hb dX2_says_33 (g_swOut 0 3 (by intro k hk; match k, hk with | 0, _ => exact c33_0 | 1, _ => exact c33_1 | 2, _ => exact c33_2 | 3, _ => exact c33_3 | k + 4, hk => exact absurd hk (by omega)) (by decide) (by decide)) (by decide) ?_
      refine lv_aload_n hx hb dX2_says_96 rfl (lv_at hl 0 rfl) ?_
      refine lv_iload_n hx hb dX2_says_97 rfl (lv_at hl 1 rfl) ?_
      obtain ⟨v98, e98, h⟩ := g_bd h
      refine m_cV (y := yX2_limit) (rest := []) dX2_says_98 q3330 q3332 qs115 q3333 hm_limit S hE hM hS hl.1 rfl (wm_limit E l _ _ _ e98) rfl (Nat.le_of_ble_eq_true rfl) ⟨Nat.le_of_ble_eq_true rfl, Nat.le_of_ble_eq_true rfl⟩ ⟨Nat.le_refl 0, Nat.le_refl 0⟩ (fun H locs hM hS => ?_)
      exact m_iretW dX2_says_101 S hr hk hM hS h
    · have h := g_it c27 h
      refine lv_iconst (v := 0) hx hb dX2_says_30 (by decide) ?_
      exact m_iretW dX2_says_31 S hr hk hM hS h
  have J22 : ∀ (x1 x2 : Int32) (M : MM) (H : Heap) (locs : List Loc) (ls : Array Slot), mm_says_J22 x1 x2 M = some (r, M') → gM E M H → va_S (gx_A E) s.heap H locs → lv_has ls 3 [(0, .ref (gx_m E)), (1, .int x1), (2, .int x2)] → W p l e (gRm 3 0 0) s m args below meth c H locs 0 0 (MQ below (gQ (some (.int r)) (gM E M') (gx_A E)) args s 0 0 (gx_A E)) (F0 m 22 ls [.ref (gx_m E)]) := by
    intro x1 x2 M H locs ls h hM hS hl
    unfold mm_says_J22 at h
    refine lv_iconst (v := 0) hx hb dX2_says_22 (by decide) ?_
    exact J23 x1 x2 0 M _ _ _ h hM hS (lv_sub hl [0, 1, 2] rfl)
  unfold mm_says at h
  refine lv_aload_n hx hb dX2_says_0 rfl (lv_at hl 0 rfl) ?_
  refine lv_aload_n hx hb dX2_says_1 rfl (lv_at hl 0 rfl) ?_
  refine lv_iload_n hx hb dX2_says_2 rfl (lv_at hl 1 rfl) ?_
  obtain ⟨v3, e3, h⟩ := g_bd h
  refine m_cV (y := yX2_isRide) (rest := [.ref (gx_m E)]) dX2_says_3 q3208 q3210 qs88 q3211 hm_isRide S hE hM hS hl.1 rfl (wm_isRide E l _ _ _ e3) rfl (Nat.le_of_ble_eq_true rfl) ⟨Nat.le_of_ble_eq_true rfl, Nat.le_of_ble_eq_true rfl⟩ ⟨Nat.le_refl 0, Nat.le_refl 0⟩ (fun H locs hM hS => ?_)
  refine lv_if_eq (tgt := 22) hx hb dX2_says_6 (by decide) (fun c6 => ?_) (fun c6 => ?_)
  · have h := g_it c6 h
    exact J22 x1 x2 M _ _ _ h hM hS (lv_sub hl [0, 1, 2] rfl)
  · have h := g_if c6 h
    refine lv_iload_n hx hb dX2_says_9 rfl (lv_at hl 2 rfl) ?_
    refine lv_if_lt (tgt := 22) hx hb dX2_says_10 (by decide) (fun c10 => ?_) (fun c10 => ?_)
    · have h := g_it c10 h
      exact J22 x1 x2 M _ _ _ h hM hS (lv_sub hl [0, 1, 2] rfl)
    · have h := g_if c10 h
      refine lv_iload_n hx hb dX2_says_13 rfl (lv_at hl 2 rfl) ?_
      refine lv_iconst (v := 4) hx hb dX2_says_14 (by decide) ?_
      refine lv_icmp_gt (tgt := 22) hx hb dX2_says_15 (by decide) (fun c15 => ?_) (fun c15 => ?_)
      · have h := g_it c15 h
        exact J22 x1 x2 M _ _ _ h hM hS (lv_sub hl [0, 1, 2] rfl)
      · have h := g_if c15 h
        refine lv_iconst (v := 1) hx hb dX2_says_18 (by decide) ?_
        refine lv_goto (tgt := 23) hx hb dX2_says_19 (by decide) ?_
        exact J23 x1 x2 1 M _ _ _ h hM hS (lv_sub hl [0, 1, 2] rfl)
theorem hm_script : yX2_script.cls = RX2 ∧ yX2_script.cls ≠ "java/lang/invoke/MethodHandle" ∧ yX2_script.cls ≠ "java/lang/invoke/VarHandle" ∧ (parseMethodDescriptor yX2_script.desc).map (fun d => d.parameters.length) = some 2 := by decide +kernel
set_option maxHeartbeats 4000000 in
set_option maxRecDepth 100000 in
theorem wm_script (E : gX) (l : Launch) (x1 x2 : Int32) (r : Int32) (M M' : MM) (h : mm_script x1 x2 M = some (r, M')) : gMet E l yX2_script cX2_script 3 (some .int) 2 0 0 (gx_A E) [.ref (gx_m E), .int x1, .int x2] (gM E M) (gM E M') (some (.int r)) := by
  refine gMet.of (own := RX2) (by decide +kernel) (Nat.le_of_ble_eq_true rfl) rfl ?_
  intro p e s m args below meth c S hr hk hnm hE hM hS ls hl
  have hl : lv_has ls 3 [(0, .ref (gx_m E)), (1, .int x1), (2, .int x2)] := hl
  have hx := S.1
  have hb := S.2.1
  have J103 : ∀ (M : MM) (H : Heap) (locs : List Loc) (ls : Array Slot), mm_script_J103 M = some (r, M') → gM E M H → va_S (gx_A E) s.heap H locs → lv_has ls 3 [(0, .ref (gx_m E))] → W p l e (gRm 2 0 0) s m args below meth c H locs 0 0 (MQ below (gQ (some (.int r)) (gM E M') (gx_A E)) args s 0 0 (gx_A E)) (F0 m 103 ls []) := by
    intro M H locs ls h hM hS hl
    unfold mm_script_J103 at h
    refine lv_iconst (v := (-1)) hx hb dX2_script_103 (by decide) ?_
    refine lv_goto (tgt := 118) hx hb dX2_script_104 (by decide) ?_
    exact m_iretW dX2_script_118 S hr hk hM hS h
  have J24 : ∀ (x1 x2 s1 : Int32) (M : MM) (H : Heap) (locs : List Loc) (ls : Array Slot), mm_script_J24 x1 x2 s1 M = some (r, M') → gM E M H → va_S (gx_A E) s.heap H locs → lv_has ls 3 [(0, .ref (gx_m E)), (1, .int x1), (2, .int x2)] → W p l e (gRm 2 0 0) s m args below meth c H locs 0 0 (MQ below (gQ (some (.int r)) (gM E M') (gx_A E)) args s 0 0 (gx_A E)) (F0 m 24 ls [.int s1, .ref (gx_m E)]) := by
    intro x1 x2 s1 M H locs ls h hM hS hl
    unfold mm_script_J24 at h
    refine lv_iconst (v := 1) hx hb dX2_script_24 (by decide) ?_
    obtain ⟨q25, e25, h⟩ := g_bd h
    refine m_cV (y := yX2_may) (rest := []) dX2_script_25 q3216 q3218 qs90 q3219 hm_may S hE hM hS hl.1 rfl (wm_may E l _ _ _ _ _ e25) rfl (Nat.le_of_ble_eq_true rfl) ⟨Nat.le_of_ble_eq_true rfl, Nat.le_of_ble_eq_true rfl⟩ ⟨Nat.le_refl 0, Nat.le_refl 0⟩ (fun H locs hM hS => ?_)
    refine lv_if_ne (tgt := 33) hx hb dX2_script_28 (by decide) (fun c28 => ?_) (fun c28 => ?_)
    · have h := g_if c28 h
      refine lv_iload_n hx hb dX2_script_33 rfl (lv_at hl 2 rfl) ?_
      by_cases c34_0 : x2 = 0
      · have h := g_it c34_0 h
        refine lv_tableIn (off := 30) (tgt := 64) hx hb dX2_script_34 (by rw [c34_0]; decide) (by rw [c34_0]; decide) (by rw [c34_0]; rfl) (by decide) ?_
        refine lv_aload_n hx hb dX2_script_64 rfl (lv_at hl 0 rfl) ?_
        refine ma_state dX2_script_65 S hE hM ?_
        refine lv_iload_n hx hb dX2_script_68 rfl (lv_at hl 1 rfl) ?_
        obtain ⟨v69, e69, h⟩ := g_bd h
        refine m_ald 65 dX2_script_69 (by decide) rfl S hE hM e69 ?_
        exact m_iretW dX2_script_70 S hr hk hM hS h
      have h := g_if c34_0 h
      by_cases c34_1 : x2 = 1
      · have h := g_it c34_1 h
        refine lv_tableIn (off := 37) (tgt := 71) hx hb dX2_script_34 (by rw [c34_1]; decide) (by rw [c34_1]; decide) (by rw [c34_1]; rfl) (by decide) ?_
        refine lv_aload_n hx hb dX2_script_71 rfl (lv_at hl 0 rfl) ?_
        refine ma_why dX2_script_72 S hE hM ?_
        refine lv_iload_n hx hb dX2_script_75 rfl (lv_at hl 1 rfl) ?_
        obtain ⟨v76, e76, h⟩ := g_bd h
        refine m_ald 66 dX2_script_76 (by decide) rfl S hE hM e76 ?_
        exact m_iretW dX2_script_77 S hr hk hM hS h
      have h := g_if c34_1 h
      by_cases c34_2 : x2 = 2
      · have h := g_it c34_2 h
        refine lv_tableIn (off := 44) (tgt := 78) hx hb dX2_script_34 (by rw [c34_2]; decide) (by rw [c34_2]; decide) (by rw [c34_2]; rfl) (by decide) ?_
        refine lv_aload_n hx hb dX2_script_78 rfl (lv_at hl 0 rfl) ?_
        refine ma_state dX2_script_79 S hE hM ?_
        refine lv_iload_n hx hb dX2_script_82 rfl (lv_at hl 1 rfl) ?_
        obtain ⟨v83, e83, h⟩ := g_bd h
        refine m_ald 65 dX2_script_83 (by decide) rfl S hE hM e83 ?_
        refine lv_if_ne (tgt := 103) hx hb dX2_script_84 (by decide) (fun c84 => ?_) (fun c84 => ?_)
        · have h := g_if c84 h
          exact J103 q25.2 _ _ _ h hM hS (lv_sub hl [0] rfl)
        · have h := g_it c84 h
          refine lv_aload_n hx hb dX2_script_87 rfl (lv_at hl 0 rfl) ?_
          refine ma_op dX2_script_88 S hE hM ?_
          refine lv_aload_n hx hb dX2_script_91 rfl (lv_at hl 0 rfl) ?_
          refine ma_next dX2_script_92 S hE hM ?_
          refine lv_iload_n hx hb dX2_script_95 rfl (lv_at hl 1 rfl) ?_
          obtain ⟨v96, e96, h⟩ := g_bd h
          refine m_ald 67 dX2_script_96 (by decide) rfl S hE hM e96 ?_
          obtain ⟨v97, e97, h⟩ := g_bd h
          refine m_ald 35 dX2_script_97 (by decide) rfl S hE hM e97 ?_
          refine lv_bipush (v := 54) hx hb dX2_script_98 (by decide) ?_
          refine lv_icmp_ne (tgt := 107) hx hb dX2_script_100 (by decide) (fun c100 => ?_) (fun c100 => ?_)
          · have h := g_if c100 h
            refine lv_aload_n hx hb dX2_script_107 rfl (lv_at hl 0 rfl) ?_
            refine ma_opAt dX2_script_108 S hE hM ?_
            refine lv_aload_n hx hb dX2_script_111 rfl (lv_at hl 0 rfl) ?_
            refine ma_next dX2_script_112 S hE hM ?_
            refine lv_iload_n hx hb dX2_script_115 rfl (lv_at hl 1 rfl) ?_
            obtain ⟨v116, e116, h⟩ := g_bd h
            refine m_ald 67 dX2_script_116 (by decide) rfl S hE hM e116 ?_
            obtain ⟨v117, e117, h⟩ := g_bd h
            refine m_ald 36 dX2_script_117 (by decide) rfl S hE hM e117 ?_
            exact m_iretW dX2_script_118 S hr hk hM hS h
          · have h := g_it c100 h
            exact J103 q25.2 _ _ _ h hM hS (lv_sub hl [0] rfl)
      have h := g_if c34_2 h
      by_cases c34_3 : x2 = 3
      · have h := g_it c34_3 h
        refine lv_tableIn (off := 85) (tgt := 119) hx hb dX2_script_34 (by rw [c34_3]; decide) (by rw [c34_3]; decide) (by rw [c34_3]; rfl) (by decide) ?_
        refine lv_aload_n hx hb dX2_script_119 rfl (lv_at hl 0 rfl) ?_
        refine ma_counted dX2_script_120 S hE hM ?_
        refine lv_iload_n hx hb dX2_script_123 rfl (lv_at hl 1 rfl) ?_
        obtain ⟨v124, e124, h⟩ := g_bd h
        refine m_ald 68 dX2_script_124 (by decide) rfl S hE hM e124 ?_
        exact m_iretW dX2_script_125 S hr hk hM hS h
      have h := g_if c34_3 h
      refine lv_tableOut (tgt := 126) hx hb dX2_script_34 (g_swOut 0 3 (by intro k hk; match k, hk with | 0, _ => exact c34_0 | 1, _ => exact c34_1 | 2, _ => exact c34_2 | 3, _ => exact c34_3 | k + 4, hk => exact absurd hk (by omega)) (by decide) (by decide)) (by decide) ?_
      refine lv_aload_n hx hb dX2_script_126 rfl (lv_at hl 0 rfl) ?_
      refine ma_register dX2_script_127 S hE hM ?_
      refine lv_iconst (v := 4) hx hb dX2_script_130 (by decide) ?_
      refine lv_iload_n hx hb dX2_script_131 rfl (lv_at hl 1 rfl) ?_
      refine lv_imul hx hb dX2_script_132 ?_
      refine lv_iload_n hx hb dX2_script_133 rfl (lv_at hl 2 rfl) ?_
      refine lv_iadd hx hb dX2_script_134 ?_
      refine lv_iconst (v := 4) hx hb dX2_script_135 (by decide) ?_
      refine lv_isub hx hb dX2_script_136 ?_
      obtain ⟨v137, e137, h⟩ := g_bd h
      refine m_ald 71 dX2_script_137 (by decide) rfl S hE hM e137 ?_
      exact m_iretW dX2_script_138 S hr hk hM hS h
    · have h := g_it c28 h
      refine lv_iconst (v := 0) hx hb dX2_script_31 (by decide) ?_
      exact m_iretW dX2_script_32 S hr hk hM hS h
  have J23 : ∀ (x1 x2 : Int32) (M : MM) (H : Heap) (locs : List Loc) (ls : Array Slot), mm_script_J23 x1 x2 M = some (r, M') → gM E M H → va_S (gx_A E) s.heap H locs → lv_has ls 3 [(0, .ref (gx_m E)), (1, .int x1), (2, .int x2)] → W p l e (gRm 2 0 0) s m args below meth c H locs 0 0 (MQ below (gQ (some (.int r)) (gM E M') (gx_A E)) args s 0 0 (gx_A E)) (F0 m 23 ls [.ref (gx_m E)]) := by
    intro x1 x2 M H locs ls h hM hS hl
    unfold mm_script_J23 at h
    refine lv_iconst (v := 0) hx hb dX2_script_23 (by decide) ?_
    exact J24 x1 x2 0 M _ _ _ h hM hS (lv_sub hl [0, 1, 2] rfl)
  unfold mm_script at h
  refine lv_aload_n hx hb dX2_script_0 rfl (lv_at hl 0 rfl) ?_
  refine lv_aload_n hx hb dX2_script_1 rfl (lv_at hl 0 rfl) ?_
  refine lv_iload_n hx hb dX2_script_2 rfl (lv_at hl 1 rfl) ?_
  obtain ⟨v3, e3, h⟩ := g_bd h
  refine m_cV (y := yX2_isRide) (rest := [.ref (gx_m E)]) dX2_script_3 q3208 q3210 qs88 q3211 hm_isRide S hE hM hS hl.1 rfl (wm_isRide E l _ _ _ e3) rfl (Nat.le_of_ble_eq_true rfl) ⟨Nat.le_of_ble_eq_true rfl, Nat.le_of_ble_eq_true rfl⟩ ⟨Nat.le_refl 0, Nat.le_refl 0⟩ (fun H locs hM hS => ?_)
  refine lv_if_eq (tgt := 23) hx hb dX2_script_6 (by decide) (fun c6 => ?_) (fun c6 => ?_)
  · have h := g_it c6 h
    exact J23 x1 x2 M _ _ _ h hM hS (lv_sub hl [0, 1, 2] rfl)
  · have h := g_if c6 h
    refine lv_iload_n hx hb dX2_script_9 rfl (lv_at hl 2 rfl) ?_
    refine lv_if_lt (tgt := 23) hx hb dX2_script_10 (by decide) (fun c10 => ?_) (fun c10 => ?_)
    · have h := g_it c10 h
      exact J23 x1 x2 M _ _ _ h hM hS (lv_sub hl [0, 1, 2] rfl)
    · have h := g_if c10 h
      refine lv_iload_n hx hb dX2_script_13 rfl (lv_at hl 2 rfl) ?_
      refine lv_bipush (v := 7) hx hb dX2_script_14 (by decide) ?_
      refine lv_icmp_gt (tgt := 23) hx hb dX2_script_16 (by decide) (fun c16 => ?_) (fun c16 => ?_)
      · have h := g_it c16 h
        exact J23 x1 x2 M _ _ _ h hM hS (lv_sub hl [0, 1, 2] rfl)
      · have h := g_if c16 h
        refine lv_iconst (v := 1) hx hb dX2_script_19 (by decide) ?_
        refine lv_goto (tgt := 24) hx hb dX2_script_20 (by decide) ?_
        exact J24 x1 x2 1 M _ _ _ h hM hS (lv_sub hl [0, 1, 2] rfl)
theorem hm_free : yX2_free.cls = RX2 ∧ yX2_free.cls ≠ "java/lang/invoke/MethodHandle" ∧ yX2_free.cls ≠ "java/lang/invoke/VarHandle" ∧ (parseMethodDescriptor yX2_free.desc).map (fun d => d.parameters.length) = some 1 := by decide +kernel
set_option maxHeartbeats 4000000 in
set_option maxRecDepth 100000 in
theorem wm_free (E : gX) (l : Launch) (x1 : Int32) (r : Int32) (M M' : MM) (h : mm_free x1 M = some (r, M')) : gMet E l yX2_free cX2_free 2 (some .int) 2 0 0 (gx_A E) [.ref (gx_m E), .int x1] (gM E M) (gM E M') (some (.int r)) := by
  refine gMet.of (own := RX2) (by decide +kernel) (Nat.le_of_ble_eq_true rfl) rfl ?_
  intro p e s m args below meth c S hr hk hnm hE hM hS ls hl
  have hl : lv_has ls 2 [(0, .ref (gx_m E)), (1, .int x1)] := hl
  have hx := S.1
  have hb := S.2.1
  have J18 : ∀ (x1 s1 : Int32) (M : MM) (H : Heap) (locs : List Loc) (ls : Array Slot), mm_free_J18 x1 s1 M = some (r, M') → gM E M H → va_S (gx_A E) s.heap H locs → lv_has ls 2 [(0, .ref (gx_m E)), (1, .int x1)] → W p l e (gRm 2 0 0) s m args below meth c H locs 0 0 (MQ below (gQ (some (.int r)) (gM E M') (gx_A E)) args s 0 0 (gx_A E)) (F0 m 18 ls [.int s1, .ref (gx_m E)]) := by
    intro x1 s1 M H locs ls h hM hS hl
    unfold mm_free_J18 at h
    refine lv_iconst (v := 1) hx hb dX2_free_18 (by decide) ?_
    obtain ⟨q19, e19, h⟩ := g_bd h
    refine m_cV (y := yX2_may) (rest := []) dX2_free_19 q3216 q3218 qs90 q3219 hm_may S hE hM hS hl.1 rfl (wm_may E l _ _ _ _ _ e19) rfl (Nat.le_of_ble_eq_true rfl) ⟨Nat.le_of_ble_eq_true rfl, Nat.le_of_ble_eq_true rfl⟩ ⟨Nat.le_refl 0, Nat.le_refl 0⟩ (fun H locs hM hS => ?_)
    refine lv_if_eq (tgt := 34) hx hb dX2_free_22 (by decide) (fun c22 => ?_) (fun c22 => ?_)
    · have h := g_it c22 h
      refine lv_iconst (v := 0) hx hb dX2_free_34 (by decide) ?_
      exact m_iretW dX2_free_35 S hr hk hM hS h
    · have h := g_if c22 h
      refine lv_aload_n hx hb dX2_free_25 rfl (lv_at hl 0 rfl) ?_
      refine ma_idle dX2_free_26 S hE hM ?_
      refine lv_iload_n hx hb dX2_free_29 rfl (lv_at hl 1 rfl) ?_
      obtain ⟨v30, e30, h⟩ := g_bd h
      refine m_ald 74 dX2_free_30 (by decide) rfl S hE hM e30 ?_
      refine lv_goto (tgt := 35) hx hb dX2_free_31 (by decide) ?_
      exact m_iretW dX2_free_35 S hr hk hM hS h
  have J17 : ∀ (x1 : Int32) (M : MM) (H : Heap) (locs : List Loc) (ls : Array Slot), mm_free_J17 x1 M = some (r, M') → gM E M H → va_S (gx_A E) s.heap H locs → lv_has ls 2 [(0, .ref (gx_m E)), (1, .int x1)] → W p l e (gRm 2 0 0) s m args below meth c H locs 0 0 (MQ below (gQ (some (.int r)) (gM E M') (gx_A E)) args s 0 0 (gx_A E)) (F0 m 17 ls [.ref (gx_m E)]) := by
    intro x1 M H locs ls h hM hS hl
    unfold mm_free_J17 at h
    refine lv_iconst (v := 0) hx hb dX2_free_17 (by decide) ?_
    exact J18 x1 0 M _ _ _ h hM hS (lv_sub hl [0, 1] rfl)
  unfold mm_free at h
  refine lv_aload_n hx hb dX2_free_0 rfl (lv_at hl 0 rfl) ?_
  refine lv_iload_n hx hb dX2_free_1 rfl (lv_at hl 1 rfl) ?_
  refine lv_if_lt (tgt := 17) hx hb dX2_free_2 (by decide) (fun c2 => ?_) (fun c2 => ?_)
  · have h := g_it c2 h
    exact J17 x1 M _ _ _ h hM hS (lv_sub hl [0, 1] rfl)
  · have h := g_if c2 h
    refine lv_iload_n hx hb dX2_free_5 rfl (lv_at hl 1 rfl) ?_
    refine lv_aload_n hx hb dX2_free_6 rfl (lv_at hl 0 rfl) ?_
    refine mg_staff dX2_free_7 S hE hM ?_
    refine lv_icmp_ge (tgt := 17) hx hb dX2_free_10 (by decide) (fun c10 => ?_) (fun c10 => ?_)
    · have h := g_it c10 h
      exact J17 x1 M _ _ _ h hM hS (lv_sub hl [0, 1] rfl)
    · have h := g_if c10 h
      refine lv_iconst (v := 1) hx hb dX2_free_13 (by decide) ?_
      refine lv_goto (tgt := 18) hx hb dX2_free_14 (by decide) ?_
      exact J18 x1 1 M _ _ _ h hM hS (lv_sub hl [0, 1] rfl)
theorem hm_isUp : yX2_isUp.cls = RX2 ∧ yX2_isUp.cls ≠ "java/lang/invoke/MethodHandle" ∧ yX2_isUp.cls ≠ "java/lang/invoke/VarHandle" ∧ (parseMethodDescriptor yX2_isUp.desc).map (fun d => d.parameters.length) = some 1 := by decide +kernel
set_option maxHeartbeats 4000000 in
set_option maxRecDepth 100000 in
theorem wm_isUp (E : gX) (l : Launch) (x1 : Int32) (r : Int32) (M M' : MM) (h : mm_isUp x1 M = some (r, M')) : gMet E l yX2_isUp cX2_isUp 2 (some .boolean) 2 0 0 (gx_A E) [.ref (gx_m E), .int x1] (gM E M) (gM E M') (some (.int r)) := by
  refine gMet.of (own := RX2) (by decide +kernel) (Nat.le_of_ble_eq_true rfl) rfl ?_
  intro p e s m args below meth c S hr hk hnm hE hM hS ls hl
  have hl : lv_has ls 2 [(0, .ref (gx_m E)), (1, .int x1)] := hl
  have hx := S.1
  have hb := S.2.1
  have J18 : ∀ (x1 s1 : Int32) (M : MM) (H : Heap) (locs : List Loc) (ls : Array Slot), mm_isUp_J18 x1 s1 M = some (r, M') → gM E M H → va_S (gx_A E) s.heap H locs → lv_has ls 2 [(0, .ref (gx_m E)), (1, .int x1)] → W p l e (gRm 2 0 0) s m args below meth c H locs 0 0 (MQ below (gQ (some (.int r)) (gM E M') (gx_A E)) args s 0 0 (gx_A E)) (F0 m 18 ls [.int s1, .ref (gx_m E)]) := by
    intro x1 s1 M H locs ls h hM hS hl
    unfold mm_isUp_J18 at h
    refine lv_iconst (v := 1) hx hb dX2_isUp_18 (by decide) ?_
    obtain ⟨q19, e19, h⟩ := g_bd h
    refine m_cV (y := yX2_may) (rest := []) dX2_isUp_19 q3216 q3218 qs90 q3219 hm_may S hE hM hS hl.1 rfl (wm_may E l _ _ _ _ _ e19) rfl (Nat.le_of_ble_eq_true rfl) ⟨Nat.le_of_ble_eq_true rfl, Nat.le_of_ble_eq_true rfl⟩ ⟨Nat.le_refl 0, Nat.le_refl 0⟩ (fun H locs hM hS => ?_)
    refine lv_if_eq (tgt := 38) hx hb dX2_isUp_22 (by decide) (fun c22 => ?_) (fun c22 => ?_)
    · have h := g_it c22 h
      refine lv_iconst (v := 0) hx hb dX2_isUp_38 (by decide) ?_
      exact m_zretW dX2_isUp_39 S hr hk hM hS h
    · have h := g_if c22 h
      refine lv_aload_n hx hb dX2_isUp_25 rfl (lv_at hl 0 rfl) ?_
      refine ma_isUp dX2_isUp_26 S hE hM ?_
      refine lv_iload_n hx hb dX2_isUp_29 rfl (lv_at hl 1 rfl) ?_
      obtain ⟨v30, e30, h⟩ := g_bd h
      refine m_zld 75 dX2_isUp_30 (by decide) rfl S hE hM e30 ?_
      refine lv_if_eq (tgt := 38) hx hb dX2_isUp_31 (by decide) (fun c31 => ?_) (fun c31 => ?_)
      · have h := g_it c31 h
        refine lv_iconst (v := 0) hx hb dX2_isUp_38 (by decide) ?_
        exact m_zretW dX2_isUp_39 S hr hk hM hS h
      · have h := g_if c31 h
        refine lv_iconst (v := 1) hx hb dX2_isUp_34 (by decide) ?_
        refine lv_goto (tgt := 39) hx hb dX2_isUp_35 (by decide) ?_
        exact m_zretW dX2_isUp_39 S hr hk hM hS h
  have J17 : ∀ (x1 : Int32) (M : MM) (H : Heap) (locs : List Loc) (ls : Array Slot), mm_isUp_J17 x1 M = some (r, M') → gM E M H → va_S (gx_A E) s.heap H locs → lv_has ls 2 [(0, .ref (gx_m E)), (1, .int x1)] → W p l e (gRm 2 0 0) s m args below meth c H locs 0 0 (MQ below (gQ (some (.int r)) (gM E M') (gx_A E)) args s 0 0 (gx_A E)) (F0 m 17 ls [.ref (gx_m E)]) := by
    intro x1 M H locs ls h hM hS hl
    unfold mm_isUp_J17 at h
    refine lv_iconst (v := 0) hx hb dX2_isUp_17 (by decide) ?_
    exact J18 x1 0 M _ _ _ h hM hS (lv_sub hl [0, 1] rfl)
  unfold mm_isUp at h
  refine lv_aload_n hx hb dX2_isUp_0 rfl (lv_at hl 0 rfl) ?_
  refine lv_iload_n hx hb dX2_isUp_1 rfl (lv_at hl 1 rfl) ?_
  refine lv_if_lt (tgt := 17) hx hb dX2_isUp_2 (by decide) (fun c2 => ?_) (fun c2 => ?_)
  · have h := g_it c2 h
    exact J17 x1 M _ _ _ h hM hS (lv_sub hl [0, 1] rfl)
  · have h := g_if c2 h
    refine lv_iload_n hx hb dX2_isUp_5 rfl (lv_at hl 1 rfl) ?_
    refine lv_aload_n hx hb dX2_isUp_6 rfl (lv_at hl 0 rfl) ?_
    refine mg_flags dX2_isUp_7 S hE hM ?_
    refine lv_icmp_ge (tgt := 17) hx hb dX2_isUp_10 (by decide) (fun c10 => ?_) (fun c10 => ?_)
    · have h := g_it c10 h
      exact J17 x1 M _ _ _ h hM hS (lv_sub hl [0, 1] rfl)
    · have h := g_if c10 h
      refine lv_iconst (v := 1) hx hb dX2_isUp_13 (by decide) ?_
      refine lv_goto (tgt := 18) hx hb dX2_isUp_14 (by decide) ?_
      exact J18 x1 1 M _ _ _ h hM hS (lv_sub hl [0, 1] rfl)
theorem hm_set : yX2_set.cls = RX2 ∧ yX2_set.cls ≠ "java/lang/invoke/MethodHandle" ∧ yX2_set.cls ≠ "java/lang/invoke/VarHandle" ∧ (parseMethodDescriptor yX2_set.desc).map (fun d => d.parameters.length) = some 2 := by decide +kernel
set_option maxHeartbeats 4000000 in
set_option maxRecDepth 100000 in
theorem wm_set (E : gX) (l : Launch) (x1 x2 : Int32) (r : Int32) (M M' : MM) (h : mm_set x1 x2 M = some (r, M')) : gMet E l yX2_set cX2_set 4 (some .boolean) 2 0 0 (gx_A E) [.ref (gx_m E), .int x1, .int x2] (gM E M) (gM E M') (some (.int r)) := by
  refine gMet.of (own := RX2) (by decide +kernel) (Nat.le_of_ble_eq_true rfl) rfl ?_
  intro p e s m args below meth c S hr hk hnm hE hM hS ls hl
  have hl : lv_has ls 4 [(0, .ref (gx_m E)), (1, .int x1), (2, .int x2)] := hl
  have hx := S.1
  have hb := S.2.1
  have J42 : ∀ (x1 x2 s0 : Int32) (M : MM) (H : Heap) (locs : List Loc) (ls : Array Slot), mm_set_J42 x1 x2 s0 M = some (r, M') → gM E M H → va_S (gx_A E) s.heap H locs → lv_has ls 4 [(0, .ref (gx_m E)), (1, .int x1), (2, .int x2)] → W p l e (gRm 2 0 0) s m args below meth c H locs 0 0 (MQ below (gQ (some (.int r)) (gM E M') (gx_A E)) args s 0 0 (gx_A E)) (F0 m 42 ls [.int s0]) := by
    intro x1 x2 s0 M H locs ls h hM hS hl
    unfold mm_set_J42 at h
    refine lv_istore_n (lv' := [(3, .int s0), (0, .ref (gx_m E)), (1, .int x1), (2, .int x2)]) hx hb dX2_set_42 rfl hl (by decide) rfl (fun ls hl => ?_)
    refine lv_aload_n hx hb dX2_set_43 rfl (lv_at hl 1 rfl) ?_
    refine ma_isUp dX2_set_44 S hE hM ?_
    refine lv_iload_n hx hb dX2_set_47 rfl (lv_at hl 2 rfl) ?_
    refine lv_iload_n hx hb dX2_set_48 rfl (lv_at hl 3 rfl) ?_
    obtain ⟨M49, e49, h⟩ := g_bd h
    refine m_zst 75 dX2_set_49 (by decide) rfl S hE hM hS e49 (fun H locs hM hS => ?_)
    refine lv_iload_n hx hb dX2_set_50 rfl (lv_at hl 0 rfl) ?_
    exact m_zretW dX2_set_51 S hr hk hM hS h
  have J18 : ∀ (x1 x2 s1 : Int32) (M : MM) (H : Heap) (locs : List Loc) (ls : Array Slot), mm_set_J18 x1 x2 s1 M = some (r, M') → gM E M H → va_S (gx_A E) s.heap H locs → lv_has ls 4 [(0, .ref (gx_m E)), (1, .int x1), (2, .int x2)] → W p l e (gRm 2 0 0) s m args below meth c H locs 0 0 (MQ below (gQ (some (.int r)) (gM E M') (gx_A E)) args s 0 0 (gx_A E)) (F0 m 18 ls [.int s1, .ref (gx_m E)]) := by
    intro x1 x2 s1 M H locs ls h hM hS hl
    unfold mm_set_J18 at h
    refine lv_iconst (v := 1) hx hb dX2_set_18 (by decide) ?_
    obtain ⟨q19, e19, h⟩ := g_bd h
    refine m_cV (y := yX2_may) (rest := []) dX2_set_19 q3216 q3218 qs90 q3219 hm_may S hE hM hS hl.1 rfl (wm_may E l _ _ _ _ _ e19) rfl (Nat.le_of_ble_eq_true rfl) ⟨Nat.le_of_ble_eq_true rfl, Nat.le_of_ble_eq_true rfl⟩ ⟨Nat.le_refl 0, Nat.le_refl 0⟩ (fun H locs hM hS => ?_)
    refine lv_if_ne (tgt := 27) hx hb dX2_set_22 (by decide) (fun c22 => ?_) (fun c22 => ?_)
    · have h := g_if c22 h
      refine lv_aload_n hx hb dX2_set_27 rfl (lv_at hl 0 rfl) ?_
      refine ma_isUp dX2_set_28 S hE hM ?_
      refine lv_iload_n hx hb dX2_set_31 rfl (lv_at hl 1 rfl) ?_
      obtain ⟨v32, e32, h⟩ := g_bd h
      refine m_zld 75 dX2_set_32 (by decide) rfl S hE hM e32 ?_
      refine lv_iload_n hx hb dX2_set_33 rfl (lv_at hl 2 rfl) ?_
      refine lv_icmp_eq (tgt := 41) hx hb dX2_set_34 (by decide) (fun c34 => ?_) (fun c34 => ?_)
      · have h := g_it c34 h
        refine lv_iconst (v := 0) hx hb dX2_set_41 (by decide) ?_
        exact J42 x1 x2 0 q19.2 _ _ _ h hM hS (lv_sub hl [0, 1, 2] rfl)
      · have h := g_if c34 h
        refine lv_iconst (v := 1) hx hb dX2_set_37 (by decide) ?_
        refine lv_goto (tgt := 42) hx hb dX2_set_38 (by decide) ?_
        exact J42 x1 x2 1 q19.2 _ _ _ h hM hS (lv_sub hl [0, 1, 2] rfl)
    · have h := g_it c22 h
      refine lv_iconst (v := 0) hx hb dX2_set_25 (by decide) ?_
      exact m_zretW dX2_set_26 S hr hk hM hS h
  have J17 : ∀ (x1 x2 : Int32) (M : MM) (H : Heap) (locs : List Loc) (ls : Array Slot), mm_set_J17 x1 x2 M = some (r, M') → gM E M H → va_S (gx_A E) s.heap H locs → lv_has ls 4 [(0, .ref (gx_m E)), (1, .int x1), (2, .int x2)] → W p l e (gRm 2 0 0) s m args below meth c H locs 0 0 (MQ below (gQ (some (.int r)) (gM E M') (gx_A E)) args s 0 0 (gx_A E)) (F0 m 17 ls [.ref (gx_m E)]) := by
    intro x1 x2 M H locs ls h hM hS hl
    unfold mm_set_J17 at h
    refine lv_iconst (v := 0) hx hb dX2_set_17 (by decide) ?_
    exact J18 x1 x2 0 M _ _ _ h hM hS (lv_sub hl [0, 1, 2] rfl)
  unfold mm_set at h
  refine lv_aload_n hx hb dX2_set_0 rfl (lv_at hl 0 rfl) ?_
  refine lv_iload_n hx hb dX2_set_1 rfl (lv_at hl 1 rfl) ?_
  refine lv_if_lt (tgt := 17) hx hb dX2_set_2 (by decide) (fun c2 => ?_) (fun c2 => ?_)
  · have h := g_it c2 h
    exact J17 x1 x2 M _ _ _ h hM hS (lv_sub hl [0, 1, 2] rfl)
  · have h := g_if c2 h
    refine lv_iload_n hx hb dX2_set_5 rfl (lv_at hl 1 rfl) ?_
    refine lv_aload_n hx hb dX2_set_6 rfl (lv_at hl 0 rfl) ?_
    refine mg_flags dX2_set_7 S hE hM ?_
    refine lv_icmp_ge (tgt := 17) hx hb dX2_set_10 (by decide) (fun c10 => ?_) (fun c10 => ?_)
    · have h := g_it c10 h
      exact J17 x1 x2 M _ _ _ h hM hS (lv_sub hl [0, 1, 2] rfl)
    · have h := g_if c10 h
      refine lv_iconst (v := 1) hx hb dX2_set_13 (by decide) ?_
      refine lv_goto (tgt := 18) hx hb dX2_set_14 (by decide) ?_
      exact J18 x1 x2 1 M _ _ _ h hM hS (lv_sub hl [0, 1, 2] rfl)
theorem hm_total : yX2_total.cls = RX2 ∧ yX2_total.cls ≠ "java/lang/invoke/MethodHandle" ∧ yX2_total.cls ≠ "java/lang/invoke/VarHandle" ∧ (parseMethodDescriptor yX2_total.desc).map (fun d => d.parameters.length) = some 1 := by decide +kernel
set_option maxHeartbeats 4000000 in
set_option maxRecDepth 100000 in
theorem wm_total (E : gX) (l : Launch) (x1 : Int32) (r : Int32) (M M' : MM) (h : mm_total x1 M = some (r, M')) : gMet E l yX2_total cX2_total 4 (some .int) 3 0 0 (gx_A E) [.ref (gx_m E), .int x1] (gM E M) (gM E M') (some (.int r)) := by
  refine gMet.of (own := RX2) (by decide +kernel) (Nat.le_of_ble_eq_true rfl) rfl ?_
  intro p e s m args below meth c S hr hk hnm hE hM hS ls hl
  have hl : lv_has ls 4 [(0, .ref (gx_m E)), (1, .int x1)] := hl
  have hx := S.1
  have hb := S.2.1
  have L29 : ∀ (n : Nat) (x1 x2 x3 : Int32) (M : MM) (H : Heap) (locs : List Loc) (ls : Array Slot), mm_total_L29 n x1 x2 x3 M = some (r, M') → gM E M H → va_S (gx_A E) s.heap H locs → lv_has ls 4 [(0, .ref (gx_m E)), (1, .int x1), (2, .int x2), (3, .int x3)] → W p l e (gRm 3 0 0) s m args below meth c H locs 0 0 (MQ below (gQ (some (.int r)) (gM E M') (gx_A E)) args s 0 0 (gx_A E)) (F0 m 29 ls []) := by
    intro n29
    induction n29 with
    | zero =>
      intro x1 x2 x3 M H locs ls h
      cases h
    | succ n29 ih29 =>
      have J76 : ∀ (x1 x3 s0 : Int32) (M : MM) (H : Heap) (locs : List Loc) (ls : Array Slot), mm_total_J76 (mm_total_L29 n29) x1 x3 s0 M = some (r, M') → gM E M H → va_S (gx_A E) s.heap H locs → lv_has ls 4 [(0, .ref (gx_m E)), (1, .int x1), (3, .int x3)] → W p l e (gRm 3 0 0) s m args below meth c H locs 0 0 (MQ below (gQ (some (.int r)) (gM E M') (gx_A E)) args s 0 0 (gx_A E)) (F0 m 76 ls [.int s0]) := by
        intro x1 x3 s0 M H locs ls h hM hS hl
        unfold mm_total_J76 at h
        refine lv_istore_n (lv' := [(2, .int s0), (0, .ref (gx_m E)), (1, .int x1), (3, .int x3)]) hx hb dX2_total_76 rfl hl (by decide) rfl (fun ls hl => ?_)
        refine lv_iinc (k := 3) (v := (x3 + 1)) (lv' := [(3, .int (x3 + 1)), (2, .int s0), (0, .ref (gx_m E)), (1, .int x1)]) hx hb dX2_total_77 hl rfl rfl (by decide) rfl (fun ls hl => ?_)
        refine lv_goto (tgt := 29) hx hb dX2_total_80 (by decide) ?_
        exact ih29 x1 s0 (x3 + 1) M _ _ _ h hM hS (lv_sub hl [2, 3, 1, 0] rfl)
      have J75 : ∀ (x1 x2 x3 : Int32) (M : MM) (H : Heap) (locs : List Loc) (ls : Array Slot), mm_total_J75 (mm_total_L29 n29) x1 x2 x3 M = some (r, M') → gM E M H → va_S (gx_A E) s.heap H locs → lv_has ls 4 [(0, .ref (gx_m E)), (1, .int x1), (2, .int x2), (3, .int x3)] → W p l e (gRm 3 0 0) s m args below meth c H locs 0 0 (MQ below (gQ (some (.int r)) (gM E M') (gx_A E)) args s 0 0 (gx_A E)) (F0 m 75 ls []) := by
        intro x1 x2 x3 M H locs ls h hM hS hl
        unfold mm_total_J75 at h
        refine lv_iload_n hx hb dX2_total_75 rfl (lv_at hl 2 rfl) ?_
        exact J76 x1 x3 x2 M _ _ _ h hM hS (lv_sub hl [0, 1, 3] rfl)
      intro x1 x2 x3 M H locs ls h hM hS hl
      have h : mm_total_B29 (mm_total_L29 n29) x1 x2 x3 M = some (r, M') := h
      unfold mm_total_B29 at h
      refine lv_iload_n hx hb dX2_total_29 rfl (lv_at hl 3 rfl) ?_
      refine lv_aload_n hx hb dX2_total_30 rfl (lv_at hl 0 rfl) ?_
      refine mg_rides dX2_total_31 S hE hM ?_
      refine lv_icmp_ge (tgt := 83) hx hb dX2_total_34 (by decide) (fun c34 => ?_) (fun c34 => ?_)
      · have h := g_it c34 h
        refine lv_iload_n hx hb dX2_total_83 rfl (lv_at hl 1 rfl) ?_
        by_cases c84_0 : x1 = 0
        · have h := g_it c84_0 h
          refine lv_tableIn (off := 48) (tgt := 132) hx hb dX2_total_84 (by rw [c84_0]; decide) (by rw [c84_0]; decide) (by rw [c84_0]; rfl) (by decide) ?_
          refine lv_aload_n hx hb dX2_total_132 rfl (lv_at hl 0 rfl) ?_
          refine mg_clock dX2_total_133 S hE hM ?_
          exact m_iretW dX2_total_136 S hr hk hM hS h
        have h := g_if c84_0 h
        by_cases c84_1 : x1 = 1
        · have h := g_it c84_1 h
          refine lv_tableIn (off := 53) (tgt := 137) hx hb dX2_total_84 (by rw [c84_1]; decide) (by rw [c84_1]; decide) (by rw [c84_1]; rfl) (by decide) ?_
          refine lv_aload_n hx hb dX2_total_137 rfl (lv_at hl 0 rfl) ?_
          refine mg_served dX2_total_138 S hE hM ?_
          exact m_iretW dX2_total_141 S hr hk hM hS h
        have h := g_if c84_1 h
        by_cases c84_2 : x1 = 2
        · have h := g_it c84_2 h
          refine lv_tableIn (off := 58) (tgt := 142) hx hb dX2_total_84 (by rw [c84_2]; decide) (by rw [c84_2]; decide) (by rw [c84_2]; rfl) (by decide) ?_
          refine lv_aload_n hx hb dX2_total_142 rfl (lv_at hl 0 rfl) ?_
          refine mg_gone dX2_total_143 S hE hM ?_
          exact m_iretW dX2_total_146 S hr hk hM hS h
        have h := g_if c84_2 h
        by_cases c84_3 : x1 = 3
        · have h := g_it c84_3 h
          refine lv_tableIn (off := 63) (tgt := 147) hx hb dX2_total_84 (by rw [c84_3]; decide) (by rw [c84_3]; decide) (by rw [c84_3]; rfl) (by decide) ?_
          refine lv_aload_n hx hb dX2_total_147 rfl (lv_at hl 0 rfl) ?_
          refine mg_waited dX2_total_148 S hE hM ?_
          exact m_iretW dX2_total_151 S hr hk hM hS h
        have h := g_if c84_3 h
        by_cases c84_4 : x1 = 4
        · have h := g_it c84_4 h
          refine lv_tableIn (off := 68) (tgt := 152) hx hb dX2_total_84 (by rw [c84_4]; decide) (by rw [c84_4]; decide) (by rw [c84_4]; rfl) (by decide) ?_
          refine lv_aload_n hx hb dX2_total_152 rfl (lv_at hl 0 rfl) ?_
          refine mg_logged dX2_total_153 S hE hM ?_
          exact m_iretW dX2_total_156 S hr hk hM hS h
        have h := g_if c84_4 h
        by_cases c84_5 : x1 = 5
        · have h := g_it c84_5 h
          refine lv_tableIn (off := 78) (tgt := 162) hx hb dX2_total_84 (by rw [c84_5]; decide) (by rw [c84_5]; decide) (by rw [c84_5]; rfl) (by decide) ?_
          refine lv_iload_n hx hb dX2_total_162 rfl (lv_at hl 2 rfl) ?_
          exact m_iretW dX2_total_163 S hr hk hM hS h
        have h := g_if c84_5 h
        by_cases c84_6 : x1 = 6
        · have h := g_it c84_6 h
          refine lv_tableIn (off := 78) (tgt := 162) hx hb dX2_total_84 (by rw [c84_6]; decide) (by rw [c84_6]; decide) (by rw [c84_6]; rfl) (by decide) ?_
          refine lv_iload_n hx hb dX2_total_162 rfl (lv_at hl 2 rfl) ?_
          exact m_iretW dX2_total_163 S hr hk hM hS h
        have h := g_if c84_6 h
        by_cases c84_7 : x1 = 7
        · have h := g_it c84_7 h
          refine lv_tableIn (off := 73) (tgt := 157) hx hb dX2_total_84 (by rw [c84_7]; decide) (by rw [c84_7]; decide) (by rw [c84_7]; rfl) (by decide) ?_
          refine lv_aload_n hx hb dX2_total_157 rfl (lv_at hl 0 rfl) ?_
          refine mg_wind dX2_total_158 S hE hM ?_
          exact m_iretW dX2_total_161 S hr hk hM hS h
        have h := g_if c84_7 h
        refine lv_tableOut (tgt := 162) hx hb dX2_total_84 (g_swOut 0 7 (by intro k hk; match k, hk with | 0, _ => exact c84_0 | 1, _ => exact c84_1 | 2, _ => exact c84_2 | 3, _ => exact c84_3 | 4, _ => exact c84_4 | 5, _ => exact c84_5 | 6, _ => exact c84_6 | 7, _ => exact c84_7 | k + 8, hk => exact absurd hk (by omega)) (by decide) (by decide)) (by decide) ?_
        refine lv_iload_n hx hb dX2_total_162 rfl (lv_at hl 2 rfl) ?_
        exact m_iretW dX2_total_163 S hr hk hM hS h
      · have h := g_if c34 h
        refine lv_iload_n hx hb dX2_total_37 rfl (lv_at hl 1 rfl) ?_
        refine lv_iconst (v := 5) hx hb dX2_total_38 (by decide) ?_
        refine lv_icmp_ne (tgt := 52) hx hb dX2_total_39 (by decide) (fun c39 => ?_) (fun c39 => ?_)
        · have h := g_if c39 h
          refine lv_iload_n hx hb dX2_total_52 rfl (lv_at hl 1 rfl) ?_
          refine lv_bipush (v := 6) hx hb dX2_total_53 (by decide) ?_
          refine lv_icmp_ne (tgt := 75) hx hb dX2_total_55 (by decide) (fun c55 => ?_) (fun c55 => ?_)
          · have h := g_if c55 h
            exact J75 x1 x2 x3 M _ _ _ h hM hS (lv_sub hl [0, 1, 2, 3] rfl)
          · have h := g_it c55 h
            refine lv_aload_n hx hb dX2_total_58 rfl (lv_at hl 0 rfl) ?_
            refine lv_iload_n hx hb dX2_total_59 rfl (lv_at hl 3 rfl) ?_
            obtain ⟨v60, e60, h⟩ := g_bd h
            refine m_cV (y := yX2_noise) (rest := []) dX2_total_60 q3346 q3348 qs117 q3349 hm_noise S hE hM hS hl.1 rfl (wm_noise E l _ _ _ e60) rfl (Nat.le_of_ble_eq_true rfl) ⟨Nat.le_of_ble_eq_true rfl, Nat.le_of_ble_eq_true rfl⟩ ⟨Nat.le_refl 0, Nat.le_refl 0⟩ (fun H locs hM hS => ?_)
            refine lv_iload_n hx hb dX2_total_63 rfl (lv_at hl 2 rfl) ?_
            refine lv_icmp_le (tgt := 75) hx hb dX2_total_64 (by decide) (fun c64 => ?_) (fun c64 => ?_)
            · have h := g_it c64 h
              exact J75 x1 x2 x3 M _ _ _ h hM hS (lv_sub hl [0, 1, 2, 3] rfl)
            · have h := g_if c64 h
              refine lv_aload_n hx hb dX2_total_67 rfl (lv_at hl 0 rfl) ?_
              refine lv_iload_n hx hb dX2_total_68 rfl (lv_at hl 3 rfl) ?_
              obtain ⟨v69, e69, h⟩ := g_bd h
              refine m_cV (y := yX2_noise) (rest := []) dX2_total_69 q3346 q3348 qs117 q3349 hm_noise S hE hM hS hl.1 rfl (wm_noise E l _ _ _ e69) rfl (Nat.le_of_ble_eq_true rfl) ⟨Nat.le_of_ble_eq_true rfl, Nat.le_of_ble_eq_true rfl⟩ ⟨Nat.le_refl 0, Nat.le_refl 0⟩ (fun H locs hM hS => ?_)
              refine lv_goto (tgt := 76) hx hb dX2_total_72 (by decide) ?_
              exact J76 x1 x3 v69 M _ _ _ h hM hS (lv_sub hl [0, 1, 3] rfl)
        · have h := g_it c39 h
          refine lv_iload_n hx hb dX2_total_42 rfl (lv_at hl 2 rfl) ?_
          refine lv_aload_n hx hb dX2_total_43 rfl (lv_at hl 0 rfl) ?_
          refine lv_iload_n hx hb dX2_total_44 rfl (lv_at hl 3 rfl) ?_
          obtain ⟨v45, e45, h⟩ := g_bd h
          refine m_cV (y := yX2_draw) (rest := [.int x2]) dX2_total_45 q3326 q3328 qs114 q3329 hm_draw S hE hM hS hl.1 rfl (wm_draw E l _ _ _ e45) rfl (Nat.le_of_ble_eq_true rfl) ⟨Nat.le_of_ble_eq_true rfl, Nat.le_of_ble_eq_true rfl⟩ ⟨Nat.le_refl 0, Nat.le_refl 0⟩ (fun H locs hM hS => ?_)
          refine lv_iadd hx hb dX2_total_48 ?_
          refine lv_goto (tgt := 76) hx hb dX2_total_49 (by decide) ?_
          exact J76 x1 x3 (x2 + v45) M _ _ _ h hM hS (lv_sub hl [0, 1, 3] rfl)
  have J16 : ∀ (x1 s1 : Int32) (M : MM) (H : Heap) (locs : List Loc) (ls : Array Slot), mm_total_J16 x1 s1 M = some (r, M') → gM E M H → va_S (gx_A E) s.heap H locs → lv_has ls 4 [(0, .ref (gx_m E)), (1, .int x1)] → W p l e (gRm 3 0 0) s m args below meth c H locs 0 0 (MQ below (gQ (some (.int r)) (gM E M') (gx_A E)) args s 0 0 (gx_A E)) (F0 m 16 ls [.int s1, .ref (gx_m E)]) := by
    intro x1 s1 M H locs ls h hM hS hl
    unfold mm_total_J16 at h
    refine lv_iconst (v := 1) hx hb dX2_total_16 (by decide) ?_
    obtain ⟨q17, e17, h⟩ := g_bd h
    refine m_cV (y := yX2_may) (rest := []) dX2_total_17 q3216 q3218 qs90 q3219 hm_may S hE hM hS hl.1 rfl (wm_may E l _ _ _ _ _ e17) rfl (Nat.le_of_ble_eq_true rfl) ⟨Nat.le_of_ble_eq_true rfl, Nat.le_of_ble_eq_true rfl⟩ ⟨Nat.le_refl 0, Nat.le_refl 0⟩ (fun H locs hM hS => ?_)
    refine lv_if_ne (tgt := 25) hx hb dX2_total_20 (by decide) (fun c20 => ?_) (fun c20 => ?_)
    · have h := g_if c20 h
      refine lv_iconst (v := 0) hx hb dX2_total_25 (by decide) ?_
      refine lv_istore_n (lv' := [(2, .int 0), (0, .ref (gx_m E)), (1, .int x1)]) hx hb dX2_total_26 rfl hl (by decide) rfl (fun ls hl => ?_)
      refine lv_iconst (v := 0) hx hb dX2_total_27 (by decide) ?_
      refine lv_istore_n (lv' := [(3, .int 0), (2, .int 0), (0, .ref (gx_m E)), (1, .int x1)]) hx hb dX2_total_28 rfl hl (by decide) rfl (fun ls hl => ?_)
      exact L29 gF x1 0 0 q17.2 _ _ _ h hM hS (lv_sub hl [2, 3, 1, 0] rfl)
    · have h := g_it c20 h
      refine lv_iconst (v := 0) hx hb dX2_total_23 (by decide) ?_
      exact m_iretW dX2_total_24 S hr hk hM hS h
  have J15 : ∀ (x1 : Int32) (M : MM) (H : Heap) (locs : List Loc) (ls : Array Slot), mm_total_J15 x1 M = some (r, M') → gM E M H → va_S (gx_A E) s.heap H locs → lv_has ls 4 [(0, .ref (gx_m E)), (1, .int x1)] → W p l e (gRm 3 0 0) s m args below meth c H locs 0 0 (MQ below (gQ (some (.int r)) (gM E M') (gx_A E)) args s 0 0 (gx_A E)) (F0 m 15 ls [.ref (gx_m E)]) := by
    intro x1 M H locs ls h hM hS hl
    unfold mm_total_J15 at h
    refine lv_iconst (v := 0) hx hb dX2_total_15 (by decide) ?_
    exact J16 x1 0 M _ _ _ h hM hS (lv_sub hl [0, 1] rfl)
  unfold mm_total at h
  refine lv_aload_n hx hb dX2_total_0 rfl (lv_at hl 0 rfl) ?_
  refine lv_iload_n hx hb dX2_total_1 rfl (lv_at hl 1 rfl) ?_
  refine lv_if_lt (tgt := 15) hx hb dX2_total_2 (by decide) (fun c2 => ?_) (fun c2 => ?_)
  · have h := g_it c2 h
    exact J15 x1 M _ _ _ h hM hS (lv_sub hl [0, 1] rfl)
  · have h := g_if c2 h
    refine lv_iload_n hx hb dX2_total_5 rfl (lv_at hl 1 rfl) ?_
    refine lv_bipush (v := 7) hx hb dX2_total_6 (by decide) ?_
    refine lv_icmp_gt (tgt := 15) hx hb dX2_total_8 (by decide) (fun c8 => ?_) (fun c8 => ?_)
    · have h := g_it c8 h
      exact J15 x1 M _ _ _ h hM hS (lv_sub hl [0, 1] rfl)
    · have h := g_if c8 h
      refine lv_iconst (v := 1) hx hb dX2_total_11 (by decide) ?_
      refine lv_goto (tgt := 16) hx hb dX2_total_12 (by decide) ?_
      exact J16 x1 1 M _ _ _ h hM hS (lv_sub hl [0, 1] rfl)
