/-! walks of the model's methods: printed by mgen.py -/
set_option maxRecDepth 100000
theorem hm_come : yX2_come.cls = RX2 ∧ yX2_come.cls ≠ "java/lang/invoke/MethodHandle" ∧ yX2_come.cls ≠ "java/lang/invoke/VarHandle" ∧ (parseMethodDescriptor yX2_come.desc).map (fun d => d.parameters.length) = some 2 := by decide +kernel
set_option maxHeartbeats 4000000 in
set_option maxRecDepth 100000 in
theorem wm_come (E : gX) (l : Launch) (x1 x2 : Int32) (r : Int32) (M M' : MM) (h : mm_come x1 x2 M = some (r, M')) : gMet E l yX2_come cX2_come 4 (some .int) 2 0 0 (gx_A E) [.ref (gx_m E), .int x1, .int x2] (gM E M) (gM E M') (some (.int r)) := by
  refine gMet.of (own := RX2) (by decide +kernel) (Nat.le_of_ble_eq_true rfl) rfl ?_
  intro p e s m args below meth c S hr hk hnm hE hM hS ls hl
  have hl : lv_has ls 4 [(0, .ref (gx_m E)), (1, .int x1), (2, .int x2)] := hl
  have hx := S.1
  have hb := S.2.1
  have J52 : ∀ (x1 x2 s1 s2 : Int32) (M : MM) (H : Heap) (locs : List Loc) (ls : Array Slot), mm_come_J52 x1 x2 s1 s2 M = some (r, M') → gM E M H → va_S (gx_A E) s.heap H locs → lv_has ls 4 [(0, .ref (gx_m E)), (1, .int x1), (2, .int x2)] → W p l e (gRm 2 0 0) s m args below meth c H locs 0 0 (MQ below (gQ (some (.int r)) (gM E M') (gx_A E)) args s 0 0 (gx_A E)) (F0 m 52 ls [.int s2, .int s1, .ref (gx_m E)]) := by
    intro x1 x2 s1 s2 M H locs ls h hM hS hl
    unfold mm_come_J52 at h
    obtain ⟨q52, e52, h⟩ := g_bd h
    refine m_cV (y := yX2_may) (rest := []) dX2_come_52 q3216 q3218 qs90 q3219 hm_may S hE hM hS hl.1 rfl (wm_may E l _ _ _ _ _ e52) rfl (Nat.le_of_ble_eq_true rfl) ⟨Nat.le_of_ble_eq_true rfl, Nat.le_of_ble_eq_true rfl⟩ ⟨Nat.le_refl 0, Nat.le_refl 0⟩ (fun H locs hM hS => ?_)
    refine lv_if_ne (tgt := 60) hx hb dX2_come_55 (by decide) (fun c55 => ?_) (fun c55 => ?_)
    · have h := g_if c55 h
      refine lv_aload_n hx hb dX2_come_60 rfl (lv_at hl 0 rfl) ?_
      refine ma_groups dX2_come_61 S hE hM ?_
      refine lv_iload_n hx hb dX2_come_64 rfl (lv_at hl 1 rfl) ?_
      obtain ⟨v65, e65, h⟩ := g_bd h
      refine m_ald 76 dX2_come_65 (by decide) rfl S hE hM e65 ?_
      refine lv_bipush (v := 30) hx hb dX2_come_66 (by decide) ?_
      refine lv_icmp_ne (tgt := 73) hx hb dX2_come_68 (by decide) (fun c68 => ?_) (fun c68 => ?_)
      · have h := g_if c68 h
        refine lv_aload_n hx hb dX2_come_73 rfl (lv_at hl 0 rfl) ?_
        refine ma_groupSize dX2_come_74 S hE hM ?_
        refine lv_bipush (v := 30) hx hb dX2_come_77 (by decide) ?_
        refine lv_iload_n hx hb dX2_come_79 rfl (lv_at hl 1 rfl) ?_
        refine lv_imul hx hb dX2_come_80 ?_
        refine lv_aload_n hx hb dX2_come_81 rfl (lv_at hl 0 rfl) ?_
        refine ma_groups dX2_come_82 S hE hM ?_
        refine lv_iload_n hx hb dX2_come_85 rfl (lv_at hl 1 rfl) ?_
        obtain ⟨v86, e86, h⟩ := g_bd h
        refine m_ald 76 dX2_come_86 (by decide) rfl S hE hM e86 ?_
        refine lv_iadd hx hb dX2_come_87 ?_
        refine lv_iload_n hx hb dX2_come_88 rfl (lv_at hl 2 rfl) ?_
        obtain ⟨M89, e89, h⟩ := g_bd h
        refine m_ast 77 dX2_come_89 (by decide) rfl S hE hM hS e89 (fun H locs hM hS => ?_)
        refine lv_aload_n hx hb dX2_come_90 rfl (lv_at hl 0 rfl) ?_
        refine ma_groupClock dX2_come_91 S hE hM ?_
        refine lv_bipush (v := 30) hx hb dX2_come_94 (by decide) ?_
        refine lv_iload_n hx hb dX2_come_96 rfl (lv_at hl 1 rfl) ?_
        refine lv_imul hx hb dX2_come_97 ?_
        refine lv_aload_n hx hb dX2_come_98 rfl (lv_at hl 0 rfl) ?_
        refine ma_groups dX2_come_99 S hE hM ?_
        refine lv_iload_n hx hb dX2_come_102 rfl (lv_at hl 1 rfl) ?_
        obtain ⟨v103, e103, h⟩ := g_bd h
        refine m_ald 76 dX2_come_103 (by decide) rfl S hE hM e103 ?_
        refine lv_iadd hx hb dX2_come_104 ?_
        refine lv_aload_n hx hb dX2_come_105 rfl (lv_at hl 0 rfl) ?_
        refine mg_clock dX2_come_106 S hE hM ?_
        obtain ⟨M109, e109, h⟩ := g_bd h
        refine m_ast 78 dX2_come_109 (by decide) rfl S hE hM hS e109 (fun H locs hM hS => ?_)
        refine lv_aload_n hx hb dX2_come_110 rfl (lv_at hl 0 rfl) ?_
        refine ma_groups dX2_come_111 S hE hM ?_
        refine lv_iload_n hx hb dX2_come_114 rfl (lv_at hl 1 rfl) ?_
        refine lv_dup2_11 hx hb dX2_come_115 rfl rfl ?_
        obtain ⟨v116, e116, h⟩ := g_bd h
        refine m_ald 76 dX2_come_116 (by decide) rfl S hE hM e116 ?_
        refine lv_iconst (v := 1) hx hb dX2_come_117 (by decide) ?_
        refine lv_iadd hx hb dX2_come_118 ?_
        obtain ⟨M119, e119, h⟩ := g_bd h
        refine m_ast 76 dX2_come_119 (by decide) rfl S hE hM hS e119 (fun H locs hM hS => ?_)
        refine lv_aload_n hx hb dX2_come_120 rfl (lv_at hl 0 rfl) ?_
        refine lv_iload_n hx hb dX2_come_121 rfl (lv_at hl 1 rfl) ?_
        obtain ⟨v122, e122, h⟩ := g_bd h
        refine m_cV (y := yX2_queue) (rest := []) dX2_come_122 q3220 q3222 qs91 q3223 hm_queue S hE hM hS hl.1 rfl (wm_queue E l _ _ _ e122) rfl (Nat.le_of_ble_eq_true rfl) ⟨Nat.le_of_ble_eq_true rfl, Nat.le_of_ble_eq_true rfl⟩ ⟨Nat.le_refl 0, Nat.le_refl 0⟩ (fun H locs hM hS => ?_)
        exact m_iretW dX2_come_125 S hr hk hM hS h
      · have h := g_it c68 h
        refine lv_iconst (v := (-1)) hx hb dX2_come_71 (by decide) ?_
        exact m_iretW dX2_come_72 S hr hk hM hS h
    · have h := g_it c55 h
      refine lv_iconst (v := 0) hx hb dX2_come_58 (by decide) ?_
      exact m_iretW dX2_come_59 S hr hk hM hS h
  have J51 : ∀ (x1 x2 s1 : Int32) (M : MM) (H : Heap) (locs : List Loc) (ls : Array Slot), mm_come_J51 x1 x2 s1 M = some (r, M') → gM E M H → va_S (gx_A E) s.heap H locs → lv_has ls 4 [(0, .ref (gx_m E)), (1, .int x1), (2, .int x2)] → W p l e (gRm 2 0 0) s m args below meth c H locs 0 0 (MQ below (gQ (some (.int r)) (gM E M') (gx_A E)) args s 0 0 (gx_A E)) (F0 m 51 ls [.int s1, .ref (gx_m E)]) := by
    intro x1 x2 s1 M H locs ls h hM hS hl
    unfold mm_come_J51 at h
    refine lv_iconst (v := 0) hx hb dX2_come_51 (by decide) ?_
    exact J52 x1 x2 s1 0 M _ _ _ h hM hS (lv_sub hl [0, 1, 2] rfl)
  have J20 : ∀ (x1 x2 s0 : Int32) (M : MM) (H : Heap) (locs : List Loc) (ls : Array Slot), mm_come_J20 x1 x2 s0 M = some (r, M') → gM E M H → va_S (gx_A E) s.heap H locs → lv_has ls 4 [(0, .ref (gx_m E)), (1, .int x1), (2, .int x2)] → W p l e (gRm 2 0 0) s m args below meth c H locs 0 0 (MQ below (gQ (some (.int r)) (gM E M') (gx_A E)) args s 0 0 (gx_A E)) (F0 m 20 ls [.int s0]) := by
    intro x1 x2 s0 M H locs ls h hM hS hl
    unfold mm_come_J20 at h
    refine lv_istore_n (lv' := [(3, .int s0), (0, .ref (gx_m E)), (1, .int x1), (2, .int x2)]) hx hb dX2_come_20 rfl hl (by decide) rfl (fun ls hl => ?_)
    refine lv_aload_n hx hb dX2_come_21 rfl (lv_at hl 1 rfl) ?_
    refine lv_iload_n hx hb dX2_come_22 rfl (lv_at hl 0 rfl) ?_
    refine lv_iload_n hx hb dX2_come_23 rfl (lv_at hl 0 rfl) ?_
    refine lv_if_eq (tgt := 51) hx hb dX2_come_24 (by decide) (fun c24 => ?_) (fun c24 => ?_)
    · have h := g_it c24 h
      exact J51 x1 x2 s0 M _ _ _ h hM hS (lv_sub hl [1, 2, 3] rfl)
    · have h := g_if c24 h
      refine lv_iload_n hx hb dX2_come_27 rfl (lv_at hl 3 rfl) ?_
      refine lv_iconst (v := 1) hx hb dX2_come_28 (by decide) ?_
      refine lv_icmp_lt (tgt := 51) hx hb dX2_come_29 (by decide) (fun c29 => ?_) (fun c29 => ?_)
      · have h := g_it c29 h
        exact J51 x1 x2 s0 M _ _ _ h hM hS (lv_sub hl [1, 2, 3] rfl)
      · have h := g_if c29 h
        refine lv_iload_n hx hb dX2_come_32 rfl (lv_at hl 3 rfl) ?_
        refine lv_bipush (v := 100) hx hb dX2_come_33 (by decide) ?_
        refine lv_icmp_gt (tgt := 51) hx hb dX2_come_35 (by decide) (fun c35 => ?_) (fun c35 => ?_)
        · have h := g_it c35 h
          exact J51 x1 x2 s0 M _ _ _ h hM hS (lv_sub hl [1, 2, 3] rfl)
        · have h := g_if c35 h
          refine lv_aload_n hx hb dX2_come_38 rfl (lv_at hl 1 rfl) ?_
          refine lv_iload_n hx hb dX2_come_39 rfl (lv_at hl 2 rfl) ?_
          refine lv_iconst (v := 4) hx hb dX2_come_40 (by decide) ?_
          obtain ⟨v41, e41, h⟩ := g_bd h
          refine m_cV (y := yX2_has) (rest := [.int s0, .ref (gx_m E)]) dX2_come_41 q3212 q3214 qs89 q3215 hm_has S hE hM hS hl.1 rfl (wm_has E l _ _ _ _ e41) rfl (Nat.le_of_ble_eq_true rfl) ⟨Nat.le_of_ble_eq_true rfl, Nat.le_of_ble_eq_true rfl⟩ ⟨Nat.le_refl 0, Nat.le_refl 0⟩ (fun H locs hM hS => ?_)
          refine lv_if_eq (tgt := 51) hx hb dX2_come_44 (by decide) (fun c44 => ?_) (fun c44 => ?_)
          · have h := g_it c44 h
            exact J51 x1 x2 s0 M _ _ _ h hM hS (lv_sub hl [1, 2, 3] rfl)
          · have h := g_if c44 h
            refine lv_iconst (v := 1) hx hb dX2_come_47 (by decide) ?_
            refine lv_goto (tgt := 52) hx hb dX2_come_48 (by decide) ?_
            exact J52 x1 x2 s0 1 M _ _ _ h hM hS (lv_sub hl [1, 2, 3] rfl)
  have J19 : ∀ (x1 x2 : Int32) (M : MM) (H : Heap) (locs : List Loc) (ls : Array Slot), mm_come_J19 x1 x2 M = some (r, M') → gM E M H → va_S (gx_A E) s.heap H locs → lv_has ls 4 [(0, .ref (gx_m E)), (1, .int x1), (2, .int x2)] → W p l e (gRm 2 0 0) s m args below meth c H locs 0 0 (MQ below (gQ (some (.int r)) (gM E M') (gx_A E)) args s 0 0 (gx_A E)) (F0 m 19 ls []) := by
    intro x1 x2 M H locs ls h hM hS hl
    unfold mm_come_J19 at h
    refine lv_iconst (v := 0) hx hb dX2_come_19 (by decide) ?_
    exact J20 x1 x2 0 M _ _ _ h hM hS (lv_sub hl [0, 1, 2] rfl)
  unfold mm_come at h
  refine lv_aload_n hx hb dX2_come_0 rfl (lv_at hl 0 rfl) ?_
  refine mg_isOpen dX2_come_1 S hE hM ?_
  refine lv_if_eq (tgt := 19) hx hb dX2_come_4 (by decide) (fun c4 => ?_) (fun c4 => ?_)
  · have h := g_it c4 h
    exact J19 x1 x2 M _ _ _ h hM hS (lv_sub hl [0, 1, 2] rfl)
  · have h := g_if c4 h
    refine lv_aload_n hx hb dX2_come_7 rfl (lv_at hl 0 rfl) ?_
    refine lv_iload_n hx hb dX2_come_8 rfl (lv_at hl 1 rfl) ?_
    obtain ⟨v9, e9, h⟩ := g_bd h
    refine m_cV (y := yX2_isRide) (rest := []) dX2_come_9 q3208 q3210 qs88 q3211 hm_isRide S hE hM hS hl.1 rfl (wm_isRide E l _ _ _ e9) rfl (Nat.le_of_ble_eq_true rfl) ⟨Nat.le_of_ble_eq_true rfl, Nat.le_of_ble_eq_true rfl⟩ ⟨Nat.le_refl 0, Nat.le_refl 0⟩ (fun H locs hM hS => ?_)
    refine lv_if_eq (tgt := 19) hx hb dX2_come_12 (by decide) (fun c12 => ?_) (fun c12 => ?_)
    · have h := g_it c12 h
      exact J19 x1 x2 M _ _ _ h hM hS (lv_sub hl [0, 1, 2] rfl)
    · have h := g_if c12 h
      refine lv_iconst (v := 1) hx hb dX2_come_15 (by decide) ?_
      refine lv_goto (tgt := 20) hx hb dX2_come_16 (by decide) ?_
      exact J20 x1 x2 1 M _ _ _ h hM hS (lv_sub hl [0, 1, 2] rfl)
theorem hm_wind : yX2_wind.cls = RX2 ∧ yX2_wind.cls ≠ "java/lang/invoke/MethodHandle" ∧ yX2_wind.cls ≠ "java/lang/invoke/VarHandle" ∧ (parseMethodDescriptor yX2_wind.desc).map (fun d => d.parameters.length) = some 1 := by decide +kernel
set_option maxHeartbeats 4000000 in
set_option maxRecDepth 100000 in
theorem wm_wind (E : gX) (l : Launch) (x1 : Int32) (r : Int32) (M M' : MM) (h : mm_wind x1 M = some (r, M')) : gMet E l yX2_wind cX2_wind 3 (some .int) 1 0 0 (gx_A E) [.ref (gx_m E), .int x1] (gM E M) (gM E M') (some (.int r)) := by
  refine gMet.of (own := RX2) (by decide +kernel) (Nat.le_of_ble_eq_true rfl) rfl ?_
  intro p e s m args below meth c S hr hk hnm hE hM hS ls hl
  have hl : lv_has ls 3 [(0, .ref (gx_m E)), (1, .int x1)] := hl
  have hx := S.1
  have hb := S.2.1
  have J28 : ∀ (x1 s1 : Int32) (M : MM) (H : Heap) (locs : List Loc) (ls : Array Slot), mm_wind_J28 x1 s1 M = some (r, M') → gM E M H → va_S (gx_A E) s.heap H locs → lv_has ls 3 [(0, .ref (gx_m E)), (1, .int x1)] → W p l e (gRm 1 0 0) s m args below meth c H locs 0 0 (MQ below (gQ (some (.int r)) (gM E M') (gx_A E)) args s 0 0 (gx_A E)) (F0 m 28 ls [.int s1, .ref (gx_m E)]) := by
    intro x1 s1 M H locs ls h hM hS hl
    unfold mm_wind_J28 at h
    obtain ⟨M28, e28, h⟩ := g_bd h
    refine mp_thrown dX2_wind_28 S hE hM hS e28 (fun H locs hM hS => ?_)
    refine lv_aload_n hx hb dX2_wind_31 rfl (lv_at hl 0 rfl) ?_
    refine mg_thrown dX2_wind_32 S hE hM ?_
    refine lv_if_eq (tgt := 40) hx hb dX2_wind_35 (by decide) (fun c35 => ?_) (fun c35 => ?_)
    · have h := g_it c35 h
      refine lv_aload_n hx hb dX2_wind_40 rfl (lv_at hl 0 rfl) ?_
      refine mg_wind dX2_wind_41 S hE hM ?_
      refine lv_istore_n (lv' := [(2, .int (M28 80 0)), (0, .ref (gx_m E)), (1, .int x1)]) hx hb dX2_wind_44 rfl hl (by decide) rfl (fun ls hl => ?_)
      refine lv_aload_n hx hb dX2_wind_45 rfl (lv_at hl 1 rfl) ?_
      refine lv_iload_n hx hb dX2_wind_46 rfl (lv_at hl 2 rfl) ?_
      obtain ⟨M47, e47, h⟩ := g_bd h
      refine mp_wind dX2_wind_47 S hE hM hS e47 (fun H locs hM hS => ?_)
      refine lv_iload_n hx hb dX2_wind_50 rfl (lv_at hl 0 rfl) ?_
      exact m_iretW dX2_wind_51 S hr hk hM hS h
    · have h := g_if c35 h
      refine lv_iconst (v := 0) hx hb dX2_wind_38 (by decide) ?_
      exact m_iretW dX2_wind_39 S hr hk hM hS h
  have J23 : ∀ (x1 : Int32) (M : MM) (H : Heap) (locs : List Loc) (ls : Array Slot), mm_wind_J23 x1 M = some (r, M') → gM E M H → va_S (gx_A E) s.heap H locs → lv_has ls 3 [(0, .ref (gx_m E)), (1, .int x1)] → W p l e (gRm 1 0 0) s m args below meth c H locs 0 0 (MQ below (gQ (some (.int r)) (gM E M') (gx_A E)) args s 0 0 (gx_A E)) (F0 m 23 ls [.ref (gx_m E)]) := by
    intro x1 M H locs ls h hM hS hl
    unfold mm_wind_J23 at h
    refine lv_iconst (v := 2) hx hb dX2_wind_23 (by decide) ?_
    refine lv_goto (tgt := 28) hx hb dX2_wind_24 (by decide) ?_
    exact J28 x1 2 M _ _ _ h hM hS (lv_sub hl [0, 1] rfl)
  unfold mm_wind at h
  refine lv_aload_n hx hb dX2_wind_0 rfl (lv_at hl 0 rfl) ?_
  refine lv_aload_n hx hb dX2_wind_1 rfl (lv_at hl 0 rfl) ?_
  refine mg_isOpen dX2_wind_2 S hE hM ?_
  refine lv_if_ne (tgt := 12) hx hb dX2_wind_5 (by decide) (fun c5 => ?_) (fun c5 => ?_)
  · have h := g_if c5 h
    refine lv_iload_n hx hb dX2_wind_12 rfl (lv_at hl 1 rfl) ?_
    refine lv_if_lt (tgt := 23) hx hb dX2_wind_13 (by decide) (fun c13 => ?_) (fun c13 => ?_)
    · have h := g_it c13 h
      exact J23 x1 M _ _ _ h hM hS (lv_sub hl [0, 1] rfl)
    · have h := g_if c13 h
      refine lv_iload_n hx hb dX2_wind_16 rfl (lv_at hl 1 rfl) ?_
      refine lv_sipush (v := 199) hx hb dX2_wind_17 (by decide) ?_
      refine lv_icmp_le (tgt := 27) hx hb dX2_wind_20 (by decide) (fun c20 => ?_) (fun c20 => ?_)
      · have h := g_it c20 h
        refine lv_iconst (v := 0) hx hb dX2_wind_27 (by decide) ?_
        exact J28 x1 0 M _ _ _ h hM hS (lv_sub hl [0, 1] rfl)
      · have h := g_if c20 h
        exact J23 x1 M _ _ _ h hM hS (lv_sub hl [0, 1] rfl)
  · have h := g_it c5 h
    refine lv_iconst (v := 1) hx hb dX2_wind_8 (by decide) ?_
    refine lv_goto (tgt := 28) hx hb dX2_wind_9 (by decide) ?_
    exact J28 x1 1 M _ _ _ h hM hS (lv_sub hl [0, 1] rfl)
theorem hm_leaves : yX2_leaves.cls = RX2 ∧ yX2_leaves.cls ≠ "java/lang/invoke/MethodHandle" ∧ yX2_leaves.cls ≠ "java/lang/invoke/VarHandle" ∧ (parseMethodDescriptor yX2_leaves.desc).map (fun d => d.parameters.length) = some 1 := by decide +kernel
set_option maxHeartbeats 4000000 in
set_option maxRecDepth 100000 in
theorem wm_leaves (E : gX) (l : Launch) (x1 : Int32) (M M' : MM) (h : mm_leaves x1 M = some M') : gMet E l yX2_leaves cX2_leaves 3 none 1 0 0 (gx_A E) [.ref (gx_m E), .int x1] (gM E M) (gM E M') none := by
  refine gMet.of (own := RX2) (by decide +kernel) (Nat.le_of_ble_eq_true rfl) rfl ?_
  intro p e s m args below meth c S hr hk hnm hE hM hS ls hl
  have hl : lv_has ls 3 [(0, .ref (gx_m E)), (1, .int x1)] := hl
  have hx := S.1
  have hb := S.2.1
  have L15 : ∀ (n : Nat) (x1 x2 : Int32) (M : MM) (H : Heap) (locs : List Loc) (ls : Array Slot), mm_leaves_L15 n x1 x2 M = some M' → gM E M H → va_S (gx_A E) s.heap H locs → lv_has ls 3 [(0, .ref (gx_m E)), (1, .int x1), (2, .int x2)] → W p l e (gRm 1 0 0) s m args below meth c H locs 0 0 (MQ below (gQ none (gM E M') (gx_A E)) args s 0 0 (gx_A E)) (F0 m 15 ls []) := by
    intro n15
    induction n15 with
    | zero =>
      intro x1 x2 M H locs ls h
      cases h
    | succ n15 ih15 =>
      intro x1 x2 M H locs ls h hM hS hl
      have h : mm_leaves_B15 (mm_leaves_L15 n15) x1 x2 M = some M' := h
      unfold mm_leaves_B15 at h
      refine lv_iload_n hx hb dX2_leaves_15 rfl (lv_at hl 2 rfl) ?_
      refine lv_bipush (v := 30) hx hb dX2_leaves_16 (by decide) ?_
      refine lv_iload_n hx hb dX2_leaves_18 rfl (lv_at hl 1 rfl) ?_
      refine lv_imul hx hb dX2_leaves_19 ?_
      refine lv_aload_n hx hb dX2_leaves_20 rfl (lv_at hl 0 rfl) ?_
      refine ma_groups dX2_leaves_21 S hE hM ?_
      refine lv_iload_n hx hb dX2_leaves_24 rfl (lv_at hl 1 rfl) ?_
      obtain ⟨v25, e25, h⟩ := g_bd h
      refine m_ald 76 dX2_leaves_25 (by decide) rfl S hE hM e25 ?_
      refine lv_iadd hx hb dX2_leaves_26 ?_
      refine lv_icmp_ge (tgt := 64) hx hb dX2_leaves_27 (by decide) (fun c27 => ?_) (fun c27 => ?_)
      · have h := g_it c27 h
        exact m_vretW dX2_leaves_64 S hr hk hM hS h
      · have h := g_if c27 h
        refine lv_aload_n hx hb dX2_leaves_30 rfl (lv_at hl 0 rfl) ?_
        refine ma_groupSize dX2_leaves_31 S hE hM ?_
        refine lv_iload_n hx hb dX2_leaves_34 rfl (lv_at hl 2 rfl) ?_
        refine lv_aload_n hx hb dX2_leaves_35 rfl (lv_at hl 0 rfl) ?_
        refine ma_groupSize dX2_leaves_36 S hE hM ?_
        refine lv_iload_n hx hb dX2_leaves_39 rfl (lv_at hl 2 rfl) ?_
        refine lv_iconst (v := 1) hx hb dX2_leaves_40 (by decide) ?_
        refine lv_iadd hx hb dX2_leaves_41 ?_
        obtain ⟨v42, e42, h⟩ := g_bd h
        refine m_ald 77 dX2_leaves_42 (by decide) rfl S hE hM e42 ?_
        obtain ⟨M43, e43, h⟩ := g_bd h
        refine m_ast 77 dX2_leaves_43 (by decide) rfl S hE hM hS e43 (fun H locs hM hS => ?_)
        refine lv_aload_n hx hb dX2_leaves_44 rfl (lv_at hl 0 rfl) ?_
        refine ma_groupClock dX2_leaves_45 S hE hM ?_
        refine lv_iload_n hx hb dX2_leaves_48 rfl (lv_at hl 2 rfl) ?_
        refine lv_aload_n hx hb dX2_leaves_49 rfl (lv_at hl 0 rfl) ?_
        refine ma_groupClock dX2_leaves_50 S hE hM ?_
        refine lv_iload_n hx hb dX2_leaves_53 rfl (lv_at hl 2 rfl) ?_
        refine lv_iconst (v := 1) hx hb dX2_leaves_54 (by decide) ?_
        refine lv_iadd hx hb dX2_leaves_55 ?_
        obtain ⟨v56, e56, h⟩ := g_bd h
        refine m_ald 78 dX2_leaves_56 (by decide) rfl S hE hM e56 ?_
        obtain ⟨M57, e57, h⟩ := g_bd h
        refine m_ast 78 dX2_leaves_57 (by decide) rfl S hE hM hS e57 (fun H locs hM hS => ?_)
        refine lv_iinc (k := 2) (v := (x2 + 1)) (lv' := [(2, .int (x2 + 1)), (0, .ref (gx_m E)), (1, .int x1)]) hx hb dX2_leaves_58 hl rfl rfl (by decide) rfl (fun ls hl => ?_)
        refine lv_goto (tgt := 15) hx hb dX2_leaves_61 (by decide) ?_
        exact ih15 x1 (x2 + 1) M57 _ _ _ h hM hS (lv_sub hl [1, 2, 0] rfl)
  unfold mm_leaves at h
  refine lv_aload_n hx hb dX2_leaves_0 rfl (lv_at hl 0 rfl) ?_
  refine ma_groups dX2_leaves_1 S hE hM ?_
  refine lv_iload_n hx hb dX2_leaves_4 rfl (lv_at hl 1 rfl) ?_
  refine lv_dup2_11 hx hb dX2_leaves_5 rfl rfl ?_
  obtain ⟨v6, e6, h⟩ := g_bd h
  refine m_ald 76 dX2_leaves_6 (by decide) rfl S hE hM e6 ?_
  refine lv_iconst (v := 1) hx hb dX2_leaves_7 (by decide) ?_
  refine lv_isub hx hb dX2_leaves_8 ?_
  obtain ⟨M9, e9, h⟩ := g_bd h
  refine m_ast 76 dX2_leaves_9 (by decide) rfl S hE hM hS e9 (fun H locs hM hS => ?_)
  refine lv_bipush (v := 30) hx hb dX2_leaves_10 (by decide) ?_
  refine lv_iload_n hx hb dX2_leaves_12 rfl (lv_at hl 1 rfl) ?_
  refine lv_imul hx hb dX2_leaves_13 ?_
  refine lv_istore_n (lv' := [(2, .int (30 * x1)), (0, .ref (gx_m E)), (1, .int x1)]) hx hb dX2_leaves_14 rfl hl (by decide) rfl (fun ls hl => ?_)
  exact L15 gF x1 (30 * x1) M9 _ _ _ h hM hS (lv_sub hl [1, 2, 0] rfl)
theorem hm_note : yX2_note.cls = RX2 ∧ yX2_note.cls ≠ "java/lang/invoke/MethodHandle" ∧ yX2_note.cls ≠ "java/lang/invoke/VarHandle" ∧ (parseMethodDescriptor yX2_note.desc).map (fun d => d.parameters.length) = some 3 := by decide +kernel
set_option maxHeartbeats 4000000 in
set_option maxRecDepth 100000 in
theorem wm_note (E : gX) (l : Launch) (x1 x2 x3 : Int32) (M M' : MM) (h : mm_note x1 x2 x3 M = some M') : gMet E l yX2_note cX2_note 4 none 1 0 0 (gx_A E) [.ref (gx_m E), .int x1, .int x2, .int x3] (gM E M) (gM E M') none := by
  refine gMet.of (own := RX2) (by decide +kernel) (Nat.le_of_ble_eq_true rfl) rfl ?_
  intro p e s m args below meth c S hr hk hnm hE hM hS ls hl
  have hl : lv_has ls 4 [(0, .ref (gx_m E)), (1, .int x1), (2, .int x2), (3, .int x3)] := hl
  have hx := S.1
  have hb := S.2.1
  have J67 : ∀ (M : MM) (H : Heap) (locs : List Loc) (ls : Array Slot), mm_note_J67 M = some M' → gM E M H → va_S (gx_A E) s.heap H locs → lv_has ls 4 [(0, .ref (gx_m E))] → W p l e (gRm 1 0 0) s m args below meth c H locs 0 0 (MQ below (gQ none (gM E M') (gx_A E)) args s 0 0 (gx_A E)) (F0 m 67 ls []) := by
    intro M H locs ls h hM hS hl
    unfold mm_note_J67 at h
    refine lv_aload_n hx hb dX2_note_67 rfl (lv_at hl 0 rfl) ?_
    refine lv_dup hx hb dX2_note_68 rfl ?_
    refine mg_logged dX2_note_69 S hE hM ?_
    refine lv_iconst (v := 1) hx hb dX2_note_72 (by decide) ?_
    refine lv_iadd hx hb dX2_note_73 ?_
    obtain ⟨M74, e74, h⟩ := g_bd h
    refine mp_logged dX2_note_74 S hE hM hS e74 (fun H locs hM hS => ?_)
    exact m_vretW dX2_note_77 S hr hk hM hS h
  unfold mm_note at h
  refine lv_aload_n hx hb dX2_note_0 rfl (lv_at hl 0 rfl) ?_
  refine mg_logged dX2_note_1 S hE hM ?_
  refine lv_sipush (v := 400) hx hb dX2_note_4 (by decide) ?_
  refine lv_icmp_ge (tgt := 67) hx hb dX2_note_7 (by decide) (fun c7 => ?_) (fun c7 => ?_)
  · have h := g_it c7 h
    exact J67 M _ _ _ h hM hS (lv_sub hl [0] rfl)
  · have h := g_if c7 h
    refine lv_aload_n hx hb dX2_note_10 rfl (lv_at hl 0 rfl) ?_
    refine ma_logs dX2_note_11 S hE hM ?_
    refine lv_iconst (v := 4) hx hb dX2_note_14 (by decide) ?_
    refine lv_aload_n hx hb dX2_note_15 rfl (lv_at hl 0 rfl) ?_
    refine mg_logged dX2_note_16 S hE hM ?_
    refine lv_imul hx hb dX2_note_19 ?_
    refine lv_iload_n hx hb dX2_note_20 rfl (lv_at hl 1 rfl) ?_
    obtain ⟨M21, e21, h⟩ := g_bd h
    refine m_ast 85 dX2_note_21 (by decide) rfl S hE hM hS e21 (fun H locs hM hS => ?_)
    refine lv_aload_n hx hb dX2_note_22 rfl (lv_at hl 0 rfl) ?_
    refine ma_logs dX2_note_23 S hE hM ?_
    refine lv_iconst (v := 4) hx hb dX2_note_26 (by decide) ?_
    refine lv_aload_n hx hb dX2_note_27 rfl (lv_at hl 0 rfl) ?_
    refine mg_logged dX2_note_28 S hE hM ?_
    refine lv_imul hx hb dX2_note_31 ?_
    refine lv_iconst (v := 1) hx hb dX2_note_32 (by decide) ?_
    refine lv_iadd hx hb dX2_note_33 ?_
    refine lv_iload_n hx hb dX2_note_34 rfl (lv_at hl 2 rfl) ?_
    obtain ⟨M35, e35, h⟩ := g_bd h
    refine m_ast 85 dX2_note_35 (by decide) rfl S hE hM hS e35 (fun H locs hM hS => ?_)
    refine lv_aload_n hx hb dX2_note_36 rfl (lv_at hl 0 rfl) ?_
    refine ma_logs dX2_note_37 S hE hM ?_
    refine lv_iconst (v := 4) hx hb dX2_note_40 (by decide) ?_
    refine lv_aload_n hx hb dX2_note_41 rfl (lv_at hl 0 rfl) ?_
    refine mg_logged dX2_note_42 S hE hM ?_
    refine lv_imul hx hb dX2_note_45 ?_
    refine lv_iconst (v := 2) hx hb dX2_note_46 (by decide) ?_
    refine lv_iadd hx hb dX2_note_47 ?_
    refine lv_iload_n hx hb dX2_note_48 rfl (lv_at hl 3 rfl) ?_
    obtain ⟨M49, e49, h⟩ := g_bd h
    refine m_ast 85 dX2_note_49 (by decide) rfl S hE hM hS e49 (fun H locs hM hS => ?_)
    refine lv_aload_n hx hb dX2_note_50 rfl (lv_at hl 0 rfl) ?_
    refine ma_logs dX2_note_51 S hE hM ?_
    refine lv_iconst (v := 4) hx hb dX2_note_54 (by decide) ?_
    refine lv_aload_n hx hb dX2_note_55 rfl (lv_at hl 0 rfl) ?_
    refine mg_logged dX2_note_56 S hE hM ?_
    refine lv_imul hx hb dX2_note_59 ?_
    refine lv_iconst (v := 3) hx hb dX2_note_60 (by decide) ?_
    refine lv_iadd hx hb dX2_note_61 ?_
    refine lv_aload_n hx hb dX2_note_62 rfl (lv_at hl 0 rfl) ?_
    refine mg_clock dX2_note_63 S hE hM ?_
    obtain ⟨M66, e66, h⟩ := g_bd h
    refine m_ast 85 dX2_note_66 (by decide) rfl S hE hM hS e66 (fun H locs hM hS => ?_)
    exact J67 M66 _ _ _ h hM hS (lv_sub hl [0] rfl)
theorem hm_isOver : yX2_isOver.cls = RX2 ∧ yX2_isOver.cls ≠ "java/lang/invoke/MethodHandle" ∧ yX2_isOver.cls ≠ "java/lang/invoke/VarHandle" ∧ (parseMethodDescriptor yX2_isOver.desc).map (fun d => d.parameters.length) = some 1 := by decide +kernel
set_option maxHeartbeats 4000000 in
set_option maxRecDepth 100000 in
theorem wm_isOver (E : gX) (l : Launch) (x1 : Int32) (M M' : MM) (h : mm_isOver x1 M = some M') : gMet E l yX2_isOver cX2_isOver 2 none 2 0 0 (gx_A E) [.ref (gx_m E), .int x1] (gM E M) (gM E M') none := by
  refine gMet.of (own := RX2) (by decide +kernel) (Nat.le_of_ble_eq_true rfl) rfl ?_
  intro p e s m args below meth c S hr hk hnm hE hM hS ls hl
  have hl : lv_has ls 2 [(0, .ref (gx_m E)), (1, .int x1)] := hl
  have hx := S.1
  have hb := S.2.1
  unfold mm_isOver at h
  refine lv_aload_n hx hb dX2_isOver_0 rfl (lv_at hl 0 rfl) ?_
  refine ma_state dX2_isOver_1 S hE hM ?_
  refine lv_iload_n hx hb dX2_isOver_4 rfl (lv_at hl 1 rfl) ?_
  refine lv_iconst (v := 1) hx hb dX2_isOver_5 (by decide) ?_
  obtain ⟨M6, e6, h⟩ := g_bd h
  refine m_ast 65 dX2_isOver_6 (by decide) rfl S hE hM hS e6 (fun H locs hM hS => ?_)
  refine lv_aload_n hx hb dX2_isOver_7 rfl (lv_at hl 0 rfl) ?_
  refine lv_bipush (v := 6) hx hb dX2_isOver_8 (by decide) ?_
  refine lv_iload_n hx hb dX2_isOver_10 rfl (lv_at hl 1 rfl) ?_
  refine lv_aload_n hx hb dX2_isOver_11 rfl (lv_at hl 0 rfl) ?_
  refine mg_clock dX2_isOver_12 S hE hM ?_
  obtain ⟨M15, e15, h⟩ := g_bd h
  refine m_cV (y := yX2_note) (rest := []) dX2_isOver_15 q3240 q3242 qs94 q3243 hm_note S hE hM hS hl.1 rfl (wm_note E l _ _ _ _ _ e15) rfl (Nat.le_of_ble_eq_true rfl) ⟨Nat.le_of_ble_eq_true rfl, Nat.le_of_ble_eq_true rfl⟩ ⟨Nat.le_refl 0, Nat.le_refl 0⟩ (fun H locs hM hS => ?_)
  exact m_vretW dX2_isOver_18 S hr hk hM hS h
theorem hm_push : yX2_push.cls = RX2 ∧ yX2_push.cls ≠ "java/lang/invoke/MethodHandle" ∧ yX2_push.cls ≠ "java/lang/invoke/VarHandle" ∧ (parseMethodDescriptor yX2_push.desc).map (fun d => d.parameters.length) = some 1 := by decide +kernel
set_option maxHeartbeats 4000000 in
set_option maxRecDepth 100000 in
theorem wm_push (E : gX) (l : Launch) (x1 : Int32) (M M' : MM) (h : mm_push x1 M = some M') : gMet E l yX2_push cX2_push 2 none 1 0 0 (gx_A E) [.ref (gx_m E), .int x1] (gM E M) (gM E M') none := by
  refine gMet.of (own := RX2) (by decide +kernel) (Nat.le_of_ble_eq_true rfl) rfl ?_
  intro p e s m args below meth c S hr hk hnm hE hM hS ls hl
  have hl : lv_has ls 2 [(0, .ref (gx_m E)), (1, .int x1)] := hl
  have hx := S.1
  have hb := S.2.1
  unfold mm_push at h
  refine lv_aload_n hx hb dX2_push_0 rfl (lv_at hl 0 rfl) ?_
  refine ma_stack dX2_push_1 S hE hM ?_
  refine lv_aload_n hx hb dX2_push_4 rfl (lv_at hl 0 rfl) ?_
  refine mg_top dX2_push_5 S hE hM ?_
  refine lv_iload_n hx hb dX2_push_8 rfl (lv_at hl 1 rfl) ?_
  obtain ⟨M9, e9, h⟩ := g_bd h
  refine m_ast 87 dX2_push_9 (by decide) rfl S hE hM hS e9 (fun H locs hM hS => ?_)
  refine lv_aload_n hx hb dX2_push_10 rfl (lv_at hl 0 rfl) ?_
  refine lv_dup hx hb dX2_push_11 rfl ?_
  refine mg_top dX2_push_12 S hE hM ?_
  refine lv_iconst (v := 1) hx hb dX2_push_15 (by decide) ?_
  refine lv_iadd hx hb dX2_push_16 ?_
  obtain ⟨M17, e17, h⟩ := g_bd h
  refine mp_top dX2_push_17 S hE hM hS e17 (fun H locs hM hS => ?_)
  exact m_vretW dX2_push_20 S hr hk hM hS h
theorem hm_measured : yX2_measured.cls = RX2 ∧ yX2_measured.cls ≠ "java/lang/invoke/MethodHandle" ∧ yX2_measured.cls ≠ "java/lang/invoke/VarHandle" ∧ (parseMethodDescriptor yX2_measured.desc).map (fun d => d.parameters.length) = some 2 := by decide +kernel
set_option maxHeartbeats 4000000 in
set_option maxRecDepth 100000 in
theorem wm_measured (E : gX) (l : Launch) (x1 x2 : Int32) (r : Int32) (M : MM) (h : mm_measured x1 x2 M = some r) : gMet E l yX2_measured cX2_measured 3 (some .int) 2 0 0 (gx_A E) [.ref (gx_m E), .int x1, .int x2] (gM E M) (gM E M) (some (.int r)) := by
  refine gMet.of (own := RX2) (by decide +kernel) (Nat.le_of_ble_eq_true rfl) rfl ?_
  intro p e s m args below meth c S hr hk hnm hE hM hS ls hl
  have hl : lv_has ls 3 [(0, .ref (gx_m E)), (1, .int x1), (2, .int x2)] := hl
  have hx := S.1
  have hb := S.2.1
  unfold mm_measured at h
  refine lv_iload_n hx hb dX2_measured_0 rfl (lv_at hl 2 rfl) ?_
  by_cases c1_0 : x2 = 0
  · have h := g_it c1_0 h
    refine lv_tableIn (off := 39) (tgt := 40) hx hb dX2_measured_1 (by rw [c1_0]; decide) (by rw [c1_0]; decide) (by rw [c1_0]; rfl) (by decide) ?_
    refine lv_aload_n hx hb dX2_measured_40 rfl (lv_at hl 0 rfl) ?_
    refine ma_speed dX2_measured_41 S hE hM ?_
    refine lv_iload_n hx hb dX2_measured_44 rfl (lv_at hl 1 rfl) ?_
    obtain ⟨v45, e45, h⟩ := g_bd h
    refine m_ald 56 dX2_measured_45 (by decide) rfl S hE hM e45 ?_
    exact m_iretR dX2_measured_46 S hr hk hM hS h
  have h := g_if c1_0 h
  by_cases c1_1 : x2 = 1
  · have h := g_it c1_1 h
    refine lv_tableIn (off := 46) (tgt := 47) hx hb dX2_measured_1 (by rw [c1_1]; decide) (by rw [c1_1]; decide) (by rw [c1_1]; rfl) (by decide) ?_
    refine lv_aload_n hx hb dX2_measured_47 rfl (lv_at hl 0 rfl) ?_
    refine ma_height dX2_measured_48 S hE hM ?_
    refine lv_iload_n hx hb dX2_measured_51 rfl (lv_at hl 1 rfl) ?_
    obtain ⟨v52, e52, h⟩ := g_bd h
    refine m_ald 58 dX2_measured_52 (by decide) rfl S hE hM e52 ?_
    exact m_iretR dX2_measured_53 S hr hk hM hS h
  have h := g_if c1_1 h
  by_cases c1_2 : x2 = 2
  · have h := g_it c1_2 h
    refine lv_tableIn (off := 53) (tgt := 54) hx hb dX2_measured_1 (by rw [c1_2]; decide) (by rw [c1_2]; decide) (by rw [c1_2]; rfl) (by decide) ?_
    refine lv_aload_n hx hb dX2_measured_54 rfl (lv_at hl 0 rfl) ?_
    refine ma_aboard dX2_measured_55 S hE hM ?_
    refine lv_iload_n hx hb dX2_measured_58 rfl (lv_at hl 1 rfl) ?_
    obtain ⟨v59, e59, h⟩ := g_bd h
    refine m_ald 61 dX2_measured_59 (by decide) rfl S hE hM e59 ?_
    exact m_iretR dX2_measured_60 S hr hk hM hS h
  have h := g_if c1_2 h
  by_cases c1_3 : x2 = 3
  · have h := g_it c1_3 h
    refine lv_tableIn (off := 60) (tgt := 61) hx hb dX2_measured_1 (by rw [c1_3]; decide) (by rw [c1_3]; decide) (by rw [c1_3]; rfl) (by decide) ?_
    refine lv_aload_n hx hb dX2_measured_61 rfl (lv_at hl 0 rfl) ?_
    refine ma_glow dX2_measured_62 S hE hM ?_
    refine lv_iload_n hx hb dX2_measured_65 rfl (lv_at hl 1 rfl) ?_
    obtain ⟨v66, e66, h⟩ := g_bd h
    refine m_ald 62 dX2_measured_66 (by decide) rfl S hE hM e66 ?_
    exact m_iretR dX2_measured_67 S hr hk hM hS h
  have h := g_if c1_3 h
  by_cases c1_4 : x2 = 4
  · have h := g_it c1_4 h
    refine lv_tableIn (off := 67) (tgt := 68) hx hb dX2_measured_1 (by rw [c1_4]; decide) (by rw [c1_4]; decide) (by rw [c1_4]; rfl) (by decide) ?_
    refine lv_aload_n hx hb dX2_measured_68 rfl (lv_at hl 0 rfl) ?_
    refine ma_volume dX2_measured_69 S hE hM ?_
    refine lv_iload_n hx hb dX2_measured_72 rfl (lv_at hl 1 rfl) ?_
    obtain ⟨v73, e73, h⟩ := g_bd h
    refine m_ald 63 dX2_measured_73 (by decide) rfl S hE hM e73 ?_
    exact m_iretR dX2_measured_74 S hr hk hM hS h
  have h := g_if c1_4 h
  by_cases c1_5 : x2 = 5
  · have h := g_it c1_5 h
    refine lv_tableIn (off := 74) (tgt := 75) hx hb dX2_measured_1 (by rw [c1_5]; decide) (by rw [c1_5]; decide) (by rw [c1_5]; rfl) (by decide) ?_
    refine lv_aload_n hx hb dX2_measured_75 rfl (lv_at hl 0 rfl) ?_
    refine ma_wear dX2_measured_76 S hE hM ?_
    refine lv_iload_n hx hb dX2_measured_79 rfl (lv_at hl 1 rfl) ?_
    obtain ⟨v80, e80, h⟩ := g_bd h
    refine m_ald 64 dX2_measured_80 (by decide) rfl S hE hM e80 ?_
    exact m_iretR dX2_measured_81 S hr hk hM hS h
  have h := g_if c1_5 h
  refine lv_tableOut (tgt := 82) hx hb dX2_measured_1 (g_swOut 0 5 (by intro k hk; match k, hk with | 0, _ => exact c1_0 | 1, _ => exact c1_1 | 2, _ => exact c1_2 | 3, _ => exact c1_3 | 4, _ => exact c1_4 | 5, _ => exact c1_5 | k + 6, hk => exact absurd hk (by omega)) (by decide) (by decide)) (by decide) ?_
  refine lv_aload_n hx hb dX2_measured_82 rfl (lv_at hl 0 rfl) ?_
  refine lv_iload_n hx hb dX2_measured_83 rfl (lv_at hl 1 rfl) ?_
  obtain ⟨v84, e84, h⟩ := g_bd h
  refine m_cV (y := yX2_queue) (rest := []) dX2_measured_84 q3220 q3222 qs91 q3223 hm_queue S hE hM hS hl.1 rfl (wm_queue E l _ _ _ e84) rfl (Nat.le_of_ble_eq_true rfl) ⟨Nat.le_of_ble_eq_true rfl, Nat.le_of_ble_eq_true rfl⟩ ⟨Nat.le_refl 0, Nat.le_refl 0⟩ (fun H locs hM hS => ?_)
  exact m_iretR dX2_measured_87 S hr hk hM hS h
theorem hm_two : yX2_two.cls = RX2 ∧ yX2_two.cls ≠ "java/lang/invoke/MethodHandle" ∧ yX2_two.cls ≠ "java/lang/invoke/VarHandle" ∧ (parseMethodDescriptor yX2_two.desc).map (fun d => d.parameters.length) = some 1 := by decide +kernel
set_option maxHeartbeats 4000000 in
set_option maxRecDepth 100000 in
theorem wm_two (E : gX) (l : Launch) (x1 : Int32) (M M' : MM) (h : mm_two x1 M = some M') : gMet E l yX2_two cX2_two 4 none 1 0 0 (gx_A E) [.ref (gx_m E), .int x1] (gM E M) (gM E M') none := by
  refine gMet.of (own := RX2) (by decide +kernel) (Nat.le_of_ble_eq_true rfl) rfl ?_
  intro p e s m args below meth c S hr hk hnm hE hM hS ls hl
  have hl : lv_has ls 4 [(0, .ref (gx_m E)), (1, .int x1)] := hl
  have hx := S.1
  have hb := S.2.1
  have J107 : ∀ (s1 s2 : Int32) (M : MM) (H : Heap) (locs : List Loc) (ls : Array Slot), mm_two_J107 s1 s2 M = some M' → gM E M H → va_S (gx_A E) s.heap H locs → lv_has ls 4 [(0, .ref (gx_m E))] → W p l e (gRm 1 0 0) s m args below meth c H locs 0 0 (MQ below (gQ none (gM E M') (gx_A E)) args s 0 0 (gx_A E)) (F0 m 107 ls [.int s2, .int s1, .ref (gx_m E + mOff 87)]) := by
    intro s1 s2 M H locs ls h hM hS hl
    unfold mm_two_J107 at h
    obtain ⟨M107, e107, h⟩ := g_bd h
    refine m_ast 87 dX2_two_107 (by decide) rfl S hE hM hS e107 (fun H locs hM hS => ?_)
    exact m_vretW dX2_two_108 S hr hk hM hS h
  have J48 : ∀ (x1 x2 x3 : Int32) (M : MM) (H : Heap) (locs : List Loc) (ls : Array Slot), mm_two_J48 x1 x2 x3 M = some M' → gM E M H → va_S (gx_A E) s.heap H locs → lv_has ls 4 [(0, .ref (gx_m E)), (1, .int x1), (2, .int x2), (3, .int x3)] → W p l e (gRm 1 0 0) s m args below meth c H locs 0 0 (MQ below (gQ none (gM E M') (gx_A E)) args s 0 0 (gx_A E)) (F0 m 48 ls []) := by
    intro x1 x2 x3 M H locs ls h hM hS hl
    unfold mm_two_J48 at h
    refine lv_aload_n hx hb dX2_two_48 rfl (lv_at hl 0 rfl) ?_
    refine ma_stack dX2_two_49 S hE hM ?_
    refine lv_aload_n hx hb dX2_two_52 rfl (lv_at hl 0 rfl) ?_
    refine mg_top dX2_two_53 S hE hM ?_
    refine lv_iconst (v := 1) hx hb dX2_two_56 (by decide) ?_
    refine lv_isub hx hb dX2_two_57 ?_
    refine lv_iload_n hx hb dX2_two_58 rfl (lv_at hl 1 rfl) ?_
    refine lv_bipush (v := 9) hx hb dX2_two_59 (by decide) ?_
    refine lv_icmp_ne (tgt := 70) hx hb dX2_two_61 (by decide) (fun c61 => ?_) (fun c61 => ?_)
    · have h := g_if c61 h
      refine lv_iload_n hx hb dX2_two_70 rfl (lv_at hl 1 rfl) ?_
      refine lv_bipush (v := 10) hx hb dX2_two_71 (by decide) ?_
      refine lv_icmp_ne (tgt := 82) hx hb dX2_two_73 (by decide) (fun c73 => ?_) (fun c73 => ?_)
      · have h := g_if c73 h
        refine lv_iload_n hx hb dX2_two_82 rfl (lv_at hl 1 rfl) ?_
        refine lv_bipush (v := 11) hx hb dX2_two_83 (by decide) ?_
        refine lv_icmp_ne (tgt := 94) hx hb dX2_two_85 (by decide) (fun c85 => ?_) (fun c85 => ?_)
        · have h := g_if c85 h
          refine lv_iload_n hx hb dX2_two_94 rfl (lv_at hl 2 rfl) ?_
          refine lv_iconst (v := (-1)) hx hb dX2_two_95 (by decide) ?_
          refine lv_icmp_ne (tgt := 104) hx hb dX2_two_96 (by decide) (fun c96 => ?_) (fun c96 => ?_)
          · have h := g_if c96 h
            refine lv_iload_n hx hb dX2_two_104 rfl (lv_at hl 3 rfl) ?_
            refine lv_iload_n hx hb dX2_two_105 rfl (lv_at hl 2 rfl) ?_
            obtain ⟨v106, e106, h⟩ := g_bd h
            refine m_div hx hb dX2_two_106 e106 ?_
            exact J107 ((M 88 0) - 1) v106 M _ _ _ h hM hS (lv_sub hl [0] rfl)
          · have h := g_it c96 h
            refine lv_iload_n hx hb dX2_two_99 rfl (lv_at hl 3 rfl) ?_
            refine lv_ineg hx hb dX2_two_100 ?_
            refine lv_goto (tgt := 107) hx hb dX2_two_101 (by decide) ?_
            exact J107 ((M 88 0) - 1) (-x3) M _ _ _ h hM hS (lv_sub hl [0] rfl)
        · have h := g_it c85 h
          refine lv_iload_n hx hb dX2_two_88 rfl (lv_at hl 3 rfl) ?_
          refine lv_iload_n hx hb dX2_two_89 rfl (lv_at hl 2 rfl) ?_
          refine lv_imul hx hb dX2_two_90 ?_
          refine lv_goto (tgt := 107) hx hb dX2_two_91 (by decide) ?_
          exact J107 ((M 88 0) - 1) (x3 * x2) M _ _ _ h hM hS (lv_sub hl [0] rfl)
      · have h := g_it c73 h
        refine lv_iload_n hx hb dX2_two_76 rfl (lv_at hl 3 rfl) ?_
        refine lv_iload_n hx hb dX2_two_77 rfl (lv_at hl 2 rfl) ?_
        refine lv_isub hx hb dX2_two_78 ?_
        refine lv_goto (tgt := 107) hx hb dX2_two_79 (by decide) ?_
        exact J107 ((M 88 0) - 1) (x3 - x2) M _ _ _ h hM hS (lv_sub hl [0] rfl)
    · have h := g_it c61 h
      refine lv_iload_n hx hb dX2_two_64 rfl (lv_at hl 3 rfl) ?_
      refine lv_iload_n hx hb dX2_two_65 rfl (lv_at hl 2 rfl) ?_
      refine lv_iadd hx hb dX2_two_66 ?_
      refine lv_goto (tgt := 107) hx hb dX2_two_67 (by decide) ?_
      exact J107 ((M 88 0) - 1) (x3 + x2) M _ _ _ h hM hS (lv_sub hl [0] rfl)
  unfold mm_two at h
  refine lv_aload_n hx hb dX2_two_0 rfl (lv_at hl 0 rfl) ?_
  refine lv_dup hx hb dX2_two_1 rfl ?_
  refine mg_top dX2_two_2 S hE hM ?_
  refine lv_iconst (v := 1) hx hb dX2_two_5 (by decide) ?_
  refine lv_isub hx hb dX2_two_6 ?_
  obtain ⟨M7, e7, h⟩ := g_bd h
  refine mp_top dX2_two_7 S hE hM hS e7 (fun H locs hM hS => ?_)
  refine lv_aload_n hx hb dX2_two_10 rfl (lv_at hl 0 rfl) ?_
  refine ma_stack dX2_two_11 S hE hM ?_
  refine lv_aload_n hx hb dX2_two_14 rfl (lv_at hl 0 rfl) ?_
  refine mg_top dX2_two_15 S hE hM ?_
  obtain ⟨v18, e18, h⟩ := g_bd h
  refine m_ald 87 dX2_two_18 (by decide) rfl S hE hM e18 ?_
  refine lv_istore_n (lv' := [(2, .int v18), (0, .ref (gx_m E)), (1, .int x1)]) hx hb dX2_two_19 rfl hl (by decide) rfl (fun ls hl => ?_)
  refine lv_aload_n hx hb dX2_two_20 rfl (lv_at hl 1 rfl) ?_
  refine ma_stack dX2_two_21 S hE hM ?_
  refine lv_aload_n hx hb dX2_two_24 rfl (lv_at hl 1 rfl) ?_
  refine mg_top dX2_two_25 S hE hM ?_
  refine lv_iconst (v := 1) hx hb dX2_two_28 (by decide) ?_
  refine lv_isub hx hb dX2_two_29 ?_
  obtain ⟨v30, e30, h⟩ := g_bd h
  refine m_ald 87 dX2_two_30 (by decide) rfl S hE hM e30 ?_
  refine lv_istore_n (lv' := [(3, .int v30), (2, .int v18), (0, .ref (gx_m E)), (1, .int x1)]) hx hb dX2_two_31 rfl hl (by decide) rfl (fun ls hl => ?_)
  refine lv_iload_n hx hb dX2_two_32 rfl (lv_at hl 3 rfl) ?_
  refine lv_bipush (v := 12) hx hb dX2_two_33 (by decide) ?_
  refine lv_icmp_ne (tgt := 48) hx hb dX2_two_35 (by decide) (fun c35 => ?_) (fun c35 => ?_)
  · have h := g_if c35 h
    exact J48 x1 v18 v30 M7 _ _ _ h hM hS (lv_sub hl [2, 3, 1, 0] rfl)
  · have h := g_it c35 h
    refine lv_iload_n hx hb dX2_two_38 rfl (lv_at hl 1 rfl) ?_
    refine lv_if_ne (tgt := 48) hx hb dX2_two_39 (by decide) (fun c39 => ?_) (fun c39 => ?_)
    · have h := g_if c39 h
      exact J48 x1 v18 v30 M7 _ _ _ h hM hS (lv_sub hl [2, 3, 1, 0] rfl)
    · have h := g_it c39 h
      refine lv_aload_n hx hb dX2_two_42 rfl (lv_at hl 2 rfl) ?_
      refine lv_iconst (v := 1) hx hb dX2_two_43 (by decide) ?_
      obtain ⟨M44, e44, h⟩ := g_bd h
      refine mp_byZero dX2_two_44 S hE hM hS e44 (fun H locs hM hS => ?_)
      exact m_vretW dX2_two_47 S hr hk hM hS h
theorem hm_value : yX2_value.cls = RX2 ∧ yX2_value.cls ≠ "java/lang/invoke/MethodHandle" ∧ yX2_value.cls ≠ "java/lang/invoke/VarHandle" ∧ (parseMethodDescriptor yX2_value.desc).map (fun d => d.parameters.length) = some 2 := by decide +kernel
set_option maxHeartbeats 4000000 in
set_option maxRecDepth 100000 in
theorem wm_value (E : gX) (l : Launch) (x1 x2 : Int32) (r : Int32) (M M' : MM) (h : mm_value x1 x2 M = some (r, M')) : gMet E l yX2_value cX2_value 4 (some .int) 3 0 0 (gx_A E) [.ref (gx_m E), .int x1, .int x2] (gM E M) (gM E M') (some (.int r)) := by
  refine gMet.of (own := RX2) (by decide +kernel) (Nat.le_of_ble_eq_true rfl) rfl ?_
  intro p e s m args below meth c S hr hk hnm hE hM hS ls hl
  have hl : lv_has ls 4 [(0, .ref (gx_m E)), (1, .int x1), (2, .int x2)] := hl
  have hx := S.1
  have hb := S.2.1
  have J233 : ∀ (M : MM) (H : Heap) (locs : List Loc) (ls : Array Slot), mm_value_J233 M = some (r, M') → gM E M H → va_S (gx_A E) s.heap H locs → lv_has ls 4 [(0, .ref (gx_m E))] → W p l e (gRm 3 0 0) s m args below meth c H locs 0 0 (MQ below (gQ (some (.int r)) (gM E M') (gx_A E)) args s 0 0 (gx_A E)) (F0 m 233 ls []) := by
    intro M H locs ls h hM hS hl
    unfold mm_value_J233 at h
    refine lv_aload_n hx hb dX2_value_233 rfl (lv_at hl 0 rfl) ?_
    refine mg_byZero dX2_value_234 S hE hM ?_
    refine lv_if_eq (tgt := 244) hx hb dX2_value_237 (by decide) (fun c237 => ?_) (fun c237 => ?_)
    · have h := g_it c237 h
      refine lv_aload_n hx hb dX2_value_244 rfl (lv_at hl 0 rfl) ?_
      refine ma_stack dX2_value_245 S hE hM ?_
      refine lv_iconst (v := 0) hx hb dX2_value_248 (by decide) ?_
      obtain ⟨v249, e249, h⟩ := g_bd h
      refine m_ald 87 dX2_value_249 (by decide) rfl S hE hM e249 ?_
      exact m_iretW dX2_value_250 S hr hk hM hS h
    · have h := g_if c237 h
      refine lv_iconst (v := 0) hx hb dX2_value_240 (by decide) ?_
      refine lv_goto (tgt := 250) hx hb dX2_value_241 (by decide) ?_
      exact m_iretW dX2_value_250 S hr hk hM hS h
  have L12 : ∀ (n : Nat) (x2 x3 : Int32) (M : MM) (H : Heap) (locs : List Loc) (ls : Array Slot), mm_value_L12 n x2 x3 M = some (r, M') → gM E M H → va_S (gx_A E) s.heap H locs → lv_has ls 4 [(0, .ref (gx_m E)), (2, .int x2), (3, .int x3)] → W p l e (gRm 3 0 0) s m args below meth c H locs 0 0 (MQ below (gQ (some (.int r)) (gM E M') (gx_A E)) args s 0 0 (gx_A E)) (F0 m 12 ls []) := by
    intro n12
    induction n12 with
    | zero =>
      intro x2 x3 M H locs ls h
      cases h
    | succ n12 ih12 =>
      have J227 : ∀ (x2 x3 : Int32) (M : MM) (H : Heap) (locs : List Loc) (ls : Array Slot), mm_value_J227 (mm_value_L12 n12) x2 x3 M = some (r, M') → gM E M H → va_S (gx_A E) s.heap H locs → lv_has ls 4 [(0, .ref (gx_m E)), (2, .int x2), (3, .int x3)] → W p l e (gRm 3 0 0) s m args below meth c H locs 0 0 (MQ below (gQ (some (.int r)) (gM E M') (gx_A E)) args s 0 0 (gx_A E)) (F0 m 227 ls []) := by
        intro x2 x3 M H locs ls h hM hS hl
        unfold mm_value_J227 at h
        refine lv_iinc (k := 2) (v := (x3 + 1)) (lv' := [(3, .int (x3 + 1)), (0, .ref (gx_m E)), (2, .int x2)]) hx hb dX2_value_227 hl rfl rfl (by decide) rfl (fun ls hl => ?_)
        refine lv_goto (tgt := 12) hx hb dX2_value_230 (by decide) ?_
        exact ih12 x2 (x3 + 1) M _ _ _ h hM hS (lv_sub hl [1, 2, 0] rfl)
      intro x2 x3 M H locs ls h hM hS hl
      have h : mm_value_B12 (mm_value_L12 n12) x2 x3 M = some (r, M') := h
      unfold mm_value_B12 at h
      refine lv_aload_n hx hb dX2_value_12 rfl (lv_at hl 0 rfl) ?_
      refine ma_code dX2_value_13 S hE hM ?_
      refine lv_iload_n hx hb dX2_value_16 rfl (lv_at hl 2 rfl) ?_
      obtain ⟨v17, e17, h⟩ := g_bd h
      refine m_ald 42 dX2_value_17 (by decide) rfl S hE hM e17 ?_
      refine lv_if_eq (tgt := 233) hx hb dX2_value_18 (by decide) (fun c18 => ?_) (fun c18 => ?_)
      · have h := g_it c18 h
        exact J233 M _ _ _ h hM hS (lv_sub hl [0] rfl)
      · have h := g_if c18 h
        refine lv_aload_n hx hb dX2_value_21 rfl (lv_at hl 0 rfl) ?_
        refine mg_byZero dX2_value_22 S hE hM ?_
        refine lv_if_ne (tgt := 233) hx hb dX2_value_25 (by decide) (fun c25 => ?_) (fun c25 => ?_)
        · have h := g_if c25 h
          exact J233 M _ _ _ h hM hS (lv_sub hl [0] rfl)
        · have h := g_it c25 h
          refine lv_aload_n hx hb dX2_value_28 rfl (lv_at hl 0 rfl) ?_
          refine ma_code dX2_value_29 S hE hM ?_
          refine lv_iload_n hx hb dX2_value_32 rfl (lv_at hl 2 rfl) ?_
          obtain ⟨v33, e33, h⟩ := g_bd h
          refine m_ald 42 dX2_value_33 (by decide) rfl S hE hM e33 ?_
          by_cases c34_1 : v33 = 1
          · have h := g_it c34_1 h
            refine lv_tableIn (off := 46) (tgt := 80) hx hb dX2_value_34 (by rw [c34_1]; decide) (by rw [c34_1]; decide) (by rw [c34_1]; rfl) (by decide) ?_
            refine lv_aload_n hx hb dX2_value_80 rfl (lv_at hl 0 rfl) ?_
            refine lv_aload_n hx hb dX2_value_81 rfl (lv_at hl 0 rfl) ?_
            refine ma_codeA dX2_value_82 S hE hM ?_
            refine lv_iload_n hx hb dX2_value_85 rfl (lv_at hl 2 rfl) ?_
            obtain ⟨v86, e86, h⟩ := g_bd h
            refine m_ald 43 dX2_value_86 (by decide) rfl S hE hM e86 ?_
            obtain ⟨M87, e87, h⟩ := g_bd h
            refine m_cV (y := yX2_push) (rest := []) dX2_value_87 q3264 q3266 qs100 q3267 hm_push S hE hM hS hl.1 rfl (wm_push E l _ _ _ e87) rfl (Nat.le_of_ble_eq_true rfl) ⟨Nat.le_of_ble_eq_true rfl, Nat.le_of_ble_eq_true rfl⟩ ⟨Nat.le_refl 0, Nat.le_refl 0⟩ (fun H locs hM hS => ?_)
            refine lv_goto (tgt := 227) hx hb dX2_value_90 (by decide) ?_
            exact J227 x2 x3 M87 _ _ _ h hM hS (lv_sub hl [0, 1, 2] rfl)
          have h := g_if c34_1 h
          by_cases c34_2 : v33 = 2
          · have h := g_it c34_2 h
            refine lv_tableIn (off := 59) (tgt := 93) hx hb dX2_value_34 (by rw [c34_2]; decide) (by rw [c34_2]; decide) (by rw [c34_2]; rfl) (by decide) ?_
            refine lv_aload_n hx hb dX2_value_93 rfl (lv_at hl 0 rfl) ?_
            refine lv_aload_n hx hb dX2_value_94 rfl (lv_at hl 0 rfl) ?_
            refine ma_register dX2_value_95 S hE hM ?_
            refine lv_iconst (v := 4) hx hb dX2_value_98 (by decide) ?_
            refine lv_iload_n hx hb dX2_value_99 rfl (lv_at hl 1 rfl) ?_
            refine lv_imul hx hb dX2_value_100 ?_
            refine lv_aload_n hx hb dX2_value_101 rfl (lv_at hl 0 rfl) ?_
            refine ma_codeA dX2_value_102 S hE hM ?_
            refine lv_iload_n hx hb dX2_value_105 rfl (lv_at hl 2 rfl) ?_
            obtain ⟨v106, e106, h⟩ := g_bd h
            refine m_ald 43 dX2_value_106 (by decide) rfl S hE hM e106 ?_
            refine lv_iadd hx hb dX2_value_107 ?_
            obtain ⟨v108, e108, h⟩ := g_bd h
            refine m_ald 71 dX2_value_108 (by decide) rfl S hE hM e108 ?_
            obtain ⟨M109, e109, h⟩ := g_bd h
            refine m_cV (y := yX2_push) (rest := []) dX2_value_109 q3264 q3266 qs100 q3267 hm_push S hE hM hS hl.1 rfl (wm_push E l _ _ _ e109) rfl (Nat.le_of_ble_eq_true rfl) ⟨Nat.le_of_ble_eq_true rfl, Nat.le_of_ble_eq_true rfl⟩ ⟨Nat.le_refl 0, Nat.le_refl 0⟩ (fun H locs hM hS => ?_)
            refine lv_goto (tgt := 227) hx hb dX2_value_112 (by decide) ?_
            exact J227 x2 x3 M109 _ _ _ h hM hS (lv_sub hl [0, 1, 2] rfl)
          have h := g_if c34_2 h
          by_cases c34_3 : v33 = 3
          · have h := g_it c34_3 h
            refine lv_tableIn (off := 81) (tgt := 115) hx hb dX2_value_34 (by rw [c34_3]; decide) (by rw [c34_3]; decide) (by rw [c34_3]; rfl) (by decide) ?_
            refine lv_aload_n hx hb dX2_value_115 rfl (lv_at hl 0 rfl) ?_
            refine lv_aload_n hx hb dX2_value_116 rfl (lv_at hl 0 rfl) ?_
            refine ma_why dX2_value_117 S hE hM ?_
            refine lv_iload_n hx hb dX2_value_120 rfl (lv_at hl 1 rfl) ?_
            obtain ⟨v121, e121, h⟩ := g_bd h
            refine m_ald 66 dX2_value_121 (by decide) rfl S hE hM e121 ?_
            obtain ⟨M122, e122, h⟩ := g_bd h
            refine m_cV (y := yX2_push) (rest := []) dX2_value_122 q3264 q3266 qs100 q3267 hm_push S hE hM hS hl.1 rfl (wm_push E l _ _ _ e122) rfl (Nat.le_of_ble_eq_true rfl) ⟨Nat.le_of_ble_eq_true rfl, Nat.le_of_ble_eq_true rfl⟩ ⟨Nat.le_refl 0, Nat.le_refl 0⟩ (fun H locs hM hS => ?_)
            refine lv_goto (tgt := 227) hx hb dX2_value_125 (by decide) ?_
            exact J227 x2 x3 M122 _ _ _ h hM hS (lv_sub hl [0, 1, 2] rfl)
          have h := g_if c34_3 h
          by_cases c34_4 : v33 = 4
          · have h := g_it c34_4 h
            refine lv_tableIn (off := 94) (tgt := 128) hx hb dX2_value_34 (by rw [c34_4]; decide) (by rw [c34_4]; decide) (by rw [c34_4]; rfl) (by decide) ?_
            refine lv_aload_n hx hb dX2_value_128 rfl (lv_at hl 0 rfl) ?_
            refine lv_aload_n hx hb dX2_value_129 rfl (lv_at hl 0 rfl) ?_
            refine mg_clock dX2_value_130 S hE hM ?_
            obtain ⟨M133, e133, h⟩ := g_bd h
            refine m_cV (y := yX2_push) (rest := []) dX2_value_133 q3264 q3266 qs100 q3267 hm_push S hE hM hS hl.1 rfl (wm_push E l _ _ _ e133) rfl (Nat.le_of_ble_eq_true rfl) ⟨Nat.le_of_ble_eq_true rfl, Nat.le_of_ble_eq_true rfl⟩ ⟨Nat.le_refl 0, Nat.le_refl 0⟩ (fun H locs hM hS => ?_)
            refine lv_goto (tgt := 227) hx hb dX2_value_136 (by decide) ?_
            exact J227 x2 x3 M133 _ _ _ h hM hS (lv_sub hl [0, 1, 2] rfl)
          have h := g_if c34_4 h
          by_cases c34_5 : v33 = 5
          · have h := g_it c34_5 h
            refine lv_tableIn (off := 105) (tgt := 139) hx hb dX2_value_34 (by rw [c34_5]; decide) (by rw [c34_5]; decide) (by rw [c34_5]; rfl) (by decide) ?_
            refine lv_aload_n hx hb dX2_value_139 rfl (lv_at hl 0 rfl) ?_
            refine lv_aload_n hx hb dX2_value_140 rfl (lv_at hl 0 rfl) ?_
            refine mg_wind dX2_value_141 S hE hM ?_
            obtain ⟨M144, e144, h⟩ := g_bd h
            refine m_cV (y := yX2_push) (rest := []) dX2_value_144 q3264 q3266 qs100 q3267 hm_push S hE hM hS hl.1 rfl (wm_push E l _ _ _ e144) rfl (Nat.le_of_ble_eq_true rfl) ⟨Nat.le_of_ble_eq_true rfl, Nat.le_of_ble_eq_true rfl⟩ ⟨Nat.le_refl 0, Nat.le_refl 0⟩ (fun H locs hM hS => ?_)
            refine lv_goto (tgt := 227) hx hb dX2_value_147 (by decide) ?_
            exact J227 x2 x3 M144 _ _ _ h hM hS (lv_sub hl [0, 1, 2] rfl)
          have h := g_if c34_5 h
          by_cases c34_6 : v33 = 6
          · have h := g_it c34_6 h
            refine lv_tableIn (off := 116) (tgt := 150) hx hb dX2_value_34 (by rw [c34_6]; decide) (by rw [c34_6]; decide) (by rw [c34_6]; rfl) (by decide) ?_
            refine lv_aload_n hx hb dX2_value_150 rfl (lv_at hl 0 rfl) ?_
            refine lv_aload_n hx hb dX2_value_151 rfl (lv_at hl 0 rfl) ?_
            refine lv_iload_n hx hb dX2_value_152 rfl (lv_at hl 1 rfl) ?_
            refine lv_aload_n hx hb dX2_value_153 rfl (lv_at hl 0 rfl) ?_
            refine ma_codeA dX2_value_154 S hE hM ?_
            refine lv_iload_n hx hb dX2_value_157 rfl (lv_at hl 2 rfl) ?_
            obtain ⟨v158, e158, h⟩ := g_bd h
            refine m_ald 43 dX2_value_158 (by decide) rfl S hE hM e158 ?_
            obtain ⟨v159, e159, h⟩ := g_bd h
            refine m_cV (y := yX2_measured) (rest := [.ref (gx_m E)]) dX2_value_159 q3268 q3270 qs101 q3271 hm_measured S hE hM hS hl.1 rfl (wm_measured E l _ _ _ _ e159) rfl (Nat.le_of_ble_eq_true rfl) ⟨Nat.le_of_ble_eq_true rfl, Nat.le_of_ble_eq_true rfl⟩ ⟨Nat.le_refl 0, Nat.le_refl 0⟩ (fun H locs hM hS => ?_)
            obtain ⟨M162, e162, h⟩ := g_bd h
            refine m_cV (y := yX2_push) (rest := []) dX2_value_162 q3264 q3266 qs100 q3267 hm_push S hE hM hS hl.1 rfl (wm_push E l _ _ _ e162) rfl (Nat.le_of_ble_eq_true rfl) ⟨Nat.le_of_ble_eq_true rfl, Nat.le_of_ble_eq_true rfl⟩ ⟨Nat.le_refl 0, Nat.le_refl 0⟩ (fun H locs hM hS => ?_)
            refine lv_goto (tgt := 227) hx hb dX2_value_165 (by decide) ?_
            exact J227 x2 x3 M162 _ _ _ h hM hS (lv_sub hl [0, 1, 2] rfl)
          have h := g_if c34_6 h
          by_cases c34_7 : v33 = 7
          · have h := g_it c34_7 h
            refine lv_tableIn (off := 134) (tgt := 168) hx hb dX2_value_34 (by rw [c34_7]; decide) (by rw [c34_7]; decide) (by rw [c34_7]; rfl) (by decide) ?_
            refine lv_aload_n hx hb dX2_value_168 rfl (lv_at hl 0 rfl) ?_
            refine lv_aload_n hx hb dX2_value_169 rfl (lv_at hl 0 rfl) ?_
            refine lv_aload_n hx hb dX2_value_170 rfl (lv_at hl 0 rfl) ?_
            refine ma_codeA dX2_value_171 S hE hM ?_
            refine lv_iload_n hx hb dX2_value_174 rfl (lv_at hl 2 rfl) ?_
            obtain ⟨v175, e175, h⟩ := g_bd h
            refine m_ald 43 dX2_value_175 (by decide) rfl S hE hM e175 ?_
            refine lv_aload_n hx hb dX2_value_176 rfl (lv_at hl 0 rfl) ?_
            refine ma_codeB dX2_value_177 S hE hM ?_
            refine lv_iload_n hx hb dX2_value_180 rfl (lv_at hl 2 rfl) ?_
            obtain ⟨v181, e181, h⟩ := g_bd h
            refine m_ald 44 dX2_value_181 (by decide) rfl S hE hM e181 ?_
            obtain ⟨v182, e182, h⟩ := g_bd h
            refine m_cV (y := yX2_measured) (rest := [.ref (gx_m E)]) dX2_value_182 q3268 q3270 qs101 q3271 hm_measured S hE hM hS hl.1 rfl (wm_measured E l _ _ _ _ e182) rfl (Nat.le_of_ble_eq_true rfl) ⟨Nat.le_of_ble_eq_true rfl, Nat.le_of_ble_eq_true rfl⟩ ⟨Nat.le_refl 0, Nat.le_refl 0⟩ (fun H locs hM hS => ?_)
            obtain ⟨M185, e185, h⟩ := g_bd h
            refine m_cV (y := yX2_push) (rest := []) dX2_value_185 q3264 q3266 qs100 q3267 hm_push S hE hM hS hl.1 rfl (wm_push E l _ _ _ e185) rfl (Nat.le_of_ble_eq_true rfl) ⟨Nat.le_of_ble_eq_true rfl, Nat.le_of_ble_eq_true rfl⟩ ⟨Nat.le_refl 0, Nat.le_refl 0⟩ (fun H locs hM hS => ?_)
            refine lv_goto (tgt := 227) hx hb dX2_value_188 (by decide) ?_
            exact J227 x2 x3 M185 _ _ _ h hM hS (lv_sub hl [0, 1, 2] rfl)
          have h := g_if c34_7 h
          by_cases c34_8 : v33 = 8
          · have h := g_it c34_8 h
            refine lv_tableIn (off := 157) (tgt := 191) hx hb dX2_value_34 (by rw [c34_8]; decide) (by rw [c34_8]; decide) (by rw [c34_8]; rfl) (by decide) ?_
            refine lv_aload_n hx hb dX2_value_191 rfl (lv_at hl 0 rfl) ?_
            refine ma_stack dX2_value_192 S hE hM ?_
            refine lv_aload_n hx hb dX2_value_195 rfl (lv_at hl 0 rfl) ?_
            refine mg_top dX2_value_196 S hE hM ?_
            refine lv_iconst (v := 1) hx hb dX2_value_199 (by decide) ?_
            refine lv_isub hx hb dX2_value_200 ?_
            refine lv_aload_n hx hb dX2_value_201 rfl (lv_at hl 0 rfl) ?_
            refine ma_stack dX2_value_202 S hE hM ?_
            refine lv_aload_n hx hb dX2_value_205 rfl (lv_at hl 0 rfl) ?_
            refine mg_top dX2_value_206 S hE hM ?_
            refine lv_iconst (v := 1) hx hb dX2_value_209 (by decide) ?_
            refine lv_isub hx hb dX2_value_210 ?_
            obtain ⟨v211, e211, h⟩ := g_bd h
            refine m_ald 87 dX2_value_211 (by decide) rfl S hE hM e211 ?_
            refine lv_ineg hx hb dX2_value_212 ?_
            obtain ⟨M213, e213, h⟩ := g_bd h
            refine m_ast 87 dX2_value_213 (by decide) rfl S hE hM hS e213 (fun H locs hM hS => ?_)
            refine lv_goto (tgt := 227) hx hb dX2_value_214 (by decide) ?_
            exact J227 x2 x3 M213 _ _ _ h hM hS (lv_sub hl [0, 1, 2] rfl)
          have h := g_if c34_8 h
          refine lv_tableOut (tgt := 217) hx hb dX2_value_34 (g_swOut 1 8 (by intro k hk; match k, hk with | 0, _ => exact c34_1 | 1, _ => exact c34_2 | 2, _ => exact c34_3 | 3, _ => exact c34_4 | 4, _ => exact c34_5 | 5, _ => exact c34_6 | 6, _ => exact c34_7 | 7, _ => exact c34_8 | k + 8, hk => exact absurd hk (by omega)) (by decide) (by decide)) (by decide) ?_
          refine lv_aload_n hx hb dX2_value_217 rfl (lv_at hl 0 rfl) ?_
          refine lv_aload_n hx hb dX2_value_218 rfl (lv_at hl 0 rfl) ?_
          refine ma_code dX2_value_219 S hE hM ?_
          refine lv_iload_n hx hb dX2_value_222 rfl (lv_at hl 2 rfl) ?_
          obtain ⟨v223, e223, h⟩ := g_bd h
          refine m_ald 42 dX2_value_223 (by decide) rfl S hE hM e223 ?_
          obtain ⟨M224, e224, h⟩ := g_bd h
          refine m_cV (y := yX2_two) (rest := []) dX2_value_224 q3272 q3274 qs102 q3275 hm_two S hE hM hS hl.1 rfl (wm_two E l _ _ _ e224) rfl (Nat.le_of_ble_eq_true rfl) ⟨Nat.le_of_ble_eq_true rfl, Nat.le_of_ble_eq_true rfl⟩ ⟨Nat.le_refl 0, Nat.le_refl 0⟩ (fun H locs hM hS => ?_)
          exact J227 x2 x3 M224 _ _ _ h hM hS (lv_sub hl [0, 1, 2] rfl)
  unfold mm_value at h
  refine lv_aload_n hx hb dX2_value_0 rfl (lv_at hl 0 rfl) ?_
  refine lv_iconst (v := 0) hx hb dX2_value_1 (by decide) ?_
  obtain ⟨M2, e2, h⟩ := g_bd h
  refine mp_top dX2_value_2 S hE hM hS e2 (fun H locs hM hS => ?_)
  refine lv_aload_n hx hb dX2_value_5 rfl (lv_at hl 0 rfl) ?_
  refine lv_iconst (v := 0) hx hb dX2_value_6 (by decide) ?_
  obtain ⟨M7, e7, h⟩ := g_bd h
  refine mp_byZero dX2_value_7 S hE hM hS e7 (fun H locs hM hS => ?_)
  refine lv_iload_n hx hb dX2_value_10 rfl (lv_at hl 1 rfl) ?_
  refine lv_istore_n (lv' := [(3, .int x1), (0, .ref (gx_m E)), (1, .int x1), (2, .int x2)]) hx hb dX2_value_11 rfl hl (by decide) rfl (fun ls hl => ?_)
  exact L12 gF x2 x1 M7 _ _ _ h hM hS (lv_sub hl [1, 3, 0] rfl)
theorem hm_goTo : yX2_goTo.cls = RX2 ∧ yX2_goTo.cls ≠ "java/lang/invoke/MethodHandle" ∧ yX2_goTo.cls ≠ "java/lang/invoke/VarHandle" ∧ (parseMethodDescriptor yX2_goTo.desc).map (fun d => d.parameters.length) = some 2 := by decide +kernel
set_option maxHeartbeats 4000000 in
set_option maxRecDepth 100000 in
theorem wm_goTo (E : gX) (l : Launch) (x1 x2 : Int32) (M M' : MM) (h : mm_goTo x1 x2 M = some M') : gMet E l yX2_goTo cX2_goTo 5 none 3 0 0 (gx_A E) [.ref (gx_m E), .int x1, .int x2] (gM E M) (gM E M') none := by
  refine gMet.of (own := RX2) (by decide +kernel) (Nat.le_of_ble_eq_true rfl) rfl ?_
  intro p e s m args below meth c S hr hk hnm hE hM hS ls hl
  have hl : lv_has ls 5 [(0, .ref (gx_m E)), (1, .int x1), (2, .int x2)] := hl
  have hx := S.1
  have hb := S.2.1
  have L5 : ∀ (n : Nat) (x1 x3 x4 : Int32) (M : MM) (H : Heap) (locs : List Loc) (ls : Array Slot), mm_goTo_L5 n x1 x3 x4 M = some M' → gM E M H → va_S (gx_A E) s.heap H locs → lv_has ls 5 [(0, .ref (gx_m E)), (1, .int x1), (3, .int x3), (4, .int x4)] → W p l e (gRm 3 0 0) s m args below meth c H locs 0 0 (MQ below (gQ none (gM E M') (gx_A E)) args s 0 0 (gx_A E)) (F0 m 5 ls []) := by
    intro n5
    induction n5 with
    | zero =>
      intro x1 x3 x4 M H locs ls h
      cases h
    | succ n5 ih5 =>
      have J68 : ∀ (x1 x3 : Int32) (M : MM) (H : Heap) (locs : List Loc) (ls : Array Slot), mm_goTo_J68 (mm_goTo_L5 n5) x1 x3 M = some M' → gM E M H → va_S (gx_A E) s.heap H locs → lv_has ls 5 [(0, .ref (gx_m E)), (1, .int x1), (3, .int x3)] → W p l e (gRm 3 0 0) s m args below meth c H locs 0 0 (MQ below (gQ none (gM E M') (gx_A E)) args s 0 0 (gx_A E)) (F0 m 68 ls []) := by
        intro x1 x3 M H locs ls h hM hS hl
        unfold mm_goTo_J68 at h
        refine lv_iconst (v := 0) hx hb dX2_goTo_68 (by decide) ?_
        refine lv_istore (lv' := [(4, .int 0), (0, .ref (gx_m E)), (1, .int x1), (3, .int x3)]) hx hb dX2_goTo_69 hl (by decide) rfl (fun ls hl => ?_)
        refine lv_goto (tgt := 5) hx hb dX2_goTo_71 (by decide) ?_
        exact ih5 x1 x3 0 M _ _ _ h hM hS (lv_sub hl [1, 2, 3, 0] rfl)
      intro x1 x3 x4 M H locs ls h hM hS hl
      have h : mm_goTo_B5 (mm_goTo_L5 n5) x1 x3 x4 M = some M' := h
      unfold mm_goTo_B5 at h
      refine lv_iload hx hb dX2_goTo_5 (lv_at hl 3 rfl) ?_
      refine lv_if_eq (tgt := 74) hx hb dX2_goTo_7 (by decide) (fun c7 => ?_) (fun c7 => ?_)
      · have h := g_it c7 h
        refine lv_aload_n hx hb dX2_goTo_74 rfl (lv_at hl 0 rfl) ?_
        refine ma_next dX2_goTo_75 S hE hM ?_
        refine lv_iload_n hx hb dX2_goTo_78 rfl (lv_at hl 1 rfl) ?_
        refine lv_iload_n hx hb dX2_goTo_79 rfl (lv_at hl 2 rfl) ?_
        obtain ⟨M80, e80, h⟩ := g_bd h
        refine m_ast 67 dX2_goTo_80 (by decide) rfl S hE hM hS e80 (fun H locs hM hS => ?_)
        refine lv_aload_n hx hb dX2_goTo_81 rfl (lv_at hl 0 rfl) ?_
        refine ma_begun dX2_goTo_82 S hE hM ?_
        refine lv_iload_n hx hb dX2_goTo_85 rfl (lv_at hl 1 rfl) ?_
        refine lv_iconst (v := 0) hx hb dX2_goTo_86 (by decide) ?_
        obtain ⟨M87, e87, h⟩ := g_bd h
        refine m_ast 70 dX2_goTo_87 (by decide) rfl S hE hM hS e87 (fun H locs hM hS => ?_)
        refine lv_aload_n hx hb dX2_goTo_88 rfl (lv_at hl 0 rfl) ?_
        refine ma_op dX2_goTo_89 S hE hM ?_
        refine lv_iload_n hx hb dX2_goTo_92 rfl (lv_at hl 2 rfl) ?_
        obtain ⟨v93, e93, h⟩ := g_bd h
        refine m_ald 35 dX2_goTo_93 (by decide) rfl S hE hM e93 ?_
        refine lv_bipush (v := 54) hx hb dX2_goTo_94 (by decide) ?_
        refine lv_icmp_ne (tgt := 104) hx hb dX2_goTo_96 (by decide) (fun c96 => ?_) (fun c96 => ?_)
        · have h := g_if c96 h
          exact m_vretW dX2_goTo_104 S hr hk hM hS h
        · have h := g_it c96 h
          refine lv_aload_n hx hb dX2_goTo_99 rfl (lv_at hl 0 rfl) ?_
          refine lv_iload_n hx hb dX2_goTo_100 rfl (lv_at hl 1 rfl) ?_
          obtain ⟨M101, e101, h⟩ := g_bd h
          refine m_cV (y := yX2_isOver) (rest := []) dX2_goTo_101 q3248 q3250 qs96 q3251 hm_isOver S hE hM hS hl.1 rfl (wm_isOver E l _ _ _ e101) rfl (Nat.le_of_ble_eq_true rfl) ⟨Nat.le_of_ble_eq_true rfl, Nat.le_of_ble_eq_true rfl⟩ ⟨Nat.le_refl 0, Nat.le_refl 0⟩ (fun H locs hM hS => ?_)
          exact m_vretW dX2_goTo_104 S hr hk hM hS h
      · have h := g_if c7 h
        refine lv_aload_n hx hb dX2_goTo_10 rfl (lv_at hl 0 rfl) ?_
        refine ma_op dX2_goTo_11 S hE hM ?_
        refine lv_iload_n hx hb dX2_goTo_14 rfl (lv_at hl 2 rfl) ?_
        obtain ⟨v15, e15, h⟩ := g_bd h
        refine m_ald 35 dX2_goTo_15 (by decide) rfl S hE hM e15 ?_
        refine lv_bipush (v := 51) hx hb dX2_goTo_16 (by decide) ?_
        refine lv_icmp_ne (tgt := 31) hx hb dX2_goTo_18 (by decide) (fun c18 => ?_) (fun c18 => ?_)
        · have h := g_if c18 h
          refine lv_aload_n hx hb dX2_goTo_31 rfl (lv_at hl 0 rfl) ?_
          refine ma_op dX2_goTo_32 S hE hM ?_
          refine lv_iload_n hx hb dX2_goTo_35 rfl (lv_at hl 2 rfl) ?_
          obtain ⟨v36, e36, h⟩ := g_bd h
          refine m_ald 35 dX2_goTo_36 (by decide) rfl S hE hM e36 ?_
          refine lv_bipush (v := 52) hx hb dX2_goTo_37 (by decide) ?_
          refine lv_icmp_ne (tgt := 68) hx hb dX2_goTo_39 (by decide) (fun c39 => ?_) (fun c39 => ?_)
          · have h := g_if c39 h
            exact J68 x1 x3 M _ _ _ h hM hS (lv_sub hl [0, 1, 2] rfl)
          · have h := g_it c39 h
            refine lv_aload_n hx hb dX2_goTo_42 rfl (lv_at hl 0 rfl) ?_
            refine ma_turns dX2_goTo_43 S hE hM ?_
            refine lv_bipush (v := 11) hx hb dX2_goTo_46 (by decide) ?_
            refine lv_iload_n hx hb dX2_goTo_48 rfl (lv_at hl 1 rfl) ?_
            refine lv_imul hx hb dX2_goTo_49 ?_
            refine lv_aload_n hx hb dX2_goTo_50 rfl (lv_at hl 0 rfl) ?_
            refine ma_opC dX2_goTo_51 S hE hM ?_
            refine lv_iload_n hx hb dX2_goTo_54 rfl (lv_at hl 2 rfl) ?_
            obtain ⟨v55, e55, h⟩ := g_bd h
            refine m_ald 39 dX2_goTo_55 (by decide) rfl S hE hM e55 ?_
            refine lv_iadd hx hb dX2_goTo_56 ?_
            obtain ⟨v57, e57, h⟩ := g_bd h
            refine m_ald 72 dX2_goTo_57 (by decide) rfl S hE hM e57 ?_
            refine lv_iconst (v := 2) hx hb dX2_goTo_58 (by decide) ?_
            refine lv_icmp_ge (tgt := 68) hx hb dX2_goTo_59 (by decide) (fun c59 => ?_) (fun c59 => ?_)
            · have h := g_it c59 h
              exact J68 x1 x3 M _ _ _ h hM hS (lv_sub hl [0, 1, 2] rfl)
            · have h := g_if c59 h
              refine lv_iinc (k := 2) (v := (x3 + 1)) (lv' := [(3, .int (x3 + 1)), (0, .ref (gx_m E)), (1, .int x1), (4, .int x4)]) hx hb dX2_goTo_62 hl rfl rfl (by decide) rfl (fun ls hl => ?_)
              refine lv_goto (tgt := 5) hx hb dX2_goTo_65 (by decide) ?_
              exact ih5 x1 (x3 + 1) x4 M _ _ _ h hM hS (lv_sub hl [1, 2, 0, 3] rfl)
        · have h := g_it c18 h
          refine lv_aload_n hx hb dX2_goTo_21 rfl (lv_at hl 0 rfl) ?_
          refine ma_opB dX2_goTo_22 S hE hM ?_
          refine lv_iload_n hx hb dX2_goTo_25 rfl (lv_at hl 2 rfl) ?_
          obtain ⟨v26, e26, h⟩ := g_bd h
          refine m_ald 38 dX2_goTo_26 (by decide) rfl S hE hM e26 ?_
          refine lv_istore_n (lv' := [(3, .int v26), (0, .ref (gx_m E)), (1, .int x1), (4, .int x4)]) hx hb dX2_goTo_27 rfl hl (by decide) rfl (fun ls hl => ?_)
          refine lv_goto (tgt := 5) hx hb dX2_goTo_28 (by decide) ?_
          exact ih5 x1 v26 x4 M _ _ _ h hM hS (lv_sub hl [1, 2, 0, 3] rfl)
  unfold mm_goTo at h
  refine lv_iload_n hx hb dX2_goTo_0 rfl (lv_at hl 2 rfl) ?_
  refine lv_istore_n (lv' := [(3, .int x2), (0, .ref (gx_m E)), (1, .int x1), (2, .int x2)]) hx hb dX2_goTo_1 rfl hl (by decide) rfl (fun ls hl => ?_)
  refine lv_iconst (v := 1) hx hb dX2_goTo_2 (by decide) ?_
  refine lv_istore (lv' := [(4, .int 1), (3, .int x2), (0, .ref (gx_m E)), (1, .int x1), (2, .int x2)]) hx hb dX2_goTo_3 hl (by decide) rfl (fun ls hl => ?_)
  exact L5 gF x1 x2 1 M _ _ _ h hM hS (lv_sub hl [2, 3, 1, 0] rfl)
theorem hm_stalls : yX2_stalls.cls = RX2 ∧ yX2_stalls.cls ≠ "java/lang/invoke/MethodHandle" ∧ yX2_stalls.cls ≠ "java/lang/invoke/VarHandle" ∧ (parseMethodDescriptor yX2_stalls.desc).map (fun d => d.parameters.length) = some 2 := by decide +kernel
set_option maxHeartbeats 4000000 in
set_option maxRecDepth 100000 in
theorem wm_stalls (E : gX) (l : Launch) (x1 x2 : Int32) (M M' : MM) (h : mm_stalls x1 x2 M = some M') : gMet E l yX2_stalls cX2_stalls 5 none 4 0 0 (gx_A E) [.ref (gx_m E), .int x1, .int x2] (gM E M) (gM E M') none := by
  refine gMet.of (own := RX2) (by decide +kernel) (Nat.le_of_ble_eq_true rfl) rfl ?_
  intro p e s m args below meth c S hr hk hnm hE hM hS ls hl
  have hl : lv_has ls 5 [(0, .ref (gx_m E)), (1, .int x1), (2, .int x2)] := hl
  have hx := S.1
  have hb := S.2.1
  have L41 : ∀ (n : Nat) (x1 x2 x4 : Int32) (M : MM) (H : Heap) (locs : List Loc) (ls : Array Slot), mm_stalls_L41 n x1 x2 x4 M = some M' → gM E M H → va_S (gx_A E) s.heap H locs → lv_has ls 5 [(0, .ref (gx_m E)), (1, .int x1), (2, .int x2), (4, .int x4)] → W p l e (gRm 4 0 0) s m args below meth c H locs 0 0 (MQ below (gQ none (gM E M') (gx_A E)) args s 0 0 (gx_A E)) (F0 m 41 ls []) := by
    intro n41
    induction n41 with
    | zero =>
      intro x1 x2 x4 M H locs ls h
      cases h
    | succ n41 ih41 =>
      intro x1 x2 x4 M H locs ls h hM hS hl
      have h : mm_stalls_B41 (mm_stalls_L41 n41) x1 x2 x4 M = some M' := h
      unfold mm_stalls_B41 at h
      refine lv_iload hx hb dX2_stalls_41 (lv_at hl 3 rfl) ?_
      refine lv_bipush (v := 6) hx hb dX2_stalls_43 (by decide) ?_
      refine lv_icmp_ge (tgt := 89) hx hb dX2_stalls_45 (by decide) (fun c45 => ?_) (fun c45 => ?_)
      · have h := g_it c45 h
        refine lv_aload_n hx hb dX2_stalls_89 rfl (lv_at hl 0 rfl) ?_
        refine lv_iconst (v := 2) hx hb dX2_stalls_90 (by decide) ?_
        refine lv_iload_n hx hb dX2_stalls_91 rfl (lv_at hl 1 rfl) ?_
        refine lv_iload_n hx hb dX2_stalls_92 rfl (lv_at hl 2 rfl) ?_
        obtain ⟨M93, e93, h⟩ := g_bd h
        refine m_cV (y := yX2_note) (rest := []) dX2_stalls_93 q3240 q3242 qs94 q3243 hm_note S hE hM hS hl.1 rfl (wm_note E l _ _ _ _ _ e93) rfl (Nat.le_of_ble_eq_true rfl) ⟨Nat.le_of_ble_eq_true rfl, Nat.le_of_ble_eq_true rfl⟩ ⟨Nat.le_refl 0, Nat.le_refl 0⟩ (fun H locs hM hS => ?_)
        exact m_vretW dX2_stalls_96 S hr hk hM hS h
      · have h := g_if c45 h
        refine lv_aload_n hx hb dX2_stalls_48 rfl (lv_at hl 0 rfl) ?_
        refine ma_idle dX2_stalls_49 S hE hM ?_
        refine lv_iload hx hb dX2_stalls_52 (lv_at hl 3 rfl) ?_
        refine lv_dup2_11 hx hb dX2_stalls_54 rfl rfl ?_
        obtain ⟨v55, e55, h⟩ := g_bd h
        refine m_ald 74 dX2_stalls_55 (by decide) rfl S hE hM e55 ?_
        refine lv_aload_n hx hb dX2_stalls_56 rfl (lv_at hl 0 rfl) ?_
        refine ma_holds dX2_stalls_57 S hE hM ?_
        refine lv_bipush (v := 6) hx hb dX2_stalls_60 (by decide) ?_
        refine lv_iload_n hx hb dX2_stalls_62 rfl (lv_at hl 1 rfl) ?_
        refine lv_imul hx hb dX2_stalls_63 ?_
        refine lv_iload hx hb dX2_stalls_64 (lv_at hl 3 rfl) ?_
        refine lv_iadd hx hb dX2_stalls_66 ?_
        obtain ⟨v67, e67, h⟩ := g_bd h
        refine m_ald 73 dX2_stalls_67 (by decide) rfl S hE hM e67 ?_
        refine lv_iadd hx hb dX2_stalls_68 ?_
        obtain ⟨M69, e69, h⟩ := g_bd h
        refine m_ast 74 dX2_stalls_69 (by decide) rfl S hE hM hS e69 (fun H locs hM hS => ?_)
        refine lv_aload_n hx hb dX2_stalls_70 rfl (lv_at hl 0 rfl) ?_
        refine ma_holds dX2_stalls_71 S hE hM ?_
        refine lv_bipush (v := 6) hx hb dX2_stalls_74 (by decide) ?_
        refine lv_iload_n hx hb dX2_stalls_76 rfl (lv_at hl 1 rfl) ?_
        refine lv_imul hx hb dX2_stalls_77 ?_
        refine lv_iload hx hb dX2_stalls_78 (lv_at hl 3 rfl) ?_
        refine lv_iadd hx hb dX2_stalls_80 ?_
        refine lv_iconst (v := 0) hx hb dX2_stalls_81 (by decide) ?_
        obtain ⟨M82, e82, h⟩ := g_bd h
        refine m_ast 73 dX2_stalls_82 (by decide) rfl S hE hM hS e82 (fun H locs hM hS => ?_)
        refine lv_iinc (k := 3) (v := (x4 + 1)) (lv' := [(4, .int (x4 + 1)), (0, .ref (gx_m E)), (1, .int x1), (2, .int x2)]) hx hb dX2_stalls_83 hl rfl rfl (by decide) rfl (fun ls hl => ?_)
        refine lv_goto (tgt := 41) hx hb dX2_stalls_86 (by decide) ?_
        exact ih41 x1 x2 (x4 + 1) M82 _ _ _ h hM hS (lv_sub hl [1, 2, 3, 0] rfl)
  unfold mm_stalls at h
  refine lv_aload_n hx hb dX2_stalls_0 rfl (lv_at hl 0 rfl) ?_
  refine ma_goal dX2_stalls_1 S hE hM ?_
  refine lv_iload_n hx hb dX2_stalls_4 rfl (lv_at hl 1 rfl) ?_
  refine lv_iconst (v := 0) hx hb dX2_stalls_5 (by decide) ?_
  obtain ⟨M6, e6, h⟩ := g_bd h
  refine m_ast 57 dX2_stalls_6 (by decide) rfl S hE hM hS e6 (fun H locs hM hS => ?_)
  refine lv_aload_n hx hb dX2_stalls_7 rfl (lv_at hl 0 rfl) ?_
  refine ma_lift dX2_stalls_8 S hE hM ?_
  refine lv_iload_n hx hb dX2_stalls_11 rfl (lv_at hl 1 rfl) ?_
  refine lv_iconst (v := 0) hx hb dX2_stalls_12 (by decide) ?_
  obtain ⟨M13, e13, h⟩ := g_bd h
  refine m_ast 59 dX2_stalls_13 (by decide) rfl S hE hM hS e13 (fun H locs hM hS => ?_)
  refine lv_aload_n hx hb dX2_stalls_14 rfl (lv_at hl 0 rfl) ?_
  refine ma_opGuard dX2_stalls_15 S hE hM ?_
  refine lv_aload_n hx hb dX2_stalls_18 rfl (lv_at hl 0 rfl) ?_
  refine ma_next dX2_stalls_19 S hE hM ?_
  refine lv_iload_n hx hb dX2_stalls_22 rfl (lv_at hl 1 rfl) ?_
  obtain ⟨v23, e23, h⟩ := g_bd h
  refine m_ald 67 dX2_stalls_23 (by decide) rfl S hE hM e23 ?_
  obtain ⟨v24, e24, h⟩ := g_bd h
  refine m_ald 40 dX2_stalls_24 (by decide) rfl S hE hM e24 ?_
  refine lv_istore_n (lv' := [(3, .int v24), (0, .ref (gx_m E)), (1, .int x1), (2, .int x2)]) hx hb dX2_stalls_25 rfl hl (by decide) rfl (fun ls hl => ?_)
  refine lv_iload_n hx hb dX2_stalls_26 rfl (lv_at hl 0 rfl) ?_
  refine lv_iconst (v := (-1)) hx hb dX2_stalls_27 (by decide) ?_
  refine lv_icmp_ne (tgt := 97) hx hb dX2_stalls_28 (by decide) (fun c28 => ?_) (fun c28 => ?_)
  · have h := g_if c28 h
    refine lv_aload_n hx hb dX2_stalls_97 rfl (lv_at hl 1 rfl) ?_
    refine ma_why dX2_stalls_98 S hE hM ?_
    refine lv_iload_n hx hb dX2_stalls_101 rfl (lv_at hl 2 rfl) ?_
    refine lv_iload_n hx hb dX2_stalls_102 rfl (lv_at hl 3 rfl) ?_
    obtain ⟨M103, e103, h⟩ := g_bd h
    refine m_ast 66 dX2_stalls_103 (by decide) rfl S hE hM hS e103 (fun H locs hM hS => ?_)
    refine lv_aload_n hx hb dX2_stalls_104 rfl (lv_at hl 1 rfl) ?_
    refine lv_iconst (v := 1) hx hb dX2_stalls_105 (by decide) ?_
    refine lv_iload_n hx hb dX2_stalls_106 rfl (lv_at hl 2 rfl) ?_
    refine lv_iload_n hx hb dX2_stalls_107 rfl (lv_at hl 3 rfl) ?_
    obtain ⟨M108, e108, h⟩ := g_bd h
    refine m_cV (y := yX2_note) (rest := []) dX2_stalls_108 q3240 q3242 qs94 q3243 hm_note S hE hM hS hl.1 rfl (wm_note E l _ _ _ _ _ e108) rfl (Nat.le_of_ble_eq_true rfl) ⟨Nat.le_of_ble_eq_true rfl, Nat.le_of_ble_eq_true rfl⟩ ⟨Nat.le_refl 0, Nat.le_refl 0⟩ (fun H locs hM hS => ?_)
    refine lv_aload_n hx hb dX2_stalls_111 rfl (lv_at hl 1 rfl) ?_
    refine lv_iload_n hx hb dX2_stalls_112 rfl (lv_at hl 2 rfl) ?_
    refine lv_aload_n hx hb dX2_stalls_113 rfl (lv_at hl 1 rfl) ?_
    refine ma_opB dX2_stalls_114 S hE hM ?_
    refine lv_iload_n hx hb dX2_stalls_117 rfl (lv_at hl 0 rfl) ?_
    obtain ⟨v118, e118, h⟩ := g_bd h
    refine m_ald 38 dX2_stalls_118 (by decide) rfl S hE hM e118 ?_
    obtain ⟨M119, e119, h⟩ := g_bd h
    refine m_cV (y := yX2_goTo) (rest := []) dX2_stalls_119 q3280 q3282 qs104 q3283 hm_goTo S hE hM hS hl.1 rfl (wm_goTo E l _ _ _ _ e119) rfl (Nat.le_of_ble_eq_true rfl) ⟨Nat.le_of_ble_eq_true rfl, Nat.le_of_ble_eq_true rfl⟩ ⟨Nat.le_refl 0, Nat.le_refl 0⟩ (fun H locs hM hS => ?_)
    exact m_vretW dX2_stalls_122 S hr hk hM hS h
  · have h := g_it c28 h
    refine lv_aload_n hx hb dX2_stalls_31 rfl (lv_at hl 1 rfl) ?_
    refine ma_state dX2_stalls_32 S hE hM ?_
    refine lv_iload_n hx hb dX2_stalls_35 rfl (lv_at hl 2 rfl) ?_
    refine lv_iconst (v := 2) hx hb dX2_stalls_36 (by decide) ?_
    obtain ⟨M37, e37, h⟩ := g_bd h
    refine m_ast 65 dX2_stalls_37 (by decide) rfl S hE hM hS e37 (fun H locs hM hS => ?_)
    refine lv_iconst (v := 0) hx hb dX2_stalls_38 (by decide) ?_
    refine lv_istore (lv' := [(4, .int 0), (3, .int v24), (0, .ref (gx_m E)), (1, .int x1), (2, .int x2)]) hx hb dX2_stalls_39 hl (by decide) rfl (fun ls hl => ?_)
    exact L41 gF x1 x2 0 M37 _ _ _ h hM hS (lv_sub hl [2, 3, 4, 0] rfl)
theorem hm_isCalm : yX2_isCalm.cls = RX2 ∧ yX2_isCalm.cls ≠ "java/lang/invoke/MethodHandle" ∧ yX2_isCalm.cls ≠ "java/lang/invoke/VarHandle" ∧ (parseMethodDescriptor yX2_isCalm.desc).map (fun d => d.parameters.length) = some 1 := by decide +kernel
set_option maxHeartbeats 4000000 in
set_option maxRecDepth 100000 in
theorem wm_isCalm (E : gX) (l : Launch) (x1 : Int32) (r : Int32) (M : MM) (h : mm_isCalm x1 M = some r) : gMet E l yX2_isCalm cX2_isCalm 5 (some .boolean) 2 0 0 (gx_A E) [.ref (gx_m E), .int x1] (gM E M) (gM E M) (some (.int r)) := by
  refine gMet.of (own := RX2) (by decide +kernel) (Nat.le_of_ble_eq_true rfl) rfl ?_
  intro p e s m args below meth c S hr hk hnm hE hM hS ls hl
  have hl : lv_has ls 5 [(0, .ref (gx_m E)), (1, .int x1)] := hl
  have hx := S.1
  have hb := S.2.1
  have J74 : ∀ (x1 x2 x3 s0 : Int32) (M : MM) (H : Heap) (locs : List Loc) (ls : Array Slot), mm_isCalm_J74 x1 x2 x3 s0 M = some r → gM E M H → va_S (gx_A E) s.heap H locs → lv_has ls 5 [(0, .ref (gx_m E)), (1, .int x1), (2, .int x2), (3, .int x3)] → W p l e (gRm 2 0 0) s m args below meth c H locs 0 0 (MQ below (gQ (some (.int r)) (gM E M) (gx_A E)) args s 0 0 (gx_A E)) (F0 m 74 ls [.int s0]) := by
    intro x1 x2 x3 s0 M H locs ls h hM hS hl
    unfold mm_isCalm_J74 at h
    refine lv_istore (lv' := [(4, .int s0), (0, .ref (gx_m E)), (1, .int x1), (2, .int x2), (3, .int x3)]) hx hb dX2_isCalm_74 hl (by decide) rfl (fun ls hl => ?_)
    refine lv_aload_n hx hb dX2_isCalm_76 rfl (lv_at hl 1 rfl) ?_
    refine ma_kind dX2_isCalm_77 S hE hM ?_
    refine lv_iload_n hx hb dX2_isCalm_80 rfl (lv_at hl 2 rfl) ?_
    obtain ⟨v81, e81, h⟩ := g_bd h
    refine m_ald 25 dX2_isCalm_81 (by decide) rfl S hE hM e81 ?_
    by_cases c82_3 : v81 = 3
    · have h := g_it c82_3 h
      refine lv_tableIn (off := 34) (tgt := 116) hx hb dX2_isCalm_82 (by rw [c82_3]; decide) (by rw [c82_3]; decide) (by rw [c82_3]; rfl) (by decide) ?_
      refine lv_iconst (v := 1) hx hb dX2_isCalm_116 (by decide) ?_
      exact m_zretR dX2_isCalm_117 S hr hk hM hS h
    have h := g_if c82_3 h
    by_cases c82_4 : v81 = 4
    · have h := g_it c82_4 h
      refine lv_tableIn (off := 90) (tgt := 172) hx hb dX2_isCalm_82 (by rw [c82_4]; decide) (by rw [c82_4]; decide) (by rw [c82_4]; rfl) (by decide) ?_
      refine lv_iload_n hx hb dX2_isCalm_172 rfl (lv_at hl 3 rfl) ?_
      refine lv_if_eq (tgt := 189) hx hb dX2_isCalm_173 (by decide) (fun c173 => ?_) (fun c173 => ?_)
      · have h := g_it c173 h
        refine lv_iconst (v := 0) hx hb dX2_isCalm_189 (by decide) ?_
        exact m_zretR dX2_isCalm_190 S hr hk hM hS h
      · have h := g_if c173 h
        refine lv_iload_n hx hb dX2_isCalm_176 rfl (lv_at hl 4 rfl) ?_
        refine lv_if_eq (tgt := 189) hx hb dX2_isCalm_177 (by decide) (fun c177 => ?_) (fun c177 => ?_)
        · have h := g_it c177 h
          refine lv_iconst (v := 0) hx hb dX2_isCalm_189 (by decide) ?_
          exact m_zretR dX2_isCalm_190 S hr hk hM hS h
        · have h := g_if c177 h
          refine lv_iload hx hb dX2_isCalm_180 (lv_at hl 0 rfl) ?_
          refine lv_if_eq (tgt := 189) hx hb dX2_isCalm_182 (by decide) (fun c182 => ?_) (fun c182 => ?_)
          · have h := g_it c182 h
            refine lv_iconst (v := 0) hx hb dX2_isCalm_189 (by decide) ?_
            exact m_zretR dX2_isCalm_190 S hr hk hM hS h
          · have h := g_if c182 h
            refine lv_iconst (v := 1) hx hb dX2_isCalm_185 (by decide) ?_
            refine lv_goto (tgt := 190) hx hb dX2_isCalm_186 (by decide) ?_
            exact m_zretR dX2_isCalm_190 S hr hk hM hS h
    have h := g_if c82_4 h
    by_cases c82_5 : v81 = 5
    · have h := g_it c82_5 h
      refine lv_tableIn (off := 36) (tgt := 118) hx hb dX2_isCalm_82 (by rw [c82_5]; decide) (by rw [c82_5]; decide) (by rw [c82_5]; rfl) (by decide) ?_
      refine lv_iload_n hx hb dX2_isCalm_118 rfl (lv_at hl 4 rfl) ?_
      exact m_zretR dX2_isCalm_119 S hr hk hM hS h
    have h := g_if c82_5 h
    by_cases c82_6 : v81 = 6
    · have h := g_it c82_6 h
      refine lv_tableIn (off := 38) (tgt := 120) hx hb dX2_isCalm_82 (by rw [c82_6]; decide) (by rw [c82_6]; decide) (by rw [c82_6]; rfl) (by decide) ?_
      refine lv_aload_n hx hb dX2_isCalm_120 rfl (lv_at hl 1 rfl) ?_
      refine ma_glow dX2_isCalm_121 S hE hM ?_
      refine lv_iload_n hx hb dX2_isCalm_124 rfl (lv_at hl 2 rfl) ?_
      obtain ⟨v125, e125, h⟩ := g_bd h
      refine m_ald 62 dX2_isCalm_125 (by decide) rfl S hE hM e125 ?_
      refine lv_bipush (v := 50) hx hb dX2_isCalm_126 (by decide) ?_
      refine lv_icmp_lt (tgt := 140) hx hb dX2_isCalm_128 (by decide) (fun c128 => ?_) (fun c128 => ?_)
      · have h := g_it c128 h
        refine lv_iconst (v := 0) hx hb dX2_isCalm_140 (by decide) ?_
        exact m_zretR dX2_isCalm_141 S hr hk hM hS h
      · have h := g_if c128 h
        refine lv_iload hx hb dX2_isCalm_131 (lv_at hl 0 rfl) ?_
        refine lv_if_eq (tgt := 140) hx hb dX2_isCalm_133 (by decide) (fun c133 => ?_) (fun c133 => ?_)
        · have h := g_it c133 h
          refine lv_iconst (v := 0) hx hb dX2_isCalm_140 (by decide) ?_
          exact m_zretR dX2_isCalm_141 S hr hk hM hS h
        · have h := g_if c133 h
          refine lv_iconst (v := 1) hx hb dX2_isCalm_136 (by decide) ?_
          refine lv_goto (tgt := 141) hx hb dX2_isCalm_137 (by decide) ?_
          exact m_zretR dX2_isCalm_141 S hr hk hM hS h
    have h := g_if c82_6 h
    by_cases c82_7 : v81 = 7
    · have h := g_it c82_7 h
      refine lv_tableIn (off := 60) (tgt := 142) hx hb dX2_isCalm_82 (by rw [c82_7]; decide) (by rw [c82_7]; decide) (by rw [c82_7]; rfl) (by decide) ?_
      refine lv_iload_n hx hb dX2_isCalm_142 rfl (lv_at hl 3 rfl) ?_
      refine lv_if_eq (tgt := 170) hx hb dX2_isCalm_143 (by decide) (fun c143 => ?_) (fun c143 => ?_)
      · have h := g_it c143 h
        refine lv_iconst (v := 0) hx hb dX2_isCalm_170 (by decide) ?_
        exact m_zretR dX2_isCalm_171 S hr hk hM hS h
      · have h := g_if c143 h
        refine lv_iload_n hx hb dX2_isCalm_146 rfl (lv_at hl 4 rfl) ?_
        refine lv_if_eq (tgt := 170) hx hb dX2_isCalm_147 (by decide) (fun c147 => ?_) (fun c147 => ?_)
        · have h := g_it c147 h
          refine lv_iconst (v := 0) hx hb dX2_isCalm_170 (by decide) ?_
          exact m_zretR dX2_isCalm_171 S hr hk hM hS h
        · have h := g_if c147 h
          refine lv_iload hx hb dX2_isCalm_150 (lv_at hl 0 rfl) ?_
          refine lv_if_eq (tgt := 170) hx hb dX2_isCalm_152 (by decide) (fun c152 => ?_) (fun c152 => ?_)
          · have h := g_it c152 h
            refine lv_iconst (v := 0) hx hb dX2_isCalm_170 (by decide) ?_
            exact m_zretR dX2_isCalm_171 S hr hk hM hS h
          · have h := g_if c152 h
            refine lv_aload_n hx hb dX2_isCalm_155 rfl (lv_at hl 1 rfl) ?_
            refine ma_glow dX2_isCalm_156 S hE hM ?_
            refine lv_iload_n hx hb dX2_isCalm_159 rfl (lv_at hl 2 rfl) ?_
            obtain ⟨v160, e160, h⟩ := g_bd h
            refine m_ald 62 dX2_isCalm_160 (by decide) rfl S hE hM e160 ?_
            refine lv_bipush (v := 20) hx hb dX2_isCalm_161 (by decide) ?_
            refine lv_icmp_lt (tgt := 170) hx hb dX2_isCalm_163 (by decide) (fun c163 => ?_) (fun c163 => ?_)
            · have h := g_it c163 h
              refine lv_iconst (v := 0) hx hb dX2_isCalm_170 (by decide) ?_
              exact m_zretR dX2_isCalm_171 S hr hk hM hS h
            · have h := g_if c163 h
              refine lv_iconst (v := 1) hx hb dX2_isCalm_166 (by decide) ?_
              refine lv_goto (tgt := 171) hx hb dX2_isCalm_167 (by decide) ?_
              exact m_zretR dX2_isCalm_171 S hr hk hM hS h
    have h := g_if c82_7 h
    refine lv_tableOut (tgt := 172) hx hb dX2_isCalm_82 (g_swOut 3 7 (by intro k hk; match k, hk with | 0, _ => exact c82_3 | 1, _ => exact c82_4 | 2, _ => exact c82_5 | 3, _ => exact c82_6 | 4, _ => exact c82_7 | k + 5, hk => exact absurd hk (by omega)) (by decide) (by decide)) (by decide) ?_
    refine lv_iload_n hx hb dX2_isCalm_172 rfl (lv_at hl 3 rfl) ?_
    refine lv_if_eq (tgt := 189) hx hb dX2_isCalm_173 (by decide) (fun c173 => ?_) (fun c173 => ?_)
    · have h := g_it c173 h
      refine lv_iconst (v := 0) hx hb dX2_isCalm_189 (by decide) ?_
      exact m_zretR dX2_isCalm_190 S hr hk hM hS h
    · have h := g_if c173 h
      refine lv_iload_n hx hb dX2_isCalm_176 rfl (lv_at hl 4 rfl) ?_
      refine lv_if_eq (tgt := 189) hx hb dX2_isCalm_177 (by decide) (fun c177 => ?_) (fun c177 => ?_)
      · have h := g_it c177 h
        refine lv_iconst (v := 0) hx hb dX2_isCalm_189 (by decide) ?_
        exact m_zretR dX2_isCalm_190 S hr hk hM hS h
      · have h := g_if c177 h
        refine lv_iload hx hb dX2_isCalm_180 (lv_at hl 0 rfl) ?_
        refine lv_if_eq (tgt := 189) hx hb dX2_isCalm_182 (by decide) (fun c182 => ?_) (fun c182 => ?_)
        · have h := g_it c182 h
          refine lv_iconst (v := 0) hx hb dX2_isCalm_189 (by decide) ?_
          exact m_zretR dX2_isCalm_190 S hr hk hM hS h
        · have h := g_if c182 h
          refine lv_iconst (v := 1) hx hb dX2_isCalm_185 (by decide) ?_
          refine lv_goto (tgt := 190) hx hb dX2_isCalm_186 (by decide) ?_
          exact m_zretR dX2_isCalm_190 S hr hk hM hS h
  have J69 : ∀ (x1 x2 x3 : Int32) (M : MM) (H : Heap) (locs : List Loc) (ls : Array Slot), mm_isCalm_J69 x1 x2 x3 M = some r → gM E M H → va_S (gx_A E) s.heap H locs → lv_has ls 5 [(0, .ref (gx_m E)), (1, .int x1), (2, .int x2), (3, .int x3)] → W p l e (gRm 2 0 0) s m args below meth c H locs 0 0 (MQ below (gQ (some (.int r)) (gM E M) (gx_A E)) args s 0 0 (gx_A E)) (F0 m 69 ls []) := by
    intro x1 x2 x3 M H locs ls h hM hS hl
    unfold mm_isCalm_J69 at h
    refine lv_iconst (v := 1) hx hb dX2_isCalm_69 (by decide) ?_
    refine lv_goto (tgt := 74) hx hb dX2_isCalm_70 (by decide) ?_
    exact J74 x1 x2 x3 1 M _ _ _ h hM hS (lv_sub hl [0, 1, 2, 3] rfl)
  have J47 : ∀ (x1 x2 s0 : Int32) (M : MM) (H : Heap) (locs : List Loc) (ls : Array Slot), mm_isCalm_J47 x1 x2 s0 M = some r → gM E M H → va_S (gx_A E) s.heap H locs → lv_has ls 5 [(0, .ref (gx_m E)), (1, .int x1), (2, .int x2)] → W p l e (gRm 2 0 0) s m args below meth c H locs 0 0 (MQ below (gQ (some (.int r)) (gM E M) (gx_A E)) args s 0 0 (gx_A E)) (F0 m 47 ls [.int s0]) := by
    intro x1 x2 s0 M H locs ls h hM hS hl
    unfold mm_isCalm_J47 at h
    refine lv_istore_n (lv' := [(3, .int s0), (0, .ref (gx_m E)), (1, .int x1), (2, .int x2)]) hx hb dX2_isCalm_47 rfl hl (by decide) rfl (fun ls hl => ?_)
    refine lv_aload_n hx hb dX2_isCalm_48 rfl (lv_at hl 1 rfl) ?_
    refine lv_iload_n hx hb dX2_isCalm_49 rfl (lv_at hl 2 rfl) ?_
    refine lv_bipush (v := 16) hx hb dX2_isCalm_50 (by decide) ?_
    obtain ⟨v52, e52, h⟩ := g_bd h
    refine m_cV (y := yX2_has) (rest := []) dX2_isCalm_52 q3212 q3214 qs89 q3215 hm_has S hE hM hS hl.1 rfl (wm_has E l _ _ _ _ e52) rfl (Nat.le_of_ble_eq_true rfl) ⟨Nat.le_of_ble_eq_true rfl, Nat.le_of_ble_eq_true rfl⟩ ⟨Nat.le_refl 0, Nat.le_refl 0⟩ (fun H locs hM hS => ?_)
    refine lv_if_eq (tgt := 69) hx hb dX2_isCalm_55 (by decide) (fun c55 => ?_) (fun c55 => ?_)
    · have h := g_it c55 h
      exact J69 x1 x2 s0 M _ _ _ h hM hS (lv_sub hl [1, 2, 3, 0] rfl)
    · have h := g_if c55 h
      refine lv_aload_n hx hb dX2_isCalm_58 rfl (lv_at hl 1 rfl) ?_
      refine ma_volume dX2_isCalm_59 S hE hM ?_
      refine lv_iload_n hx hb dX2_isCalm_62 rfl (lv_at hl 2 rfl) ?_
      obtain ⟨v63, e63, h⟩ := g_bd h
      refine m_ald 63 dX2_isCalm_63 (by decide) rfl S hE hM e63 ?_
      refine lv_bipush (v := 50) hx hb dX2_isCalm_64 (by decide) ?_
      refine lv_icmp_gt (tgt := 73) hx hb dX2_isCalm_66 (by decide) (fun c66 => ?_) (fun c66 => ?_)
      · have h := g_it c66 h
        refine lv_iconst (v := 0) hx hb dX2_isCalm_73 (by decide) ?_
        exact J74 x1 x2 s0 0 M _ _ _ h hM hS (lv_sub hl [1, 2, 3, 0] rfl)
      · have h := g_if c66 h
        exact J69 x1 x2 s0 M _ _ _ h hM hS (lv_sub hl [1, 2, 3, 0] rfl)
  have J42 : ∀ (x1 x2 : Int32) (M : MM) (H : Heap) (locs : List Loc) (ls : Array Slot), mm_isCalm_J42 x1 x2 M = some r → gM E M H → va_S (gx_A E) s.heap H locs → lv_has ls 5 [(0, .ref (gx_m E)), (1, .int x1), (2, .int x2)] → W p l e (gRm 2 0 0) s m args below meth c H locs 0 0 (MQ below (gQ (some (.int r)) (gM E M) (gx_A E)) args s 0 0 (gx_A E)) (F0 m 42 ls []) := by
    intro x1 x2 M H locs ls h hM hS hl
    unfold mm_isCalm_J42 at h
    refine lv_iconst (v := 1) hx hb dX2_isCalm_42 (by decide) ?_
    refine lv_goto (tgt := 47) hx hb dX2_isCalm_43 (by decide) ?_
    exact J47 x1 x2 1 M _ _ _ h hM hS (lv_sub hl [0, 1, 2] rfl)
  have J23 : ∀ (x1 s0 : Int32) (M : MM) (H : Heap) (locs : List Loc) (ls : Array Slot), mm_isCalm_J23 x1 s0 M = some r → gM E M H → va_S (gx_A E) s.heap H locs → lv_has ls 5 [(0, .ref (gx_m E)), (1, .int x1)] → W p l e (gRm 2 0 0) s m args below meth c H locs 0 0 (MQ below (gQ (some (.int r)) (gM E M) (gx_A E)) args s 0 0 (gx_A E)) (F0 m 23 ls [.int s0]) := by
    intro x1 s0 M H locs ls h hM hS hl
    unfold mm_isCalm_J23 at h
    refine lv_istore_n (lv' := [(2, .int s0), (0, .ref (gx_m E)), (1, .int x1)]) hx hb dX2_isCalm_23 rfl hl (by decide) rfl (fun ls hl => ?_)
    refine lv_aload_n hx hb dX2_isCalm_24 rfl (lv_at hl 1 rfl) ?_
    refine lv_iload_n hx hb dX2_isCalm_25 rfl (lv_at hl 2 rfl) ?_
    refine lv_iconst (v := 2) hx hb dX2_isCalm_26 (by decide) ?_
    obtain ⟨v27, e27, h⟩ := g_bd h
    refine m_cV (y := yX2_has) (rest := []) dX2_isCalm_27 q3212 q3214 qs89 q3215 hm_has S hE hM hS hl.1 rfl (wm_has E l _ _ _ _ e27) rfl (Nat.le_of_ble_eq_true rfl) ⟨Nat.le_of_ble_eq_true rfl, Nat.le_of_ble_eq_true rfl⟩ ⟨Nat.le_refl 0, Nat.le_refl 0⟩ (fun H locs hM hS => ?_)
    refine lv_if_eq (tgt := 42) hx hb dX2_isCalm_30 (by decide) (fun c30 => ?_) (fun c30 => ?_)
    · have h := g_it c30 h
      exact J42 x1 s0 M _ _ _ h hM hS (lv_sub hl [1, 2, 0] rfl)
    · have h := g_if c30 h
      refine lv_aload_n hx hb dX2_isCalm_33 rfl (lv_at hl 1 rfl) ?_
      refine ma_height dX2_isCalm_34 S hE hM ?_
      refine lv_iload_n hx hb dX2_isCalm_37 rfl (lv_at hl 2 rfl) ?_
      obtain ⟨v38, e38, h⟩ := g_bd h
      refine m_ald 58 dX2_isCalm_38 (by decide) rfl S hE hM e38 ?_
      refine lv_if_ne (tgt := 46) hx hb dX2_isCalm_39 (by decide) (fun c39 => ?_) (fun c39 => ?_)
      · have h := g_if c39 h
        refine lv_iconst (v := 0) hx hb dX2_isCalm_46 (by decide) ?_
        exact J47 x1 s0 0 M _ _ _ h hM hS (lv_sub hl [1, 2, 0] rfl)
      · have h := g_it c39 h
        exact J42 x1 s0 M _ _ _ h hM hS (lv_sub hl [1, 2, 0] rfl)
  have J18 : ∀ (x1 : Int32) (M : MM) (H : Heap) (locs : List Loc) (ls : Array Slot), mm_isCalm_J18 x1 M = some r → gM E M H → va_S (gx_A E) s.heap H locs → lv_has ls 5 [(0, .ref (gx_m E)), (1, .int x1)] → W p l e (gRm 2 0 0) s m args below meth c H locs 0 0 (MQ below (gQ (some (.int r)) (gM E M) (gx_A E)) args s 0 0 (gx_A E)) (F0 m 18 ls []) := by
    intro x1 M H locs ls h hM hS hl
    unfold mm_isCalm_J18 at h
    refine lv_iconst (v := 1) hx hb dX2_isCalm_18 (by decide) ?_
    refine lv_goto (tgt := 23) hx hb dX2_isCalm_19 (by decide) ?_
    exact J23 x1 1 M _ _ _ h hM hS (lv_sub hl [0, 1] rfl)
  unfold mm_isCalm at h
  refine lv_aload_n hx hb dX2_isCalm_0 rfl (lv_at hl 0 rfl) ?_
  refine lv_iload_n hx hb dX2_isCalm_1 rfl (lv_at hl 1 rfl) ?_
  refine lv_iconst (v := 1) hx hb dX2_isCalm_2 (by decide) ?_
  obtain ⟨v3, e3, h⟩ := g_bd h
  refine m_cV (y := yX2_has) (rest := []) dX2_isCalm_3 q3212 q3214 qs89 q3215 hm_has S hE hM hS hl.1 rfl (wm_has E l _ _ _ _ e3) rfl (Nat.le_of_ble_eq_true rfl) ⟨Nat.le_of_ble_eq_true rfl, Nat.le_of_ble_eq_true rfl⟩ ⟨Nat.le_refl 0, Nat.le_refl 0⟩ (fun H locs hM hS => ?_)
  refine lv_if_eq (tgt := 18) hx hb dX2_isCalm_6 (by decide) (fun c6 => ?_) (fun c6 => ?_)
  · have h := g_it c6 h
    exact J18 x1 M _ _ _ h hM hS (lv_sub hl [0, 1] rfl)
  · have h := g_if c6 h
    refine lv_aload_n hx hb dX2_isCalm_9 rfl (lv_at hl 0 rfl) ?_
    refine ma_speed dX2_isCalm_10 S hE hM ?_
    refine lv_iload_n hx hb dX2_isCalm_13 rfl (lv_at hl 1 rfl) ?_
    obtain ⟨v14, e14, h⟩ := g_bd h
    refine m_ald 56 dX2_isCalm_14 (by decide) rfl S hE hM e14 ?_
    refine lv_if_ne (tgt := 22) hx hb dX2_isCalm_15 (by decide) (fun c15 => ?_) (fun c15 => ?_)
    · have h := g_if c15 h
      refine lv_iconst (v := 0) hx hb dX2_isCalm_22 (by decide) ?_
      exact J23 x1 0 M _ _ _ h hM hS (lv_sub hl [0, 1] rfl)
    · have h := g_it c15 h
      exact J18 x1 M _ _ _ h hM hS (lv_sub hl [0, 1] rfl)
theorem hm_board : yX2_board.cls = RX2 ∧ yX2_board.cls ≠ "java/lang/invoke/MethodHandle" ∧ yX2_board.cls ≠ "java/lang/invoke/VarHandle" ∧ (parseMethodDescriptor yX2_board.desc).map (fun d => d.parameters.length) = some 1 := by decide +kernel
set_option maxHeartbeats 4000000 in
set_option maxRecDepth 100000 in
theorem wm_board (E : gX) (l : Launch) (x1 : Int32) (M M' : MM) (h : mm_board x1 M = some M') : gMet E l yX2_board cX2_board 5 none 2 0 0 (gx_A E) [.ref (gx_m E), .int x1] (gM E M) (gM E M') none := by
  refine gMet.of (own := RX2) (by decide +kernel) (Nat.le_of_ble_eq_true rfl) rfl ?_
  intro p e s m args below meth c S hr hk hnm hE hM hS ls hl
  have hl : lv_has ls 5 [(0, .ref (gx_m E)), (1, .int x1)] := hl
  have hx := S.1
  have hb := S.2.1
  have L25 : ∀ (n : Nat) (x1 x2 : Int32) (M : MM) (H : Heap) (locs : List Loc) (ls : Array Slot), mm_board_L25 n x1 x2 M = some M' → gM E M H → va_S (gx_A E) s.heap H locs → lv_has ls 5 [(0, .ref (gx_m E)), (1, .int x1), (2, .int x2)] → W p l e (gRm 2 0 0) s m args below meth c H locs 0 0 (MQ below (gQ none (gM E M') (gx_A E)) args s 0 0 (gx_A E)) (F0 m 25 ls []) := by
    intro n25
    induction n25 with
    | zero =>
      intro x1 x2 M H locs ls h
      cases h
    | succ n25 ih25 =>
      have J129 : ∀ (x1 x2 : Int32) (M : MM) (H : Heap) (locs : List Loc) (ls : Array Slot), mm_board_J129 (mm_board_L25 n25) x1 x2 M = some M' → gM E M H → va_S (gx_A E) s.heap H locs → lv_has ls 5 [(0, .ref (gx_m E)), (1, .int x1), (2, .int x2)] → W p l e (gRm 2 0 0) s m args below meth c H locs 0 0 (MQ below (gQ none (gM E M') (gx_A E)) args s 0 0 (gx_A E)) (F0 m 129 ls []) := by
        intro x1 x2 M H locs ls h hM hS hl
        unfold mm_board_J129 at h
        refine lv_goto (tgt := 25) hx hb dX2_board_129 (by decide) ?_
        exact ih25 x1 x2 M _ _ _ h hM hS (lv_sub hl [0, 1, 2] rfl)
      have J63 : ∀ (x1 x2 x3 s0 : Int32) (M : MM) (H : Heap) (locs : List Loc) (ls : Array Slot), mm_board_J63 (mm_board_L25 n25) x1 x2 x3 s0 M = some M' → gM E M H → va_S (gx_A E) s.heap H locs → lv_has ls 5 [(0, .ref (gx_m E)), (1, .int x1), (2, .int x2), (3, .int x3)] → W p l e (gRm 2 0 0) s m args below meth c H locs 0 0 (MQ below (gQ none (gM E M') (gx_A E)) args s 0 0 (gx_A E)) (F0 m 63 ls [.int s0]) := by
        intro x1 x2 x3 s0 M H locs ls h hM hS hl
        unfold mm_board_J63 at h
        refine lv_istore (lv' := [(4, .int s0), (0, .ref (gx_m E)), (1, .int x1), (2, .int x2), (3, .int x3)]) hx hb dX2_board_63 hl (by decide) rfl (fun ls hl => ?_)
        refine lv_aload_n hx hb dX2_board_65 rfl (lv_at hl 1 rfl) ?_
        refine lv_dup hx hb dX2_board_66 rfl ?_
        refine mg_waited dX2_board_67 S hE hM ?_
        refine lv_iload hx hb dX2_board_70 (lv_at hl 0 rfl) ?_
        refine lv_aload_n hx hb dX2_board_72 rfl (lv_at hl 1 rfl) ?_
        refine mg_clock dX2_board_73 S hE hM ?_
        refine lv_aload_n hx hb dX2_board_76 rfl (lv_at hl 1 rfl) ?_
        refine ma_groupClock dX2_board_77 S hE hM ?_
        refine lv_iload_n hx hb dX2_board_80 rfl (lv_at hl 4 rfl) ?_
        obtain ⟨v81, e81, h⟩ := g_bd h
        refine m_ald 78 dX2_board_81 (by decide) rfl S hE hM e81 ?_
        refine lv_isub hx hb dX2_board_82 ?_
        refine lv_imul hx hb dX2_board_83 ?_
        refine lv_iadd hx hb dX2_board_84 ?_
        obtain ⟨M85, e85, h⟩ := g_bd h
        refine mp_waited dX2_board_85 S hE hM hS e85 (fun H locs hM hS => ?_)
        refine lv_aload_n hx hb dX2_board_88 rfl (lv_at hl 1 rfl) ?_
        refine ma_aboard dX2_board_89 S hE hM ?_
        refine lv_iload_n hx hb dX2_board_92 rfl (lv_at hl 2 rfl) ?_
        refine lv_dup2_11 hx hb dX2_board_93 rfl rfl ?_
        obtain ⟨v94, e94, h⟩ := g_bd h
        refine m_ald 61 dX2_board_94 (by decide) rfl S hE hM e94 ?_
        refine lv_iload hx hb dX2_board_95 (lv_at hl 0 rfl) ?_
        refine lv_iadd hx hb dX2_board_97 ?_
        obtain ⟨M98, e98, h⟩ := g_bd h
        refine m_ast 61 dX2_board_98 (by decide) rfl S hE hM hS e98 (fun H locs hM hS => ?_)
        refine lv_aload_n hx hb dX2_board_99 rfl (lv_at hl 1 rfl) ?_
        refine ma_groupSize dX2_board_100 S hE hM ?_
        refine lv_iload_n hx hb dX2_board_103 rfl (lv_at hl 4 rfl) ?_
        refine lv_dup2_11 hx hb dX2_board_104 rfl rfl ?_
        obtain ⟨v105, e105, h⟩ := g_bd h
        refine m_ald 77 dX2_board_105 (by decide) rfl S hE hM e105 ?_
        refine lv_iload hx hb dX2_board_106 (lv_at hl 0 rfl) ?_
        refine lv_isub hx hb dX2_board_108 ?_
        obtain ⟨M109, e109, h⟩ := g_bd h
        refine m_ast 77 dX2_board_109 (by decide) rfl S hE hM hS e109 (fun H locs hM hS => ?_)
        refine lv_iload_n hx hb dX2_board_110 rfl (lv_at hl 3 rfl) ?_
        refine lv_iload hx hb dX2_board_111 (lv_at hl 0 rfl) ?_
        refine lv_isub hx hb dX2_board_113 ?_
        refine lv_istore_n (lv' := [(2, .int (x2 - s0)), (4, .int s0), (0, .ref (gx_m E)), (1, .int x1), (3, .int x3)]) hx hb dX2_board_114 rfl hl (by decide) rfl (fun ls hl => ?_)
        refine lv_aload_n hx hb dX2_board_115 rfl (lv_at hl 2 rfl) ?_
        refine ma_groupSize dX2_board_116 S hE hM ?_
        refine lv_iload_n hx hb dX2_board_119 rfl (lv_at hl 4 rfl) ?_
        obtain ⟨v120, e120, h⟩ := g_bd h
        refine m_ald 77 dX2_board_120 (by decide) rfl S hE hM e120 ?_
        refine lv_if_ne (tgt := 129) hx hb dX2_board_121 (by decide) (fun c121 => ?_) (fun c121 => ?_)
        · have h := g_if c121 h
          exact J129 x1 (x2 - s0) M109 _ _ _ h hM hS (lv_sub hl [2, 3, 0] rfl)
        · have h := g_it c121 h
          refine lv_aload_n hx hb dX2_board_124 rfl (lv_at hl 2 rfl) ?_
          refine lv_iload_n hx hb dX2_board_125 rfl (lv_at hl 3 rfl) ?_
          obtain ⟨M126, e126, h⟩ := g_bd h
          refine m_cV (y := yX2_leaves) (rest := []) dX2_board_126 q3236 q3238 qs93 q3239 hm_leaves S hE hM hS hl.1 rfl (wm_leaves E l _ _ _ e126) rfl (Nat.le_of_ble_eq_true rfl) ⟨Nat.le_of_ble_eq_true rfl, Nat.le_of_ble_eq_true rfl⟩ ⟨Nat.le_refl 0, Nat.le_refl 0⟩ (fun H locs hM hS => ?_)
          exact J129 x1 (x2 - s0) M126 _ _ _ h hM hS (lv_sub hl [2, 3, 0] rfl)
      intro x1 x2 M H locs ls h hM hS hl
      have h : mm_board_B25 (mm_board_L25 n25) x1 x2 M = some M' := h
      unfold mm_board_B25 at h
      refine lv_iload_n hx hb dX2_board_25 rfl (lv_at hl 2 rfl) ?_
      refine lv_if_le (tgt := 132) hx hb dX2_board_26 (by decide) (fun c26 => ?_) (fun c26 => ?_)
      · have h := g_it c26 h
        exact m_vretW dX2_board_132 S hr hk hM hS h
      · have h := g_if c26 h
        refine lv_aload_n hx hb dX2_board_29 rfl (lv_at hl 0 rfl) ?_
        refine ma_groups dX2_board_30 S hE hM ?_
        refine lv_iload_n hx hb dX2_board_33 rfl (lv_at hl 1 rfl) ?_
        obtain ⟨v34, e34, h⟩ := g_bd h
        refine m_ald 76 dX2_board_34 (by decide) rfl S hE hM e34 ?_
        refine lv_if_le (tgt := 132) hx hb dX2_board_35 (by decide) (fun c35 => ?_) (fun c35 => ?_)
        · have h := g_it c35 h
          exact m_vretW dX2_board_132 S hr hk hM hS h
        · have h := g_if c35 h
          refine lv_bipush (v := 30) hx hb dX2_board_38 (by decide) ?_
          refine lv_iload_n hx hb dX2_board_40 rfl (lv_at hl 1 rfl) ?_
          refine lv_imul hx hb dX2_board_41 ?_
          refine lv_istore_n (lv' := [(3, .int (30 * x1)), (0, .ref (gx_m E)), (1, .int x1), (2, .int x2)]) hx hb dX2_board_42 rfl hl (by decide) rfl (fun ls hl => ?_)
          refine lv_aload_n hx hb dX2_board_43 rfl (lv_at hl 1 rfl) ?_
          refine ma_groupSize dX2_board_44 S hE hM ?_
          refine lv_iload_n hx hb dX2_board_47 rfl (lv_at hl 0 rfl) ?_
          obtain ⟨v48, e48, h⟩ := g_bd h
          refine m_ald 77 dX2_board_48 (by decide) rfl S hE hM e48 ?_
          refine lv_iload_n hx hb dX2_board_49 rfl (lv_at hl 3 rfl) ?_
          refine lv_icmp_ge (tgt := 62) hx hb dX2_board_50 (by decide) (fun c50 => ?_) (fun c50 => ?_)
          · have h := g_it c50 h
            refine lv_iload_n hx hb dX2_board_62 rfl (lv_at hl 3 rfl) ?_
            exact J63 x1 x2 (30 * x1) x2 M _ _ _ h hM hS (lv_sub hl [1, 2, 3, 0] rfl)
          · have h := g_if c50 h
            refine lv_aload_n hx hb dX2_board_53 rfl (lv_at hl 1 rfl) ?_
            refine ma_groupSize dX2_board_54 S hE hM ?_
            refine lv_iload_n hx hb dX2_board_57 rfl (lv_at hl 0 rfl) ?_
            obtain ⟨v58, e58, h⟩ := g_bd h
            refine m_ald 77 dX2_board_58 (by decide) rfl S hE hM e58 ?_
            refine lv_goto (tgt := 63) hx hb dX2_board_59 (by decide) ?_
            exact J63 x1 x2 (30 * x1) v58 M _ _ _ h hM hS (lv_sub hl [1, 2, 3, 0] rfl)
  have J24 : ∀ (x1 s0 : Int32) (M : MM) (H : Heap) (locs : List Loc) (ls : Array Slot), mm_board_J24 x1 s0 M = some M' → gM E M H → va_S (gx_A E) s.heap H locs → lv_has ls 5 [(0, .ref (gx_m E)), (1, .int x1)] → W p l e (gRm 2 0 0) s m args below meth c H locs 0 0 (MQ below (gQ none (gM E M') (gx_A E)) args s 0 0 (gx_A E)) (F0 m 24 ls [.int s0]) := by
    intro x1 s0 M H locs ls h hM hS hl
    unfold mm_board_J24 at h
    refine lv_istore_n (lv' := [(2, .int s0), (0, .ref (gx_m E)), (1, .int x1)]) hx hb dX2_board_24 rfl hl (by decide) rfl (fun ls hl => ?_)
    exact L25 gF x1 s0 M _ _ _ h hM hS (lv_sub hl [1, 2, 0] rfl)
  unfold mm_board at h
  refine lv_aload_n hx hb dX2_board_0 rfl (lv_at hl 0 rfl) ?_
  refine ma_places dX2_board_1 S hE hM ?_
  refine lv_iload_n hx hb dX2_board_4 rfl (lv_at hl 1 rfl) ?_
  obtain ⟨v5, e5, h⟩ := g_bd h
  refine m_ald 31 dX2_board_5 (by decide) rfl S hE hM e5 ?_
  refine lv_aload_n hx hb dX2_board_6 rfl (lv_at hl 0 rfl) ?_
  refine ma_aboard dX2_board_7 S hE hM ?_
  refine lv_iload_n hx hb dX2_board_10 rfl (lv_at hl 1 rfl) ?_
  obtain ⟨v11, e11, h⟩ := g_bd h
  refine m_ald 61 dX2_board_11 (by decide) rfl S hE hM e11 ?_
  refine lv_isub hx hb dX2_board_12 ?_
  refine lv_istore_n (lv' := [(2, .int (v5 - v11)), (0, .ref (gx_m E)), (1, .int x1)]) hx hb dX2_board_13 rfl hl (by decide) rfl (fun ls hl => ?_)
  refine lv_iload_n hx hb dX2_board_14 rfl (lv_at hl 0 rfl) ?_
  refine lv_iconst (v := 5) hx hb dX2_board_15 (by decide) ?_
  refine lv_icmp_le (tgt := 23) hx hb dX2_board_16 (by decide) (fun c16 => ?_) (fun c16 => ?_)
  · have h := g_it c16 h
    refine lv_iload_n hx hb dX2_board_23 rfl (lv_at hl 0 rfl) ?_
    exact J24 x1 (v5 - v11) M _ _ _ h hM hS (lv_sub hl [1, 2] rfl)
  · have h := g_if c16 h
    refine lv_iconst (v := 5) hx hb dX2_board_19 (by decide) ?_
    refine lv_goto (tgt := 24) hx hb dX2_board_20 (by decide) ?_
    exact J24 x1 5 M _ _ _ h hM hS (lv_sub hl [1, 2] rfl)
theorem hm_takes : yX2_takes.cls = RX2 ∧ yX2_takes.cls ≠ "java/lang/invoke/MethodHandle" ∧ yX2_takes.cls ≠ "java/lang/invoke/VarHandle" ∧ (parseMethodDescriptor yX2_takes.desc).map (fun d => d.parameters.length) = some 2 := by decide +kernel
set_option maxHeartbeats 4000000 in
set_option maxRecDepth 100000 in
theorem wm_takes (E : gX) (l : Launch) (x1 x2 : Int32) (r : Int32) (M M' : MM) (h : mm_takes x1 x2 M = some (r, M')) : gMet E l yX2_takes cX2_takes 4 (some .boolean) 5 0 0 (gx_A E) [.ref (gx_m E), .int x1, .int x2] (gM E M) (gM E M') (some (.int r)) := by
  refine gMet.of (own := RX2) (by decide +kernel) (Nat.le_of_ble_eq_true rfl) rfl ?_
  intro p e s m args below meth c S hr hk hnm hE hM hS ls hl
  have hl : lv_has ls 4 [(0, .ref (gx_m E)), (1, .int x1), (2, .int x2)] := hl
  have hx := S.1
  have hb := S.2.1
  have J150 : ∀ (x1 x2 : Int32) (M : MM) (H : Heap) (locs : List Loc) (ls : Array Slot), mm_takes_J150 x1 x2 M = some (r, M') → gM E M H → va_S (gx_A E) s.heap H locs → lv_has ls 4 [(0, .ref (gx_m E)), (1, .int x1), (2, .int x2)] → W p l e (gRm 5 0 0) s m args below meth c H locs 0 0 (MQ below (gQ (some (.int r)) (gM E M') (gx_A E)) args s 0 0 (gx_A E)) (F0 m 150 ls []) := by
    intro x1 x2 M H locs ls h hM hS hl
    unfold mm_takes_J150 at h
    refine lv_aload_n hx hb dX2_takes_150 rfl (lv_at hl 0 rfl) ?_
    refine ma_left dX2_takes_151 S hE hM ?_
    refine lv_iload_n hx hb dX2_takes_154 rfl (lv_at hl 1 rfl) ?_
    refine lv_dup2_11 hx hb dX2_takes_155 rfl rfl ?_
    obtain ⟨v156, e156, h⟩ := g_bd h
    refine m_ald 69 dX2_takes_156 (by decide) rfl S hE hM e156 ?_
    refine lv_iconst (v := 1) hx hb dX2_takes_157 (by decide) ?_
    refine lv_isub hx hb dX2_takes_158 ?_
    obtain ⟨M159, e159, h⟩ := g_bd h
    refine m_ast 69 dX2_takes_159 (by decide) rfl S hE hM hS e159 (fun H locs hM hS => ?_)
    refine lv_aload_n hx hb dX2_takes_160 rfl (lv_at hl 0 rfl) ?_
    refine ma_left dX2_takes_161 S hE hM ?_
    refine lv_iload_n hx hb dX2_takes_164 rfl (lv_at hl 1 rfl) ?_
    obtain ⟨v165, e165, h⟩ := g_bd h
    refine m_ald 69 dX2_takes_165 (by decide) rfl S hE hM e165 ?_
    refine lv_if_ne (tgt := 177) hx hb dX2_takes_166 (by decide) (fun c166 => ?_) (fun c166 => ?_)
    · have h := g_if c166 h
      refine lv_iconst (v := 0) hx hb dX2_takes_177 (by decide) ?_
      exact m_zretW dX2_takes_178 S hr hk hM hS h
    · have h := g_it c166 h
      refine lv_aload_n hx hb dX2_takes_169 rfl (lv_at hl 0 rfl) ?_
      refine lv_iload_n hx hb dX2_takes_170 rfl (lv_at hl 1 rfl) ?_
      refine lv_iload_n hx hb dX2_takes_171 rfl (lv_at hl 2 rfl) ?_
      refine lv_iconst (v := 1) hx hb dX2_takes_172 (by decide) ?_
      refine lv_iadd hx hb dX2_takes_173 ?_
      obtain ⟨M174, e174, h⟩ := g_bd h
      refine m_cV (y := yX2_goTo) (rest := []) dX2_takes_174 q3280 q3282 qs104 q3283 hm_goTo S hE hM hS hl.1 rfl (wm_goTo E l _ _ _ _ e174) rfl (Nat.le_of_ble_eq_true rfl) ⟨Nat.le_of_ble_eq_true rfl, Nat.le_of_ble_eq_true rfl⟩ ⟨Nat.le_refl 0, Nat.le_refl 0⟩ (fun H locs hM hS => ?_)
      refine lv_iconst (v := 0) hx hb dX2_takes_177 (by decide) ?_
      exact m_zretW dX2_takes_178 S hr hk hM hS h
  have J149 : ∀ (x1 x2 s1 s2 : Int32) (M : MM) (H : Heap) (locs : List Loc) (ls : Array Slot), mm_takes_J149 x1 x2 s1 s2 M = some (r, M') → gM E M H → va_S (gx_A E) s.heap H locs → lv_has ls 4 [(0, .ref (gx_m E)), (1, .int x1), (2, .int x2)] → W p l e (gRm 5 0 0) s m args below meth c H locs 0 0 (MQ below (gQ (some (.int r)) (gM E M') (gx_A E)) args s 0 0 (gx_A E)) (F0 m 149 ls [.int s2, .int s1, .ref (gx_m E + mOff 64)]) := by
    intro x1 x2 s1 s2 M H locs ls h hM hS hl
    unfold mm_takes_J149 at h
    obtain ⟨M149, e149, h⟩ := g_bd h
    refine m_ast 64 dX2_takes_149 (by decide) rfl S hE hM hS e149 (fun H locs hM hS => ?_)
    exact J150 x1 x2 M149 _ _ _ h hM hS (lv_sub hl [0, 1, 2] rfl)
  have J109 : ∀ (x1 x2 : Int32) (M : MM) (H : Heap) (locs : List Loc) (ls : Array Slot), mm_takes_J109 x1 x2 M = some (r, M') → gM E M H → va_S (gx_A E) s.heap H locs → lv_has ls 4 [(0, .ref (gx_m E)), (1, .int x1), (2, .int x2)] → W p l e (gRm 5 0 0) s m args below meth c H locs 0 0 (MQ below (gQ (some (.int r)) (gM E M') (gx_A E)) args s 0 0 (gx_A E)) (F0 m 109 ls []) := by
    intro x1 x2 M H locs ls h hM hS hl
    unfold mm_takes_J109 at h
    refine lv_aload_n hx hb dX2_takes_109 rfl (lv_at hl 0 rfl) ?_
    refine ma_op dX2_takes_110 S hE hM ?_
    refine lv_iload_n hx hb dX2_takes_113 rfl (lv_at hl 2 rfl) ?_
    obtain ⟨v114, e114, h⟩ := g_bd h
    refine m_ald 35 dX2_takes_114 (by decide) rfl S hE hM e114 ?_
    refine lv_bipush (v := 10) hx hb dX2_takes_115 (by decide) ?_
    refine lv_icmp_ne (tgt := 150) hx hb dX2_takes_117 (by decide) (fun c117 => ?_) (fun c117 => ?_)
    · have h := g_if c117 h
      exact J150 x1 x2 M _ _ _ h hM hS (lv_sub hl [0, 1, 2] rfl)
    · have h := g_it c117 h
      refine lv_aload_n hx hb dX2_takes_120 rfl (lv_at hl 0 rfl) ?_
      refine ma_wear dX2_takes_121 S hE hM ?_
      refine lv_iload_n hx hb dX2_takes_124 rfl (lv_at hl 1 rfl) ?_
      refine lv_aload_n hx hb dX2_takes_125 rfl (lv_at hl 0 rfl) ?_
      refine ma_wear dX2_takes_126 S hE hM ?_
      refine lv_iload_n hx hb dX2_takes_129 rfl (lv_at hl 1 rfl) ?_
      obtain ⟨v130, e130, h⟩ := g_bd h
      refine m_ald 64 dX2_takes_130 (by decide) rfl S hE hM e130 ?_
      refine lv_bipush (v := 50) hx hb dX2_takes_131 (by decide) ?_
      refine lv_icmp_ge (tgt := 140) hx hb dX2_takes_133 (by decide) (fun c133 => ?_) (fun c133 => ?_)
      · have h := g_it c133 h
        refine lv_aload_n hx hb dX2_takes_140 rfl (lv_at hl 0 rfl) ?_
        refine ma_wear dX2_takes_141 S hE hM ?_
        refine lv_iload_n hx hb dX2_takes_144 rfl (lv_at hl 1 rfl) ?_
        obtain ⟨v145, e145, h⟩ := g_bd h
        refine m_ald 64 dX2_takes_145 (by decide) rfl S hE hM e145 ?_
        refine lv_bipush (v := 50) hx hb dX2_takes_146 (by decide) ?_
        refine lv_isub hx hb dX2_takes_148 ?_
        exact J149 x1 x2 x1 (v145 - 50) M _ _ _ h hM hS (lv_sub hl [0, 1, 2] rfl)
      · have h := g_if c133 h
        refine lv_iconst (v := 0) hx hb dX2_takes_136 (by decide) ?_
        refine lv_goto (tgt := 149) hx hb dX2_takes_137 (by decide) ?_
        exact J149 x1 x2 x1 0 M _ _ _ h hM hS (lv_sub hl [0, 1, 2] rfl)
  have J93 : ∀ (x1 x2 : Int32) (M : MM) (H : Heap) (locs : List Loc) (ls : Array Slot), mm_takes_J93 x1 x2 M = some (r, M') → gM E M H → va_S (gx_A E) s.heap H locs → lv_has ls 4 [(0, .ref (gx_m E)), (1, .int x1), (2, .int x2)] → W p l e (gRm 5 0 0) s m args below meth c H locs 0 0 (MQ below (gQ (some (.int r)) (gM E M') (gx_A E)) args s 0 0 (gx_A E)) (F0 m 93 ls []) := by
    intro x1 x2 M H locs ls h hM hS hl
    unfold mm_takes_J93 at h
    refine lv_aload_n hx hb dX2_takes_93 rfl (lv_at hl 0 rfl) ?_
    refine ma_op dX2_takes_94 S hE hM ?_
    refine lv_iload_n hx hb dX2_takes_97 rfl (lv_at hl 2 rfl) ?_
    obtain ⟨v98, e98, h⟩ := g_bd h
    refine m_ald 35 dX2_takes_98 (by decide) rfl S hE hM e98 ?_
    refine lv_bipush (v := 8) hx hb dX2_takes_99 (by decide) ?_
    refine lv_icmp_ne (tgt := 109) hx hb dX2_takes_101 (by decide) (fun c101 => ?_) (fun c101 => ?_)
    · have h := g_if c101 h
      exact J109 x1 x2 M _ _ _ h hM hS (lv_sub hl [0, 1, 2] rfl)
    · have h := g_it c101 h
      refine lv_aload_n hx hb dX2_takes_104 rfl (lv_at hl 0 rfl) ?_
      refine lv_iload_n hx hb dX2_takes_105 rfl (lv_at hl 1 rfl) ?_
      obtain ⟨M106, e106, h⟩ := g_bd h
      refine m_cV (y := yX2_board) (rest := []) dX2_takes_106 q3288 q3290 qs106 q3291 hm_board S hE hM hS hl.1 rfl (wm_board E l _ _ _ e106) rfl (Nat.le_of_ble_eq_true rfl) ⟨Nat.le_of_ble_eq_true rfl, Nat.le_of_ble_eq_true rfl⟩ ⟨Nat.le_refl 0, Nat.le_refl 0⟩ (fun H locs hM hS => ?_)
      exact J109 x1 x2 M106 _ _ _ h hM hS (lv_sub hl [0, 1, 2] rfl)
  have J66 : ∀ (x1 x2 : Int32) (M : MM) (H : Heap) (locs : List Loc) (ls : Array Slot), mm_takes_J66 x1 x2 M = some (r, M') → gM E M H → va_S (gx_A E) s.heap H locs → lv_has ls 4 [(0, .ref (gx_m E)), (1, .int x1), (2, .int x2)] → W p l e (gRm 5 0 0) s m args below meth c H locs 0 0 (MQ below (gQ (some (.int r)) (gM E M') (gx_A E)) args s 0 0 (gx_A E)) (F0 m 66 ls []) := by
    intro x1 x2 M H locs ls h hM hS hl
    unfold mm_takes_J66 at h
    refine lv_aload_n hx hb dX2_takes_66 rfl (lv_at hl 0 rfl) ?_
    refine ma_op dX2_takes_67 S hE hM ?_
    refine lv_iload_n hx hb dX2_takes_70 rfl (lv_at hl 2 rfl) ?_
    obtain ⟨v71, e71, h⟩ := g_bd h
    refine m_ald 35 dX2_takes_71 (by decide) rfl S hE hM e71 ?_
    refine lv_bipush (v := 11) hx hb dX2_takes_72 (by decide) ?_
    refine lv_icmp_eq (tgt := 93) hx hb dX2_takes_74 (by decide) (fun c74 => ?_) (fun c74 => ?_)
    · have h := g_it c74 h
      exact J93 x1 x2 M _ _ _ h hM hS (lv_sub hl [0, 1, 2] rfl)
    · have h := g_if c74 h
      refine lv_aload_n hx hb dX2_takes_77 rfl (lv_at hl 0 rfl) ?_
      refine lv_iload_n hx hb dX2_takes_78 rfl (lv_at hl 1 rfl) ?_
      obtain ⟨v79, e79, h⟩ := g_bd h
      refine m_cV (y := yX2_isCalm) (rest := []) dX2_takes_79 q3284 q3286 qs105 q3287 hm_isCalm S hE hM hS hl.1 rfl (wm_isCalm E l _ _ _ e79) rfl (Nat.le_of_ble_eq_true rfl) ⟨Nat.le_of_ble_eq_true rfl, Nat.le_of_ble_eq_true rfl⟩ ⟨Nat.le_refl 0, Nat.le_refl 0⟩ (fun H locs hM hS => ?_)
      refine lv_if_ne (tgt := 93) hx hb dX2_takes_82 (by decide) (fun c82 => ?_) (fun c82 => ?_)
      · have h := g_if c82 h
        exact J93 x1 x2 M _ _ _ h hM hS (lv_sub hl [0, 1, 2] rfl)
      · have h := g_it c82 h
        refine lv_aload_n hx hb dX2_takes_85 rfl (lv_at hl 0 rfl) ?_
        refine lv_iload_n hx hb dX2_takes_86 rfl (lv_at hl 1 rfl) ?_
        refine lv_iconst (v := 1) hx hb dX2_takes_87 (by decide) ?_
        obtain ⟨M88, e88, h⟩ := g_bd h
        refine m_cV (y := yX2_stalls) (rest := []) dX2_takes_88 q3276 q3278 qs103 q3279 hm_stalls S hE hM hS hl.1 rfl (wm_stalls E l _ _ _ _ e88) rfl (Nat.le_of_ble_eq_true rfl) ⟨Nat.le_of_ble_eq_true rfl, Nat.le_of_ble_eq_true rfl⟩ ⟨Nat.le_refl 0, Nat.le_refl 0⟩ (fun H locs hM hS => ?_)
        refine lv_iconst (v := 1) hx hb dX2_takes_91 (by decide) ?_
        exact m_zretW dX2_takes_92 S hr hk hM hS h
  unfold mm_takes at h
  refine lv_aload_n hx hb dX2_takes_0 rfl (lv_at hl 0 rfl) ?_
  refine ma_begun dX2_takes_1 S hE hM ?_
  refine lv_iload_n hx hb dX2_takes_4 rfl (lv_at hl 1 rfl) ?_
  obtain ⟨v5, e5, h⟩ := g_bd h
  refine m_ald 70 dX2_takes_5 (by decide) rfl S hE hM e5 ?_
  refine lv_if_ne (tgt := 66) hx hb dX2_takes_6 (by decide) (fun c6 => ?_) (fun c6 => ?_)
  · have h := g_if c6 h
    exact J66 x1 x2 M _ _ _ h hM hS (lv_sub hl [0, 1, 2] rfl)
  · have h := g_it c6 h
    refine lv_aload_n hx hb dX2_takes_9 rfl (lv_at hl 0 rfl) ?_
    refine lv_aload_n hx hb dX2_takes_10 rfl (lv_at hl 0 rfl) ?_
    refine ma_opA dX2_takes_11 S hE hM ?_
    refine lv_iload_n hx hb dX2_takes_14 rfl (lv_at hl 2 rfl) ?_
    obtain ⟨v15, e15, h⟩ := g_bd h
    refine m_ald 37 dX2_takes_15 (by decide) rfl S hE hM e15 ?_
    refine lv_iload_n hx hb dX2_takes_16 rfl (lv_at hl 1 rfl) ?_
    obtain ⟨q17, e17, h⟩ := g_bd h
    refine m_cV (y := yX2_value) (rest := []) dX2_takes_17 q3260 q3262 qs99 q3263 hm_value S hE hM hS hl.1 rfl (wm_value E l _ _ _ _ _ e17) rfl (Nat.le_of_ble_eq_true rfl) ⟨Nat.le_of_ble_eq_true rfl, Nat.le_of_ble_eq_true rfl⟩ ⟨Nat.le_refl 0, Nat.le_refl 0⟩ (fun H locs hM hS => ?_)
    refine lv_istore_n (lv' := [(3, .int q17.1), (0, .ref (gx_m E)), (1, .int x1), (2, .int x2)]) hx hb dX2_takes_20 rfl hl (by decide) rfl (fun ls hl => ?_)
    refine lv_aload_n hx hb dX2_takes_21 rfl (lv_at hl 1 rfl) ?_
    refine mg_byZero dX2_takes_22 S hE hM ?_
    refine lv_if_eq (tgt := 37) hx hb dX2_takes_25 (by decide) (fun c25 => ?_) (fun c25 => ?_)
    · have h := g_it c25 h
      refine lv_iload_n hx hb dX2_takes_37 rfl (lv_at hl 0 rfl) ?_
      refine lv_iconst (v := 1) hx hb dX2_takes_38 (by decide) ?_
      refine lv_icmp_ge (tgt := 52) hx hb dX2_takes_39 (by decide) (fun c39 => ?_) (fun c39 => ?_)
      · have h := g_it c39 h
        refine lv_aload_n hx hb dX2_takes_52 rfl (lv_at hl 1 rfl) ?_
        refine ma_left dX2_takes_53 S hE hM ?_
        refine lv_iload_n hx hb dX2_takes_56 rfl (lv_at hl 2 rfl) ?_
        refine lv_iload_n hx hb dX2_takes_57 rfl (lv_at hl 0 rfl) ?_
        obtain ⟨M58, e58, h⟩ := g_bd h
        refine m_ast 69 dX2_takes_58 (by decide) rfl S hE hM hS e58 (fun H locs hM hS => ?_)
        refine lv_aload_n hx hb dX2_takes_59 rfl (lv_at hl 1 rfl) ?_
        refine ma_begun dX2_takes_60 S hE hM ?_
        refine lv_iload_n hx hb dX2_takes_63 rfl (lv_at hl 2 rfl) ?_
        refine lv_iconst (v := 1) hx hb dX2_takes_64 (by decide) ?_
        obtain ⟨M65, e65, h⟩ := g_bd h
        refine m_ast 70 dX2_takes_65 (by decide) rfl S hE hM hS e65 (fun H locs hM hS => ?_)
        exact J66 x1 x2 M65 _ _ _ h hM hS (lv_sub hl [1, 2, 3] rfl)
      · have h := g_if c39 h
        refine lv_aload_n hx hb dX2_takes_42 rfl (lv_at hl 1 rfl) ?_
        refine lv_iload_n hx hb dX2_takes_43 rfl (lv_at hl 2 rfl) ?_
        refine lv_iload_n hx hb dX2_takes_44 rfl (lv_at hl 3 rfl) ?_
        refine lv_iconst (v := 1) hx hb dX2_takes_45 (by decide) ?_
        refine lv_iadd hx hb dX2_takes_46 ?_
        obtain ⟨M47, e47, h⟩ := g_bd h
        refine m_cV (y := yX2_goTo) (rest := []) dX2_takes_47 q3280 q3282 qs104 q3283 hm_goTo S hE hM hS hl.1 rfl (wm_goTo E l _ _ _ _ e47) rfl (Nat.le_of_ble_eq_true rfl) ⟨Nat.le_of_ble_eq_true rfl, Nat.le_of_ble_eq_true rfl⟩ ⟨Nat.le_refl 0, Nat.le_refl 0⟩ (fun H locs hM hS => ?_)
        refine lv_iconst (v := 1) hx hb dX2_takes_50 (by decide) ?_
        exact m_zretW dX2_takes_51 S hr hk hM hS h
    · have h := g_if c25 h
      refine lv_aload_n hx hb dX2_takes_28 rfl (lv_at hl 1 rfl) ?_
      refine lv_iload_n hx hb dX2_takes_29 rfl (lv_at hl 2 rfl) ?_
      refine lv_bipush (v := 6) hx hb dX2_takes_30 (by decide) ?_
      obtain ⟨M32, e32, h⟩ := g_bd h
      refine m_cV (y := yX2_stalls) (rest := []) dX2_takes_32 q3276 q3278 qs103 q3279 hm_stalls S hE hM hS hl.1 rfl (wm_stalls E l _ _ _ _ e32) rfl (Nat.le_of_ble_eq_true rfl) ⟨Nat.le_of_ble_eq_true rfl, Nat.le_of_ble_eq_true rfl⟩ ⟨Nat.le_refl 0, Nat.le_refl 0⟩ (fun H locs hM hS => ?_)
      refine lv_iconst (v := 1) hx hb dX2_takes_35 (by decide) ?_
      exact m_zretW dX2_takes_36 S hr hk hM hS h
