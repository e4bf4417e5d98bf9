/-! walks of the model's methods: printed by mgen.py -/
set_option maxRecDepth 100000
theorem hm_log : yX2_log.cls = RX2 ∧ yX2_log.cls ≠ "java/lang/invoke/MethodHandle" ∧ yX2_log.cls ≠ "java/lang/invoke/VarHandle" ∧ (parseMethodDescriptor yX2_log.desc).map (fun d => d.parameters.length) = some 2 := by decide +kernel
set_option maxHeartbeats 4000000 in
set_option maxRecDepth 100000 in
theorem wm_log (E : gX) (l : Launch) (x1 x2 : Int32) (r : Int32) (M M' : MM) (h : mm_log x1 x2 M = some (r, M')) : gMet E l yX2_log cX2_log 4 (some .int) 2 0 0 (gx_A E) [.ref (gx_m E), .int x1, .int x2] (gM E M) (gM E M') (some (.int r)) := by
  refine gMet.of (own := RX2) (by decide +kernel) (Nat.le_of_ble_eq_true rfl) rfl ?_
  intro p e s m args below meth c S hr hk hnm hE hM hS ls hl
  have hl : lv_has ls 4 [(0, .ref (gx_m E)), (1, .int x1), (2, .int x2)] := hl
  have hx := S.1
  have hb := S.2.1
  have J33 : ∀ (x1 x2 s0 : Int32) (M : MM) (H : Heap) (locs : List Loc) (ls : Array Slot), mm_log_J33 x1 x2 s0 M = some (r, M') → gM E M H → va_S (gx_A E) s.heap H locs → lv_has ls 4 [(0, .ref (gx_m E)), (1, .int x1), (2, .int x2)] → W p l e (gRm 2 0 0) s m args below meth c H locs 0 0 (MQ below (gQ (some (.int r)) (gM E M') (gx_A E)) args s 0 0 (gx_A E)) (F0 m 33 ls [.int s0]) := by
    intro x1 x2 s0 M H locs ls h hM hS hl
    unfold mm_log_J33 at h
    refine lv_istore_n (lv' := [(3, .int s0), (0, .ref (gx_m E)), (1, .int x1), (2, .int x2)]) hx hb dX2_log_33 rfl hl (by decide) rfl (fun ls hl => ?_)
    refine lv_aload_n hx hb dX2_log_34 rfl (lv_at hl 1 rfl) ?_
    refine lv_iload_n hx hb dX2_log_35 rfl (lv_at hl 0 rfl) ?_
    refine lv_iconst (v := 1) hx hb dX2_log_36 (by decide) ?_
    obtain ⟨q37, e37, h⟩ := g_bd h
    refine m_cV (y := yX2_may) (rest := []) dX2_log_37 q3216 q3218 qs90 q3219 hm_may S hE hM hS hl.1 rfl (wm_may E l _ _ _ _ _ e37) rfl (Nat.le_of_ble_eq_true rfl) ⟨Nat.le_of_ble_eq_true rfl, Nat.le_of_ble_eq_true rfl⟩ ⟨Nat.le_refl 0, Nat.le_refl 0⟩ (fun H locs hM hS => ?_)
    refine lv_if_eq (tgt := 56) hx hb dX2_log_40 (by decide) (fun c40 => ?_) (fun c40 => ?_)
    · have h := g_it c40 h
      refine lv_iconst (v := 0) hx hb dX2_log_56 (by decide) ?_
      exact m_iretW dX2_log_57 S hr hk hM hS h
    · have h := g_if c40 h
      refine lv_aload_n hx hb dX2_log_43 rfl (lv_at hl 1 rfl) ?_
      refine ma_logs dX2_log_44 S hE hM ?_
      refine lv_iconst (v := 4) hx hb dX2_log_47 (by decide) ?_
      refine lv_iload_n hx hb dX2_log_48 rfl (lv_at hl 2 rfl) ?_
      refine lv_imul hx hb dX2_log_49 ?_
      refine lv_iload_n hx hb dX2_log_50 rfl (lv_at hl 3 rfl) ?_
      refine lv_iadd hx hb dX2_log_51 ?_
      obtain ⟨v52, e52, h⟩ := g_bd h
      refine m_ald 85 dX2_log_52 (by decide) rfl S hE hM e52 ?_
      refine lv_goto (tgt := 57) hx hb dX2_log_53 (by decide) ?_
      exact m_iretW dX2_log_57 S hr hk hM hS h
  have J32 : ∀ (x1 x2 : Int32) (M : MM) (H : Heap) (locs : List Loc) (ls : Array Slot), mm_log_J32 x1 x2 M = some (r, M') → gM E M H → va_S (gx_A E) s.heap H locs → lv_has ls 4 [(0, .ref (gx_m E)), (1, .int x1), (2, .int x2)] → W p l e (gRm 2 0 0) s m args below meth c H locs 0 0 (MQ below (gQ (some (.int r)) (gM E M') (gx_A E)) args s 0 0 (gx_A E)) (F0 m 32 ls []) := by
    intro x1 x2 M H locs ls h hM hS hl
    unfold mm_log_J32 at h
    refine lv_iconst (v := 0) hx hb dX2_log_32 (by decide) ?_
    exact J33 x1 x2 0 M _ _ _ h hM hS (lv_sub hl [0, 1, 2] rfl)
  unfold mm_log at h
  refine lv_iload_n hx hb dX2_log_0 rfl (lv_at hl 1 rfl) ?_
  refine lv_if_lt (tgt := 32) hx hb dX2_log_1 (by decide) (fun c1 => ?_) (fun c1 => ?_)
  · have h := g_it c1 h
    exact J32 x1 x2 M _ _ _ h hM hS (lv_sub hl [0, 1, 2] rfl)
  · have h := g_if c1 h
    refine lv_iload_n hx hb dX2_log_4 rfl (lv_at hl 1 rfl) ?_
    refine lv_aload_n hx hb dX2_log_5 rfl (lv_at hl 0 rfl) ?_
    refine mg_logged dX2_log_6 S hE hM ?_
    refine lv_icmp_ge (tgt := 32) hx hb dX2_log_9 (by decide) (fun c9 => ?_) (fun c9 => ?_)
    · have h := g_it c9 h
      exact J32 x1 x2 M _ _ _ h hM hS (lv_sub hl [0, 1, 2] rfl)
    · have h := g_if c9 h
      refine lv_iload_n hx hb dX2_log_12 rfl (lv_at hl 1 rfl) ?_
      refine lv_sipush (v := 400) hx hb dX2_log_13 (by decide) ?_
      refine lv_icmp_ge (tgt := 32) hx hb dX2_log_16 (by decide) (fun c16 => ?_) (fun c16 => ?_)
      · have h := g_it c16 h
        exact J32 x1 x2 M _ _ _ h hM hS (lv_sub hl [0, 1, 2] rfl)
      · have h := g_if c16 h
        refine lv_iload_n hx hb dX2_log_19 rfl (lv_at hl 2 rfl) ?_
        refine lv_if_lt (tgt := 32) hx hb dX2_log_20 (by decide) (fun c20 => ?_) (fun c20 => ?_)
        · have h := g_it c20 h
          exact J32 x1 x2 M _ _ _ h hM hS (lv_sub hl [0, 1, 2] rfl)
        · have h := g_if c20 h
          refine lv_iload_n hx hb dX2_log_23 rfl (lv_at hl 2 rfl) ?_
          refine lv_iconst (v := 3) hx hb dX2_log_24 (by decide) ?_
          refine lv_icmp_gt (tgt := 32) hx hb dX2_log_25 (by decide) (fun c25 => ?_) (fun c25 => ?_)
          · have h := g_it c25 h
            exact J32 x1 x2 M _ _ _ h hM hS (lv_sub hl [0, 1, 2] rfl)
          · have h := g_if c25 h
            refine lv_iconst (v := 1) hx hb dX2_log_28 (by decide) ?_
            refine lv_goto (tgt := 33) hx hb dX2_log_29 (by decide) ?_
            exact J33 x1 x2 1 M _ _ _ h hM hS (lv_sub hl [0, 1, 2] rfl)
