/-! walks of the model's methods: printed by mgen.py -/
set_option maxRecDepth 100000
theorem hm_thrown : yX2_thrown.cls = RX2 ∧ yX2_thrown.cls ≠ "java/lang/invoke/MethodHandle" ∧ yX2_thrown.cls ≠ "java/lang/invoke/VarHandle" ∧ (parseMethodDescriptor yX2_thrown.desc).map (fun d => d.parameters.length) = some 0 := by decide +kernel
set_option maxHeartbeats 4000000 in
set_option maxRecDepth 100000 in
theorem wm_thrown (E : gX) (l : Launch) (r : Int32) (M : MM) (h : mm_thrown M = some r) : gMet E l yX2_thrown cX2_thrown 1 (some .int) 1 0 0 (gx_A E) [.ref (gx_m E)] (gM E M) (gM E M) (some (.int r)) := by
  refine gMet.of (own := RX2) (by decide +kernel) (Nat.le_of_ble_eq_true rfl) rfl ?_
  intro p e s m args below meth c S hr hk hnm hE hM hS ls hl
  have hl : lv_has ls 1 [(0, .ref (gx_m E))] := hl
  have hx := S.1
  have hb := S.2.1
  unfold mm_thrown at h
  refine lv_aload_n hx hb dX2_thrown_0 rfl (lv_at hl 0 rfl) ?_
  refine mg_thrown dX2_thrown_1 S hE hM ?_
  exact m_iretR dX2_thrown_4 S hr hk hM hS h
theorem hm_feed : yX2_feed.cls = RX2 ∧ yX2_feed.cls ≠ "java/lang/invoke/MethodHandle" ∧ yX2_feed.cls ≠ "java/lang/invoke/VarHandle" ∧ (parseMethodDescriptor yX2_feed.desc).map (fun d => d.parameters.length) = some 5 := by decide +kernel
set_option maxHeartbeats 4000000 in
set_option maxRecDepth 100000 in
theorem wm_feed (E : gX) (l : Launch) (x1 x2 x3 x4 x5 : Int32) (r : Int32) (M M' : MM) (h : mm_feed x1 x2 x3 x4 x5 M = some (r, M')) : gMet E l yX2_feed cX2_feed 8 (some .int) 1 0 0 (gx_A E) [.ref (gx_m E), .int x1, .int x2, .int x3, .int x4, .int x5] (gM E M) (gM E M') (some (.int r)) := by
  refine gMet.of (own := RX2) (by decide +kernel) (Nat.le_of_ble_eq_true rfl) rfl ?_
  intro p e s m args below meth c S hr hk hnm hE hM hS ls hl
  have hl : lv_has ls 8 [(0, .ref (gx_m E)), (1, .int x1), (2, .int x2), (3, .int x3), (4, .int x4), (5, .int x5)] := hl
  have hx := S.1
  have hb := S.2.1
  have L23 : ∀ (n : Nat) (x1 x2 x3 x4 x5 x6 : Int32) (M : MM) (H : Heap) (locs : List Loc) (ls : Array Slot), mm_feed_L23 n x1 x2 x3 x4 x5 x6 M = some (r, M') → gM E M H → va_S (gx_A E) s.heap H locs → lv_has ls 8 [(0, .ref (gx_m E)), (1, .int x1), (2, .int x2), (3, .int x3), (4, .int x4), (5, .int x5), (6, .int x6)] → W p l e (gRm 1 0 0) s m args below meth c H locs 0 0 (MQ below (gQ (some (.int r)) (gM E M') (gx_A E)) args s 0 0 (gx_A E)) (F0 m 23 ls []) := by
    intro n23
    induction n23 with
    | zero =>
      intro x1 x2 x3 x4 x5 x6 M H locs ls h
      cases h
    | succ n23 ih23 =>
      have J76 : ∀ (x1 x2 x3 x4 x5 x6 s0 : Int32) (M : MM) (H : Heap) (locs : List Loc) (ls : Array Slot), mm_feed_J76 (mm_feed_L23 n23) x1 x2 x3 x4 x5 x6 s0 M = some (r, M') → gM E M H → va_S (gx_A E) s.heap H locs → lv_has ls 8 [(0, .ref (gx_m E)), (1, .int x1), (2, .int x2), (3, .int x3), (4, .int x4), (5, .int x5), (6, .int x6)] → W p l e (gRm 1 0 0) s m args below meth c H locs 0 0 (MQ below (gQ (some (.int r)) (gM E M') (gx_A E)) args s 0 0 (gx_A E)) (F0 m 76 ls [.int s0]) := by
        intro x1 x2 x3 x4 x5 x6 s0 M H locs ls h hM hS hl
        unfold mm_feed_J76 at h
        refine lv_istore (lv' := [(7, .int s0), (0, .ref (gx_m E)), (1, .int x1), (2, .int x2), (3, .int x3), (4, .int x4), (5, .int x5), (6, .int x6)]) hx hb dX2_feed_76 hl (by decide) rfl (fun ls hl => ?_)
        refine lv_aload_n hx hb dX2_feed_78 rfl (lv_at hl 1 rfl) ?_
        refine ma_tape dX2_feed_79 S hE hM ?_
        refine lv_aload_n hx hb dX2_feed_82 rfl (lv_at hl 1 rfl) ?_
        refine mg_taped dX2_feed_83 S hE hM ?_
        refine lv_iload hx hb dX2_feed_86 (lv_at hl 7 rfl) ?_
        refine lv_iadd hx hb dX2_feed_88 ?_
        refine lv_iload hx hb dX2_feed_89 (lv_at hl 0 rfl) ?_
        refine lv_bipush (v := 24) hx hb dX2_feed_91 (by decide) ?_
        refine lv_bipush (v := 8) hx hb dX2_feed_93 (by decide) ?_
        refine lv_iload hx hb dX2_feed_95 (lv_at hl 7 rfl) ?_
        refine lv_iconst (v := 4) hx hb dX2_feed_97 (by decide) ?_
        refine lv_irem hx hb dX2_feed_98 (by decide) ?_
        refine lv_imul hx hb dX2_feed_99 ?_
        refine lv_isub hx hb dX2_feed_100 ?_
        refine lv_iushr (v := (s0.toUInt32 >>> ((24 - (8 * (x6 - x6 / 4 * 4))).toUInt32 &&& Int32.toUInt32 31)).toInt32) hx hb dX2_feed_101 rfl ?_
        refine lv_sipush (v := 255) hx hb dX2_feed_102 (by decide) ?_
        refine lv_iand hx hb dX2_feed_105 ?_
        obtain ⟨M106, e106, h⟩ := g_bd h
        refine m_ast 2 dX2_feed_106 (by decide) rfl S hE hM hS e106 (fun H locs hM hS => ?_)
        refine lv_iinc (k := 7) (v := (x6 + 1)) (lv' := [(6, .int (x6 + 1)), (7, .int s0), (0, .ref (gx_m E)), (1, .int x1), (2, .int x2), (3, .int x3), (4, .int x4), (5, .int x5)]) hx hb dX2_feed_107 hl rfl rfl (by decide) rfl (fun ls hl => ?_)
        refine lv_goto (tgt := 23) hx hb dX2_feed_110 (by decide) ?_
        exact ih23 x1 x2 x3 x4 x5 (x6 + 1) M106 _ _ _ h hM hS (lv_sub hl [2, 3, 4, 5, 6, 7, 0] rfl)
      intro x1 x2 x3 x4 x5 x6 M H locs ls h hM hS hl
      have h : mm_feed_B23 (mm_feed_L23 n23) x1 x2 x3 x4 x5 x6 M = some (r, M') := h
      unfold mm_feed_B23 at h
      refine lv_iload hx hb dX2_feed_23 (lv_at hl 6 rfl) ?_
      refine lv_bipush (v := 20) hx hb dX2_feed_25 (by decide) ?_
      refine lv_icmp_ge (tgt := 113) hx hb dX2_feed_27 (by decide) (fun c27 => ?_) (fun c27 => ?_)
      · have h := g_it c27 h
        refine lv_aload_n hx hb dX2_feed_113 rfl (lv_at hl 0 rfl) ?_
        refine lv_dup hx hb dX2_feed_114 rfl ?_
        refine mg_taped dX2_feed_115 S hE hM ?_
        refine lv_bipush (v := 20) hx hb dX2_feed_118 (by decide) ?_
        refine lv_iadd hx hb dX2_feed_120 ?_
        obtain ⟨M121, e121, h⟩ := g_bd h
        refine mp_taped dX2_feed_121 S hE hM hS e121 (fun H locs hM hS => ?_)
        refine lv_aload_n hx hb dX2_feed_124 rfl (lv_at hl 0 rfl) ?_
        refine mg_taped dX2_feed_125 S hE hM ?_
        exact m_iretW dX2_feed_128 S hr hk hM hS h
      · have h := g_if c27 h
        refine lv_iload hx hb dX2_feed_30 (lv_at hl 6 rfl) ?_
        refine lv_iconst (v := 4) hx hb dX2_feed_32 (by decide) ?_
        refine lv_icmp_ge (tgt := 40) hx hb dX2_feed_33 (by decide) (fun c33 => ?_) (fun c33 => ?_)
        · have h := g_it c33 h
          refine lv_iload hx hb dX2_feed_40 (lv_at hl 6 rfl) ?_
          refine lv_bipush (v := 8) hx hb dX2_feed_42 (by decide) ?_
          refine lv_icmp_ge (tgt := 51) hx hb dX2_feed_44 (by decide) (fun c44 => ?_) (fun c44 => ?_)
          · have h := g_it c44 h
            refine lv_iload hx hb dX2_feed_51 (lv_at hl 6 rfl) ?_
            refine lv_bipush (v := 12) hx hb dX2_feed_53 (by decide) ?_
            refine lv_icmp_ge (tgt := 62) hx hb dX2_feed_55 (by decide) (fun c55 => ?_) (fun c55 => ?_)
            · have h := g_it c55 h
              refine lv_iload hx hb dX2_feed_62 (lv_at hl 6 rfl) ?_
              refine lv_bipush (v := 16) hx hb dX2_feed_64 (by decide) ?_
              refine lv_icmp_ge (tgt := 74) hx hb dX2_feed_66 (by decide) (fun c66 => ?_) (fun c66 => ?_)
              · have h := g_it c66 h
                refine lv_iload hx hb dX2_feed_74 (lv_at hl 5 rfl) ?_
                exact J76 x1 x2 x3 x4 x5 x6 x5 M _ _ _ h hM hS (lv_sub hl [0, 1, 2, 3, 4, 5, 6] rfl)
              · have h := g_if c66 h
                refine lv_iload hx hb dX2_feed_69 (lv_at hl 4 rfl) ?_
                refine lv_goto (tgt := 76) hx hb dX2_feed_71 (by decide) ?_
                exact J76 x1 x2 x3 x4 x5 x6 x4 M _ _ _ h hM hS (lv_sub hl [0, 1, 2, 3, 4, 5, 6] rfl)
            · have h := g_if c55 h
              refine lv_iload_n hx hb dX2_feed_58 rfl (lv_at hl 3 rfl) ?_
              refine lv_goto (tgt := 76) hx hb dX2_feed_59 (by decide) ?_
              exact J76 x1 x2 x3 x4 x5 x6 x3 M _ _ _ h hM hS (lv_sub hl [0, 1, 2, 3, 4, 5, 6] rfl)
          · have h := g_if c44 h
            refine lv_iload_n hx hb dX2_feed_47 rfl (lv_at hl 2 rfl) ?_
            refine lv_goto (tgt := 76) hx hb dX2_feed_48 (by decide) ?_
            exact J76 x1 x2 x3 x4 x5 x6 x2 M _ _ _ h hM hS (lv_sub hl [0, 1, 2, 3, 4, 5, 6] rfl)
        · have h := g_if c33 h
          refine lv_iload_n hx hb dX2_feed_36 rfl (lv_at hl 1 rfl) ?_
          refine lv_goto (tgt := 76) hx hb dX2_feed_37 (by decide) ?_
          exact J76 x1 x2 x3 x4 x5 x6 x1 M _ _ _ h hM hS (lv_sub hl [0, 1, 2, 3, 4, 5, 6] rfl)
  unfold mm_feed at h
  refine lv_aload_n hx hb dX2_feed_0 rfl (lv_at hl 0 rfl) ?_
  refine lv_iconst (v := 0) hx hb dX2_feed_1 (by decide) ?_
  obtain ⟨M2, e2, h⟩ := g_bd h
  refine mp_thrown dX2_feed_2 S hE hM hS e2 (fun H locs hM hS => ?_)
  refine lv_aload_n hx hb dX2_feed_5 rfl (lv_at hl 0 rfl) ?_
  refine mg_taped dX2_feed_6 S hE hM ?_
  refine lv_bipush (v := 20) hx hb dX2_feed_9 (by decide) ?_
  refine lv_iadd hx hb dX2_feed_11 ?_
  refine lv_sipush (v := 4000) hx hb dX2_feed_12 (by decide) ?_
  refine lv_icmp_le (tgt := 20) hx hb dX2_feed_15 (by decide) (fun c15 => ?_) (fun c15 => ?_)
  · have h := g_it c15 h
    refine lv_iconst (v := 0) hx hb dX2_feed_20 (by decide) ?_
    refine lv_istore (lv' := [(6, .int 0), (0, .ref (gx_m E)), (1, .int x1), (2, .int x2), (3, .int x3), (4, .int x4), (5, .int x5)]) hx hb dX2_feed_21 hl (by decide) rfl (fun ls hl => ?_)
    exact L23 gF x1 x2 x3 x4 x5 0 M2 _ _ _ h hM hS (lv_sub hl [1, 2, 3, 4, 5, 6, 0] rfl)
  · have h := g_if c15 h
    refine lv_iconst (v := (-1)) hx hb dX2_feed_18 (by decide) ?_
    exact m_iretW dX2_feed_19 S hr hk hM hS h
theorem hm_isLetter : yX2_isLetter.cls = RX2 ∧ yX2_isLetter.cls ≠ "java/lang/invoke/MethodHandle" ∧ yX2_isLetter.cls ≠ "java/lang/invoke/VarHandle" ∧ (parseMethodDescriptor yX2_isLetter.desc).map (fun d => d.parameters.length) = some 1 := by decide +kernel
set_option maxHeartbeats 4000000 in
set_option maxRecDepth 100000 in
theorem wm_isLetter (E : gX) (l : Launch) (x0 : Int32) (r : Int32) (M : MM) (h : mm_isLetter x0 M = some r) : gMet E l yX2_isLetter cX2_isLetter 1 (some .boolean) 1 0 0 (gx_A E) [.int x0] (gM E M) (gM E M) (some (.int r)) := by
  refine gMet.of (own := RX2) (by decide +kernel) (Nat.le_of_ble_eq_true rfl) rfl ?_
  intro p e s m args below meth c S hr hk hnm hE hM hS ls hl
  have hl : lv_has ls 1 [(0, .int x0)] := hl
  have hx := S.1
  have hb := S.2.1
  unfold mm_isLetter at h
  refine lv_iload_n hx hb dX2_isLetter_0 rfl (lv_at hl 0 rfl) ?_
  refine lv_bipush (v := 97) hx hb dX2_isLetter_1 (by decide) ?_
  refine lv_icmp_lt (tgt := 16) hx hb dX2_isLetter_3 (by decide) (fun c3 => ?_) (fun c3 => ?_)
  · have h := g_it c3 h
    refine lv_iconst (v := 0) hx hb dX2_isLetter_16 (by decide) ?_
    exact m_zretR dX2_isLetter_17 S hr hk hM hS h
  · have h := g_if c3 h
    refine lv_iload_n hx hb dX2_isLetter_6 rfl (lv_at hl 0 rfl) ?_
    refine lv_bipush (v := 122) hx hb dX2_isLetter_7 (by decide) ?_
    refine lv_icmp_gt (tgt := 16) hx hb dX2_isLetter_9 (by decide) (fun c9 => ?_) (fun c9 => ?_)
    · have h := g_it c9 h
      refine lv_iconst (v := 0) hx hb dX2_isLetter_16 (by decide) ?_
      exact m_zretR dX2_isLetter_17 S hr hk hM hS h
    · have h := g_if c9 h
      refine lv_iconst (v := 1) hx hb dX2_isLetter_12 (by decide) ?_
      refine lv_goto (tgt := 17) hx hb dX2_isLetter_13 (by decide) ?_
      exact m_zretR dX2_isLetter_17 S hr hk hM hS h
theorem hm_byteAt : yX2_byteAt.cls = RX2 ∧ yX2_byteAt.cls ≠ "java/lang/invoke/MethodHandle" ∧ yX2_byteAt.cls ≠ "java/lang/invoke/VarHandle" ∧ (parseMethodDescriptor yX2_byteAt.desc).map (fun d => d.parameters.length) = some 1 := by decide +kernel
set_option maxHeartbeats 4000000 in
set_option maxRecDepth 100000 in
theorem wm_byteAt (E : gX) (l : Launch) (x1 : Int32) (r : Int32) (M : MM) (h : mm_byteAt x1 M = some r) : gMet E l yX2_byteAt cX2_byteAt 2 (some .int) 1 0 0 (gx_A E) [.ref (gx_m E), .int x1] (gM E M) (gM E M) (some (.int r)) := by
  refine gMet.of (own := RX2) (by decide +kernel) (Nat.le_of_ble_eq_true rfl) rfl ?_
  intro p e s m args below meth c S hr hk hnm hE hM hS ls hl
  have hl : lv_has ls 2 [(0, .ref (gx_m E)), (1, .int x1)] := hl
  have hx := S.1
  have hb := S.2.1
  unfold mm_byteAt at h
  refine lv_iload_n hx hb dX2_byteAt_0 rfl (lv_at hl 1 rfl) ?_
  refine lv_aload_n hx hb dX2_byteAt_1 rfl (lv_at hl 0 rfl) ?_
  refine mg_size dX2_byteAt_2 S hE hM ?_
  refine lv_icmp_ge (tgt := 17) hx hb dX2_byteAt_5 (by decide) (fun c5 => ?_) (fun c5 => ?_)
  · have h := g_it c5 h
    refine lv_iconst (v := 0) hx hb dX2_byteAt_17 (by decide) ?_
    exact m_iretR dX2_byteAt_18 S hr hk hM hS h
  · have h := g_if c5 h
    refine lv_aload_n hx hb dX2_byteAt_8 rfl (lv_at hl 0 rfl) ?_
    refine ma_text dX2_byteAt_9 S hE hM ?_
    refine lv_iload_n hx hb dX2_byteAt_12 rfl (lv_at hl 1 rfl) ?_
    obtain ⟨v13, e13, h⟩ := g_bd h
    refine m_ald 4 dX2_byteAt_13 (by decide) rfl S hE hM e13 ?_
    refine lv_goto (tgt := 18) hx hb dX2_byteAt_14 (by decide) ?_
    exact m_iretR dX2_byteAt_18 S hr hk hM hS h
theorem hm_isDigit : yX2_isDigit.cls = RX2 ∧ yX2_isDigit.cls ≠ "java/lang/invoke/MethodHandle" ∧ yX2_isDigit.cls ≠ "java/lang/invoke/VarHandle" ∧ (parseMethodDescriptor yX2_isDigit.desc).map (fun d => d.parameters.length) = some 1 := by decide +kernel
set_option maxHeartbeats 4000000 in
set_option maxRecDepth 100000 in
theorem wm_isDigit (E : gX) (l : Launch) (x0 : Int32) (r : Int32) (M : MM) (h : mm_isDigit x0 M = some r) : gMet E l yX2_isDigit cX2_isDigit 1 (some .boolean) 1 0 0 (gx_A E) [.int x0] (gM E M) (gM E M) (some (.int r)) := by
  refine gMet.of (own := RX2) (by decide +kernel) (Nat.le_of_ble_eq_true rfl) rfl ?_
  intro p e s m args below meth c S hr hk hnm hE hM hS ls hl
  have hl : lv_has ls 1 [(0, .int x0)] := hl
  have hx := S.1
  have hb := S.2.1
  unfold mm_isDigit at h
  refine lv_iload_n hx hb dX2_isDigit_0 rfl (lv_at hl 0 rfl) ?_
  refine lv_bipush (v := 48) hx hb dX2_isDigit_1 (by decide) ?_
  refine lv_icmp_lt (tgt := 16) hx hb dX2_isDigit_3 (by decide) (fun c3 => ?_) (fun c3 => ?_)
  · have h := g_it c3 h
    refine lv_iconst (v := 0) hx hb dX2_isDigit_16 (by decide) ?_
    exact m_zretR dX2_isDigit_17 S hr hk hM hS h
  · have h := g_if c3 h
    refine lv_iload_n hx hb dX2_isDigit_6 rfl (lv_at hl 0 rfl) ?_
    refine lv_bipush (v := 57) hx hb dX2_isDigit_7 (by decide) ?_
    refine lv_icmp_gt (tgt := 16) hx hb dX2_isDigit_9 (by decide) (fun c9 => ?_) (fun c9 => ?_)
    · have h := g_it c9 h
      refine lv_iconst (v := 0) hx hb dX2_isDigit_16 (by decide) ?_
      exact m_zretR dX2_isDigit_17 S hr hk hM hS h
    · have h := g_if c9 h
      refine lv_iconst (v := 1) hx hb dX2_isDigit_12 (by decide) ?_
      refine lv_goto (tgt := 17) hx hb dX2_isDigit_13 (by decide) ?_
      exact m_zretR dX2_isDigit_17 S hr hk hM hS h
theorem hm_readWord : yX2_readWord.cls = RX2 ∧ yX2_readWord.cls ≠ "java/lang/invoke/MethodHandle" ∧ yX2_readWord.cls ≠ "java/lang/invoke/VarHandle" ∧ (parseMethodDescriptor yX2_readWord.desc).map (fun d => d.parameters.length) = some 0 := by decide +kernel
set_option maxHeartbeats 4000000 in
set_option maxRecDepth 100000 in
theorem wm_readWord (E : gX) (l : Launch) (M M' : MM) (h : mm_readWord M = some M') : gMet E l yX2_readWord cX2_readWord 4 none 8 0 0 (gx_A E) [.ref (gx_m E)] (gM E M) (gM E M') none := by
  refine gMet.of (own := RX2) (by decide +kernel) (Nat.le_of_ble_eq_true rfl) rfl ?_
  intro p e s m args below meth c S hr hk hnm hE hM hS ls hl
  have hl : lv_has ls 4 [(0, .ref (gx_m E))] := hl
  have hx := S.1
  have hb := S.2.1
  have L66 : ∀ (n : Nat) (x1 : Int32) (M : MM) (H : Heap) (locs : List Loc) (ls : Array Slot), mm_readWord_L66 n x1 M = some M' → gM E M H → va_S (gx_A E) s.heap H locs → lv_has ls 4 [(0, .ref (gx_m E)), (1, .int x1)] → W p l e (gRm 8 0 0) s m args below meth c H locs 0 0 (MQ below (gQ none (gM E M') (gx_A E)) args s 0 0 (gx_A E)) (F0 m 66 ls []) := by
    intro n66
    induction n66 with
    | zero =>
      intro x1 M H locs ls h
      cases h
    | succ n66 ih66 =>
      have J177 : ∀ (x1 : Int32) (M : MM) (H : Heap) (locs : List Loc) (ls : Array Slot), mm_readWord_J177 (mm_readWord_L66 n66) x1 M = some M' → gM E M H → va_S (gx_A E) s.heap H locs → lv_has ls 4 [(0, .ref (gx_m E)), (1, .int x1)] → W p l e (gRm 8 0 0) s m args below meth c H locs 0 0 (MQ below (gQ none (gM E M') (gx_A E)) args s 0 0 (gx_A E)) (F0 m 177 ls []) := by
        intro x1 M H locs ls h hM hS hl
        unfold mm_readWord_J177 at h
        refine lv_iinc (k := 1) (v := (x1 + 1)) (lv' := [(1, .int (x1 + 1)), (0, .ref (gx_m E))]) hx hb dX2_readWord_177 hl rfl rfl (by decide) rfl (fun ls hl => ?_)
        refine lv_goto (tgt := 66) hx hb dX2_readWord_180 (by decide) ?_
        exact ih66 (x1 + 1) M _ _ _ h hM hS (lv_sub hl [1, 0] rfl)
      have J174 : ∀ (x1 s1 : Int32) (M : MM) (H : Heap) (locs : List Loc) (ls : Array Slot), mm_readWord_J174 (mm_readWord_L66 n66) x1 s1 M = some M' → gM E M H → va_S (gx_A E) s.heap H locs → lv_has ls 4 [(0, .ref (gx_m E)), (1, .int x1)] → W p l e (gRm 8 0 0) s m args below meth c H locs 0 0 (MQ below (gQ none (gM E M') (gx_A E)) args s 0 0 (gx_A E)) (F0 m 174 ls [.int s1, .ref (gx_m E)]) := by
        intro x1 s1 M H locs ls h hM hS hl
        unfold mm_readWord_J174 at h
        obtain ⟨M174, e174, h⟩ := g_bd h
        refine mp_word dX2_readWord_174 S hE hM hS e174 (fun H locs hM hS => ?_)
        exact J177 x1 M174 _ _ _ h hM hS (lv_sub hl [0, 1] rfl)
      have L108 : ∀ (n : Nat) (x1 x2 x3 : Int32) (M : MM) (H : Heap) (locs : List Loc) (ls : Array Slot), mm_readWord_L108 (mm_readWord_L66 n66) n x1 x2 x3 M = some M' → gM E M H → va_S (gx_A E) s.heap H locs → lv_has ls 4 [(0, .ref (gx_m E)), (1, .int x1), (2, .int x2), (3, .int x3)] → W p l e (gRm 8 0 0) s m args below meth c H locs 0 0 (MQ below (gQ none (gM E M') (gx_A E)) args s 0 0 (gx_A E)) (F0 m 108 ls []) := by
        intro n108
        induction n108 with
        | zero =>
          intro x1 x2 x3 M H locs ls h
          cases h
        | succ n108 ih108 =>
          have J154 : ∀ (x1 x3 s0 : Int32) (M : MM) (H : Heap) (locs : List Loc) (ls : Array Slot), mm_readWord_J154 (mm_readWord_L66 n66) (mm_readWord_L108 (mm_readWord_L66 n66) n108) x1 x3 s0 M = some M' → gM E M H → va_S (gx_A E) s.heap H locs → lv_has ls 4 [(0, .ref (gx_m E)), (1, .int x1), (3, .int x3)] → W p l e (gRm 8 0 0) s m args below meth c H locs 0 0 (MQ below (gQ none (gM E M') (gx_A E)) args s 0 0 (gx_A E)) (F0 m 154 ls [.int s0]) := by
            intro x1 x3 s0 M H locs ls h hM hS hl
            unfold mm_readWord_J154 at h
            refine lv_istore_n (lv' := [(2, .int s0), (0, .ref (gx_m E)), (1, .int x1), (3, .int x3)]) hx hb dX2_readWord_154 rfl hl (by decide) rfl (fun ls hl => ?_)
            refine lv_iinc (k := 3) (v := (x3 + 1)) (lv' := [(3, .int (x3 + 1)), (2, .int s0), (0, .ref (gx_m E)), (1, .int x1)]) hx hb dX2_readWord_155 hl rfl rfl (by decide) rfl (fun ls hl => ?_)
            refine lv_goto (tgt := 108) hx hb dX2_readWord_158 (by decide) ?_
            exact ih108 x1 s0 (x3 + 1) M _ _ _ h hM hS (lv_sub hl [2, 3, 1, 0] rfl)
          have J153 : ∀ (x1 x3 : Int32) (M : MM) (H : Heap) (locs : List Loc) (ls : Array Slot), mm_readWord_J153 (mm_readWord_L66 n66) (mm_readWord_L108 (mm_readWord_L66 n66) n108) x1 x3 M = some M' → gM E M H → va_S (gx_A E) s.heap H locs → lv_has ls 4 [(0, .ref (gx_m E)), (1, .int x1), (3, .int x3)] → W p l e (gRm 8 0 0) s m args below meth c H locs 0 0 (MQ below (gQ none (gM E M') (gx_A E)) args s 0 0 (gx_A E)) (F0 m 153 ls []) := by
            intro x1 x3 M H locs ls h hM hS hl
            unfold mm_readWord_J153 at h
            refine lv_iconst (v := 0) hx hb dX2_readWord_153 (by decide) ?_
            exact J154 x1 x3 0 M _ _ _ h hM hS (lv_sub hl [0, 1, 2] rfl)
          intro x1 x2 x3 M H locs ls h hM hS hl
          have h : mm_readWord_B108 (mm_readWord_L66 n66) (mm_readWord_L108 (mm_readWord_L66 n66) n108) x1 x2 x3 M = some M' := h
          unfold mm_readWord_B108 at h
          refine lv_iload_n hx hb dX2_readWord_108 rfl (lv_at hl 3 rfl) ?_
          refine lv_aload_n hx hb dX2_readWord_109 rfl (lv_at hl 0 rfl) ?_
          refine mg_at dX2_readWord_110 S hE hM ?_
          refine lv_aload_n hx hb dX2_readWord_113 rfl (lv_at hl 0 rfl) ?_
          refine mg_begins dX2_readWord_114 S hE hM ?_
          refine lv_isub hx hb dX2_readWord_117 ?_
          refine lv_icmp_ge (tgt := 161) hx hb dX2_readWord_118 (by decide) (fun c118 => ?_) (fun c118 => ?_)
          · have h := g_it c118 h
            refine lv_aload_n hx hb dX2_readWord_161 rfl (lv_at hl 0 rfl) ?_
            refine lv_iload_n hx hb dX2_readWord_162 rfl (lv_at hl 2 rfl) ?_
            refine lv_if_eq (tgt := 170) hx hb dX2_readWord_163 (by decide) (fun c163 => ?_) (fun c163 => ?_)
            · have h := g_it c163 h
              refine lv_aload_n hx hb dX2_readWord_170 rfl (lv_at hl 0 rfl) ?_
              refine mg_word dX2_readWord_171 S hE hM ?_
              exact J174 x1 (M 11 0) M _ _ _ h hM hS (lv_sub hl [0, 1] rfl)
            · have h := g_if c163 h
              refine lv_iload_n hx hb dX2_readWord_166 rfl (lv_at hl 1 rfl) ?_
              refine lv_goto (tgt := 174) hx hb dX2_readWord_167 (by decide) ?_
              exact J174 x1 x1 M _ _ _ h hM hS (lv_sub hl [0, 1] rfl)
          · have h := g_if c118 h
            refine lv_iload_n hx hb dX2_readWord_121 rfl (lv_at hl 2 rfl) ?_
            refine lv_if_eq (tgt := 153) hx hb dX2_readWord_122 (by decide) (fun c122 => ?_) (fun c122 => ?_)
            · have h := g_it c122 h
              exact J153 x1 x3 M _ _ _ h hM hS (lv_sub hl [0, 1, 3] rfl)
            · have h := g_if c122 h
              refine lv_aload_n hx hb dX2_readWord_125 rfl (lv_at hl 0 rfl) ?_
              refine ma_words dX2_readWord_126 S hE hM ?_
              refine lv_iload_n hx hb dX2_readWord_129 rfl (lv_at hl 1 rfl) ?_
              obtain ⟨w130, e130, h⟩ := g_bd h
              refine m_wld dX2_readWord_130 S hE hM e130 ?_
              refine lv_iload_n hx hb dX2_readWord_131 rfl (lv_at hl 3 rfl) ?_
              obtain ⟨v132, e132, h⟩ := g_bd h
              refine m_wch dX2_readWord_132 q3076 S hE hM hS hl.1 e132 rfl (Nat.le_of_ble_eq_true rfl) ⟨Nat.le_of_ble_eq_true rfl, Nat.le_of_ble_eq_true rfl⟩ ⟨Nat.le_refl 0, Nat.le_refl 0⟩ (fun H locs hM hS => ?_)
              refine lv_aload_n hx hb dX2_readWord_135 rfl (lv_at hl 0 rfl) ?_
              refine ma_text dX2_readWord_136 S hE hM ?_
              refine lv_aload_n hx hb dX2_readWord_139 rfl (lv_at hl 0 rfl) ?_
              refine mg_begins dX2_readWord_140 S hE hM ?_
              refine lv_iload_n hx hb dX2_readWord_143 rfl (lv_at hl 3 rfl) ?_
              refine lv_iadd hx hb dX2_readWord_144 ?_
              obtain ⟨v145, e145, h⟩ := g_bd h
              refine m_ald 4 dX2_readWord_145 (by decide) rfl S hE hM e145 ?_
              refine lv_icmp_ne (tgt := 153) hx hb dX2_readWord_146 (by decide) (fun c146 => ?_) (fun c146 => ?_)
              · have h := g_if c146 h
                exact J153 x1 x3 M _ _ _ h hM hS (lv_sub hl [0, 1, 3] rfl)
              · have h := g_it c146 h
                refine lv_iconst (v := 1) hx hb dX2_readWord_149 (by decide) ?_
                refine lv_goto (tgt := 154) hx hb dX2_readWord_150 (by decide) ?_
                exact J154 x1 x3 1 M _ _ _ h hM hS (lv_sub hl [0, 1, 3] rfl)
      intro x1 M H locs ls h hM hS hl
      have h : mm_readWord_B66 (mm_readWord_L66 n66) x1 M = some M' := h
      unfold mm_readWord_B66 at h
      refine lv_iload_n hx hb dX2_readWord_66 rfl (lv_at hl 1 rfl) ?_
      refine lv_bipush (v := 51) hx hb dX2_readWord_67 (by decide) ?_
      refine lv_icmp_ge (tgt := 183) hx hb dX2_readWord_69 (by decide) (fun c69 => ?_) (fun c69 => ?_)
      · have h := g_it c69 h
        exact m_vretW dX2_readWord_183 S hr hk hM hS h
      · have h := g_if c69 h
        refine lv_aload_n hx hb dX2_readWord_72 rfl (lv_at hl 0 rfl) ?_
        refine mg_token dX2_readWord_73 S hE hM ?_
        refine lv_iconst (v := 1) hx hb dX2_readWord_76 (by decide) ?_
        refine lv_icmp_ne (tgt := 183) hx hb dX2_readWord_77 (by decide) (fun c77 => ?_) (fun c77 => ?_)
        · have h := g_if c77 h
          exact m_vretW dX2_readWord_183 S hr hk hM hS h
        · have h := g_it c77 h
          refine lv_aload_n hx hb dX2_readWord_80 rfl (lv_at hl 0 rfl) ?_
          refine ma_words dX2_readWord_81 S hE hM ?_
          refine lv_iload_n hx hb dX2_readWord_84 rfl (lv_at hl 1 rfl) ?_
          obtain ⟨w85, e85, h⟩ := g_bd h
          refine m_wld dX2_readWord_85 S hE hM e85 ?_
          refine m_wlen dX2_readWord_86 q3075 (m_wdlt (by assumption)) S hE hM hS hl.1 rfl (Nat.le_of_ble_eq_true rfl) ⟨Nat.le_of_ble_eq_true rfl, Nat.le_of_ble_eq_true rfl⟩ ⟨Nat.le_refl 0, Nat.le_refl 0⟩ (fun H locs hM hS => ?_)
          refine lv_aload_n hx hb dX2_readWord_89 rfl (lv_at hl 0 rfl) ?_
          refine mg_at dX2_readWord_90 S hE hM ?_
          refine lv_aload_n hx hb dX2_readWord_93 rfl (lv_at hl 0 rfl) ?_
          refine mg_begins dX2_readWord_94 S hE hM ?_
          refine lv_isub hx hb dX2_readWord_97 ?_
          refine lv_icmp_eq (tgt := 104) hx hb dX2_readWord_98 (by decide) (fun c98 => ?_) (fun c98 => ?_)
          · have h := g_it c98 h
            refine lv_iconst (v := 1) hx hb dX2_readWord_104 (by decide) ?_
            refine lv_istore_n (lv' := [(2, .int 1), (0, .ref (gx_m E)), (1, .int x1)]) hx hb dX2_readWord_105 rfl hl (by decide) rfl (fun ls hl => ?_)
            refine lv_iconst (v := 0) hx hb dX2_readWord_106 (by decide) ?_
            refine lv_istore_n (lv' := [(3, .int 0), (2, .int 1), (0, .ref (gx_m E)), (1, .int x1)]) hx hb dX2_readWord_107 rfl hl (by decide) rfl (fun ls hl => ?_)
            exact L108 gF x1 1 0 M _ _ _ h hM hS (lv_sub hl [2, 3, 1, 0] rfl)
          · have h := g_if c98 h
            refine lv_goto (tgt := 177) hx hb dX2_readWord_101 (by decide) ?_
            exact J177 x1 M _ _ _ h hM hS (lv_sub hl [0, 1] rfl)
  have J61 : ∀ (s1 : Int32) (M : MM) (H : Heap) (locs : List Loc) (ls : Array Slot), mm_readWord_J61 s1 M = some M' → gM E M H → va_S (gx_A E) s.heap H locs → lv_has ls 4 [(0, .ref (gx_m E))] → W p l e (gRm 8 0 0) s m args below meth c H locs 0 0 (MQ below (gQ none (gM E M') (gx_A E)) args s 0 0 (gx_A E)) (F0 m 61 ls [.int s1, .ref (gx_m E)]) := by
    intro s1 M H locs ls h hM hS hl
    unfold mm_readWord_J61 at h
    obtain ⟨M61, e61, h⟩ := g_bd h
    refine mp_token dX2_readWord_61 S hE hM hS e61 (fun H locs hM hS => ?_)
    refine lv_iconst (v := 0) hx hb dX2_readWord_64 (by decide) ?_
    refine lv_istore_n (lv' := [(1, .int 0), (0, .ref (gx_m E))]) hx hb dX2_readWord_65 rfl hl (by decide) rfl (fun ls hl => ?_)
    exact L66 gF 0 M61 _ _ _ h hM hS (lv_sub hl [1, 0] rfl)
  have L0 : ∀ (n : Nat) (M : MM) (H : Heap) (locs : List Loc) (ls : Array Slot), mm_readWord_L0 n M = some M' → gM E M H → va_S (gx_A E) s.heap H locs → lv_has ls 4 [(0, .ref (gx_m E))] → W p l e (gRm 8 0 0) s m args below meth c H locs 0 0 (MQ below (gQ none (gM E M') (gx_A E)) args s 0 0 (gx_A E)) (F0 m 0 ls []) := by
    intro n0
    induction n0 with
    | zero =>
      intro M H locs ls h
      cases h
    | succ n0 ih0 =>
      have J28 : ∀ (M : MM) (H : Heap) (locs : List Loc) (ls : Array Slot), mm_readWord_J28 (mm_readWord_L0 n0) M = some M' → gM E M H → va_S (gx_A E) s.heap H locs → lv_has ls 4 [(0, .ref (gx_m E))] → W p l e (gRm 8 0 0) s m args below meth c H locs 0 0 (MQ below (gQ none (gM E M') (gx_A E)) args s 0 0 (gx_A E)) (F0 m 28 ls []) := by
        intro M H locs ls h hM hS hl
        unfold mm_readWord_J28 at h
        refine lv_aload_n hx hb dX2_readWord_28 rfl (lv_at hl 0 rfl) ?_
        refine lv_dup hx hb dX2_readWord_29 rfl ?_
        refine mg_at dX2_readWord_30 S hE hM ?_
        refine lv_iconst (v := 1) hx hb dX2_readWord_33 (by decide) ?_
        refine lv_iadd hx hb dX2_readWord_34 ?_
        obtain ⟨M35, e35, h⟩ := g_bd h
        refine mp_at dX2_readWord_35 S hE hM hS e35 (fun H locs hM hS => ?_)
        refine lv_goto (tgt := 0) hx hb dX2_readWord_38 (by decide) ?_
        exact ih0 M35 _ _ _ h hM hS (lv_sub hl [0] rfl)
      intro M H locs ls h hM hS hl
      have h : mm_readWord_B0 (mm_readWord_L0 n0) M = some M' := h
      unfold mm_readWord_B0 at h
      refine lv_aload_n hx hb dX2_readWord_0 rfl (lv_at hl 0 rfl) ?_
      refine lv_aload_n hx hb dX2_readWord_1 rfl (lv_at hl 0 rfl) ?_
      refine mg_at dX2_readWord_2 S hE hM ?_
      obtain ⟨v5, e5, h⟩ := g_bd h
      refine m_cV (y := yX2_byteAt) (rest := []) dX2_readWord_5 q3068 q3070 qs59 q3071 hm_byteAt S hE hM hS hl.1 rfl (wm_byteAt E l _ _ _ e5) rfl (Nat.le_of_ble_eq_true rfl) ⟨Nat.le_of_ble_eq_true rfl, Nat.le_of_ble_eq_true rfl⟩ ⟨Nat.le_refl 0, Nat.le_refl 0⟩ (fun H locs hM hS => ?_)
      obtain ⟨v8, e8, h⟩ := g_bd h
      refine m_cS (y := yX2_isLetter) (rest := []) dX2_readWord_8 q3061 q3062 q3063 hm_isLetter S hE hM hS hl.1 rfl (wm_isLetter E l _ _ _ e8) rfl (Nat.le_of_ble_eq_true rfl) ⟨Nat.le_of_ble_eq_true rfl, Nat.le_of_ble_eq_true rfl⟩ ⟨Nat.le_refl 0, Nat.le_refl 0⟩ (fun H locs hM hS => ?_)
      refine lv_if_ne (tgt := 28) hx hb dX2_readWord_11 (by decide) (fun c11 => ?_) (fun c11 => ?_)
      · have h := g_if c11 h
        exact J28 M _ _ _ h hM hS (lv_sub hl [0] rfl)
      · have h := g_it c11 h
        refine lv_aload_n hx hb dX2_readWord_14 rfl (lv_at hl 0 rfl) ?_
        refine lv_aload_n hx hb dX2_readWord_15 rfl (lv_at hl 0 rfl) ?_
        refine mg_at dX2_readWord_16 S hE hM ?_
        obtain ⟨v19, e19, h⟩ := g_bd h
        refine m_cV (y := yX2_byteAt) (rest := []) dX2_readWord_19 q3068 q3070 qs59 q3071 hm_byteAt S hE hM hS hl.1 rfl (wm_byteAt E l _ _ _ e19) rfl (Nat.le_of_ble_eq_true rfl) ⟨Nat.le_of_ble_eq_true rfl, Nat.le_of_ble_eq_true rfl⟩ ⟨Nat.le_refl 0, Nat.le_refl 0⟩ (fun H locs hM hS => ?_)
        obtain ⟨v22, e22, h⟩ := g_bd h
        refine m_cS (y := yX2_isDigit) (rest := []) dX2_readWord_22 q3072 q3073 q3074 hm_isDigit S hE hM hS hl.1 rfl (wm_isDigit E l _ _ _ e22) rfl (Nat.le_of_ble_eq_true rfl) ⟨Nat.le_of_ble_eq_true rfl, Nat.le_of_ble_eq_true rfl⟩ ⟨Nat.le_refl 0, Nat.le_refl 0⟩ (fun H locs hM hS => ?_)
        refine lv_if_eq (tgt := 41) hx hb dX2_readWord_25 (by decide) (fun c25 => ?_) (fun c25 => ?_)
        · have h := g_it c25 h
          refine lv_aload_n hx hb dX2_readWord_41 rfl (lv_at hl 0 rfl) ?_
          refine lv_aload_n hx hb dX2_readWord_42 rfl (lv_at hl 0 rfl) ?_
          refine mg_at dX2_readWord_43 S hE hM ?_
          refine lv_aload_n hx hb dX2_readWord_46 rfl (lv_at hl 0 rfl) ?_
          refine mg_begins dX2_readWord_47 S hE hM ?_
          refine lv_isub hx hb dX2_readWord_50 ?_
          refine lv_bipush (v := 8) hx hb dX2_readWord_51 (by decide) ?_
          refine lv_icmp_le (tgt := 60) hx hb dX2_readWord_53 (by decide) (fun c53 => ?_) (fun c53 => ?_)
          · have h := g_it c53 h
            refine lv_iconst (v := 1) hx hb dX2_readWord_60 (by decide) ?_
            exact J61 1 M _ _ _ h hM hS (lv_sub hl [0] rfl)
          · have h := g_if c53 h
            refine lv_iconst (v := 4) hx hb dX2_readWord_56 (by decide) ?_
            refine lv_goto (tgt := 61) hx hb dX2_readWord_57 (by decide) ?_
            exact J61 4 M _ _ _ h hM hS (lv_sub hl [0] rfl)
        · have h := g_if c25 h
          exact J28 M _ _ _ h hM hS (lv_sub hl [0] rfl)
  unfold mm_readWord at h
  exact L0 gF M _ _ _ h hM hS (lv_sub hl [0] rfl)
theorem hm_readNumber : yX2_readNumber.cls = RX2 ∧ yX2_readNumber.cls ≠ "java/lang/invoke/MethodHandle" ∧ yX2_readNumber.cls ≠ "java/lang/invoke/VarHandle" ∧ (parseMethodDescriptor yX2_readNumber.desc).map (fun d => d.parameters.length) = some 0 := by decide +kernel
set_option maxHeartbeats 4000000 in
set_option maxRecDepth 100000 in
theorem wm_readNumber (E : gX) (l : Launch) (M M' : MM) (h : mm_readNumber M = some M') : gMet E l yX2_readNumber cX2_readNumber 1 none 2 0 0 (gx_A E) [.ref (gx_m E)] (gM E M) (gM E M') none := by
  refine gMet.of (own := RX2) (by decide +kernel) (Nat.le_of_ble_eq_true rfl) rfl ?_
  intro p e s m args below meth c S hr hk hnm hE hM hS ls hl
  have hl : lv_has ls 1 [(0, .ref (gx_m E))] := hl
  have hx := S.1
  have hb := S.2.1
  have J95 : ∀ (s1 : Int32) (M : MM) (H : Heap) (locs : List Loc) (ls : Array Slot), mm_readNumber_J95 s1 M = some M' → gM E M H → va_S (gx_A E) s.heap H locs → lv_has ls 1 [(0, .ref (gx_m E))] → W p l e (gRm 2 0 0) s m args below meth c H locs 0 0 (MQ below (gQ none (gM E M') (gx_A E)) args s 0 0 (gx_A E)) (F0 m 95 ls [.int s1, .ref (gx_m E)]) := by
    intro s1 M H locs ls h hM hS hl
    unfold mm_readNumber_J95 at h
    obtain ⟨M95, e95, h⟩ := g_bd h
    refine mp_token dX2_readNumber_95 S hE hM hS e95 (fun H locs hM hS => ?_)
    exact m_vretW dX2_readNumber_98 S hr hk hM hS h
  have L5 : ∀ (n : Nat) (M : MM) (H : Heap) (locs : List Loc) (ls : Array Slot), mm_readNumber_L5 n M = some M' → gM E M H → va_S (gx_A E) s.heap H locs → lv_has ls 1 [(0, .ref (gx_m E))] → W p l e (gRm 2 0 0) s m args below meth c H locs 0 0 (MQ below (gQ none (gM E M') (gx_A E)) args s 0 0 (gx_A E)) (F0 m 5 ls []) := by
    intro n5
    induction n5 with
    | zero =>
      intro M H locs ls h
      cases h
    | succ n5 ih5 =>
      have J60 : ∀ (s1 : Int32) (M : MM) (H : Heap) (locs : List Loc) (ls : Array Slot), mm_readNumber_J60 (mm_readNumber_L5 n5) s1 M = some M' → gM E M H → va_S (gx_A E) s.heap H locs → lv_has ls 1 [(0, .ref (gx_m E))] → W p l e (gRm 2 0 0) s m args below meth c H locs 0 0 (MQ below (gQ none (gM E M') (gx_A E)) args s 0 0 (gx_A E)) (F0 m 60 ls [.int s1, .ref (gx_m E)]) := by
        intro s1 M H locs ls h hM hS hl
        unfold mm_readNumber_J60 at h
        obtain ⟨M60, e60, h⟩ := g_bd h
        refine mp_number dX2_readNumber_60 S hE hM hS e60 (fun H locs hM hS => ?_)
        refine lv_aload_n hx hb dX2_readNumber_63 rfl (lv_at hl 0 rfl) ?_
        refine lv_dup hx hb dX2_readNumber_64 rfl ?_
        refine mg_at dX2_readNumber_65 S hE hM ?_
        refine lv_iconst (v := 1) hx hb dX2_readNumber_68 (by decide) ?_
        refine lv_iadd hx hb dX2_readNumber_69 ?_
        obtain ⟨M70, e70, h⟩ := g_bd h
        refine mp_at dX2_readNumber_70 S hE hM hS e70 (fun H locs hM hS => ?_)
        refine lv_goto (tgt := 5) hx hb dX2_readNumber_73 (by decide) ?_
        exact ih5 M70 _ _ _ h hM hS (lv_sub hl [0] rfl)
      intro M H locs ls h hM hS hl
      have h : mm_readNumber_B5 (mm_readNumber_L5 n5) M = some M' := h
      unfold mm_readNumber_B5 at h
      refine lv_aload_n hx hb dX2_readNumber_5 rfl (lv_at hl 0 rfl) ?_
      refine lv_aload_n hx hb dX2_readNumber_6 rfl (lv_at hl 0 rfl) ?_
      refine mg_at dX2_readNumber_7 S hE hM ?_
      obtain ⟨v10, e10, h⟩ := g_bd h
      refine m_cV (y := yX2_byteAt) (rest := []) dX2_readNumber_10 q3068 q3070 qs59 q3071 hm_byteAt S hE hM hS hl.1 rfl (wm_byteAt E l _ _ _ e10) rfl (Nat.le_of_ble_eq_true rfl) ⟨Nat.le_of_ble_eq_true rfl, Nat.le_of_ble_eq_true rfl⟩ ⟨Nat.le_refl 0, Nat.le_refl 0⟩ (fun H locs hM hS => ?_)
      obtain ⟨v13, e13, h⟩ := g_bd h
      refine m_cS (y := yX2_isDigit) (rest := []) dX2_readNumber_13 q3072 q3073 q3074 hm_isDigit S hE hM hS hl.1 rfl (wm_isDigit E l _ _ _ e13) rfl (Nat.le_of_ble_eq_true rfl) ⟨Nat.le_of_ble_eq_true rfl, Nat.le_of_ble_eq_true rfl⟩ ⟨Nat.le_refl 0, Nat.le_refl 0⟩ (fun H locs hM hS => ?_)
      refine lv_if_eq (tgt := 76) hx hb dX2_readNumber_16 (by decide) (fun c16 => ?_) (fun c16 => ?_)
      · have h := g_it c16 h
        refine lv_aload_n hx hb dX2_readNumber_76 rfl (lv_at hl 0 rfl) ?_
        refine lv_aload_n hx hb dX2_readNumber_77 rfl (lv_at hl 0 rfl) ?_
        refine mg_at dX2_readNumber_78 S hE hM ?_
        refine lv_aload_n hx hb dX2_readNumber_81 rfl (lv_at hl 0 rfl) ?_
        refine mg_begins dX2_readNumber_82 S hE hM ?_
        refine lv_isub hx hb dX2_readNumber_85 ?_
        refine lv_iconst (v := 4) hx hb dX2_readNumber_86 (by decide) ?_
        refine lv_icmp_le (tgt := 94) hx hb dX2_readNumber_87 (by decide) (fun c87 => ?_) (fun c87 => ?_)
        · have h := g_it c87 h
          refine lv_iconst (v := 2) hx hb dX2_readNumber_94 (by decide) ?_
          exact J95 2 M _ _ _ h hM hS (lv_sub hl [0] rfl)
        · have h := g_if c87 h
          refine lv_iconst (v := 4) hx hb dX2_readNumber_90 (by decide) ?_
          refine lv_goto (tgt := 95) hx hb dX2_readNumber_91 (by decide) ?_
          exact J95 4 M _ _ _ h hM hS (lv_sub hl [0] rfl)
      · have h := g_if c16 h
        refine lv_aload_n hx hb dX2_readNumber_19 rfl (lv_at hl 0 rfl) ?_
        refine lv_aload_n hx hb dX2_readNumber_20 rfl (lv_at hl 0 rfl) ?_
        refine mg_at dX2_readNumber_21 S hE hM ?_
        refine lv_aload_n hx hb dX2_readNumber_24 rfl (lv_at hl 0 rfl) ?_
        refine mg_begins dX2_readNumber_25 S hE hM ?_
        refine lv_isub hx hb dX2_readNumber_28 ?_
        refine lv_iconst (v := 4) hx hb dX2_readNumber_29 (by decide) ?_
        refine lv_icmp_ge (tgt := 56) hx hb dX2_readNumber_30 (by decide) (fun c30 => ?_) (fun c30 => ?_)
        · have h := g_it c30 h
          refine lv_aload_n hx hb dX2_readNumber_56 rfl (lv_at hl 0 rfl) ?_
          refine mg_number dX2_readNumber_57 S hE hM ?_
          exact J60 (M 10 0) M _ _ _ h hM hS (lv_sub hl [0] rfl)
        · have h := g_if c30 h
          refine lv_bipush (v := 10) hx hb dX2_readNumber_33 (by decide) ?_
          refine lv_aload_n hx hb dX2_readNumber_35 rfl (lv_at hl 0 rfl) ?_
          refine mg_number dX2_readNumber_36 S hE hM ?_
          refine lv_imul hx hb dX2_readNumber_39 ?_
          refine lv_aload_n hx hb dX2_readNumber_40 rfl (lv_at hl 0 rfl) ?_
          refine ma_text dX2_readNumber_41 S hE hM ?_
          refine lv_aload_n hx hb dX2_readNumber_44 rfl (lv_at hl 0 rfl) ?_
          refine mg_at dX2_readNumber_45 S hE hM ?_
          obtain ⟨v48, e48, h⟩ := g_bd h
          refine m_ald 4 dX2_readNumber_48 (by decide) rfl S hE hM e48 ?_
          refine lv_iadd hx hb dX2_readNumber_49 ?_
          refine lv_bipush (v := 48) hx hb dX2_readNumber_50 (by decide) ?_
          refine lv_isub hx hb dX2_readNumber_52 ?_
          refine lv_goto (tgt := 60) hx hb dX2_readNumber_53 (by decide) ?_
          exact J60 (((10 * (M 10 0)) + v48) - 48) M _ _ _ h hM hS (lv_sub hl [0] rfl)
  unfold mm_readNumber at h
  refine lv_aload_n hx hb dX2_readNumber_0 rfl (lv_at hl 0 rfl) ?_
  refine lv_iconst (v := 0) hx hb dX2_readNumber_1 (by decide) ?_
  obtain ⟨M2, e2, h⟩ := g_bd h
  refine mp_number dX2_readNumber_2 S hE hM hS e2 (fun H locs hM hS => ?_)
  exact L5 gF M2 _ _ _ h hM hS (lv_sub hl [0] rfl)
theorem hm_readSign : yX2_readSign.cls = RX2 ∧ yX2_readSign.cls ≠ "java/lang/invoke/MethodHandle" ∧ yX2_readSign.cls ≠ "java/lang/invoke/VarHandle" ∧ (parseMethodDescriptor yX2_readSign.desc).map (fun d => d.parameters.length) = some 1 := by decide +kernel
set_option maxHeartbeats 4000000 in
set_option maxRecDepth 100000 in
theorem wm_readSign (E : gX) (l : Launch) (x1 : Int32) (M M' : MM) (h : mm_readSign x1 M = some M') : gMet E l yX2_readSign cX2_readSign 4 none 2 0 0 (gx_A E) [.ref (gx_m E), .int x1] (gM E M) (gM E M') none := by
  refine gMet.of (own := RX2) (by decide +kernel) (Nat.le_of_ble_eq_true rfl) rfl ?_
  intro p e s m args below meth c S hr hk hnm hE hM hS ls hl
  have hl : lv_has ls 4 [(0, .ref (gx_m E)), (1, .int x1)] := hl
  have hx := S.1
  have hb := S.2.1
  have J182 : ∀ (s1 : Int32) (M : MM) (H : Heap) (locs : List Loc) (ls : Array Slot), mm_readSign_J182 s1 M = some M' → gM E M H → va_S (gx_A E) s.heap H locs → lv_has ls 4 [(0, .ref (gx_m E))] → W p l e (gRm 2 0 0) s m args below meth c H locs 0 0 (MQ below (gQ none (gM E M') (gx_A E)) args s 0 0 (gx_A E)) (F0 m 182 ls [.int s1, .ref (gx_m E)]) := by
    intro s1 M H locs ls h hM hS hl
    unfold mm_readSign_J182 at h
    obtain ⟨M182, e182, h⟩ := g_bd h
    refine mp_number dX2_readSign_182 S hE hM hS e182 (fun H locs hM hS => ?_)
    exact m_vretW dX2_readSign_185 S hr hk hM hS h
  have J165 : ∀ (x1 x2 s1 : Int32) (M : MM) (H : Heap) (locs : List Loc) (ls : Array Slot), mm_readSign_J165 x1 x2 s1 M = some M' → gM E M H → va_S (gx_A E) s.heap H locs → lv_has ls 4 [(0, .ref (gx_m E)), (1, .int x1), (2, .int x2)] → W p l e (gRm 2 0 0) s m args below meth c H locs 0 0 (MQ below (gQ none (gM E M') (gx_A E)) args s 0 0 (gx_A E)) (F0 m 165 ls [.int s1, .ref (gx_m E)]) := by
    intro x1 x2 s1 M H locs ls h hM hS hl
    unfold mm_readSign_J165 at h
    obtain ⟨M165, e165, h⟩ := g_bd h
    refine mp_token dX2_readSign_165 S hE hM hS e165 (fun H locs hM hS => ?_)
    refine lv_aload_n hx hb dX2_readSign_168 rfl (lv_at hl 0 rfl) ?_
    refine lv_iload_n hx hb dX2_readSign_169 rfl (lv_at hl 2 rfl) ?_
    refine lv_if_eq (tgt := 181) hx hb dX2_readSign_170 (by decide) (fun c170 => ?_) (fun c170 => ?_)
    · have h := g_it c170 h
      refine lv_iload_n hx hb dX2_readSign_181 rfl (lv_at hl 1 rfl) ?_
      exact J182 x1 M165 _ _ _ h hM hS (lv_sub hl [0] rfl)
    · have h := g_if c170 h
      refine lv_sipush (v := 256) hx hb dX2_readSign_173 (by decide) ?_
      refine lv_iload_n hx hb dX2_readSign_176 rfl (lv_at hl 1 rfl) ?_
      refine lv_iadd hx hb dX2_readSign_177 ?_
      refine lv_goto (tgt := 182) hx hb dX2_readSign_178 (by decide) ?_
      exact J182 (256 + x1) M165 _ _ _ h hM hS (lv_sub hl [0] rfl)
  have J160 : ∀ (x1 x2 : Int32) (M : MM) (H : Heap) (locs : List Loc) (ls : Array Slot), mm_readSign_J160 x1 x2 M = some M' → gM E M H → va_S (gx_A E) s.heap H locs → lv_has ls 4 [(0, .ref (gx_m E)), (1, .int x1), (2, .int x2)] → W p l e (gRm 2 0 0) s m args below meth c H locs 0 0 (MQ below (gQ none (gM E M') (gx_A E)) args s 0 0 (gx_A E)) (F0 m 160 ls [.ref (gx_m E)]) := by
    intro x1 x2 M H locs ls h hM hS hl
    unfold mm_readSign_J160 at h
    refine lv_iconst (v := 3) hx hb dX2_readSign_160 (by decide) ?_
    refine lv_goto (tgt := 165) hx hb dX2_readSign_161 (by decide) ?_
    exact J165 x1 x2 3 M _ _ _ h hM hS (lv_sub hl [0, 1, 2] rfl)
  have J150 : ∀ (x1 x2 s0 : Int32) (M : MM) (H : Heap) (locs : List Loc) (ls : Array Slot), mm_readSign_J150 x1 x2 s0 M = some M' → gM E M H → va_S (gx_A E) s.heap H locs → lv_has ls 4 [(0, .ref (gx_m E)), (1, .int x1), (2, .int x2)] → W p l e (gRm 2 0 0) s m args below meth c H locs 0 0 (MQ below (gQ none (gM E M') (gx_A E)) args s 0 0 (gx_A E)) (F0 m 150 ls [.int s0]) := by
    intro x1 x2 s0 M H locs ls h hM hS hl
    unfold mm_readSign_J150 at h
    refine lv_istore_n (lv' := [(3, .int s0), (0, .ref (gx_m E)), (1, .int x1), (2, .int x2)]) hx hb dX2_readSign_150 rfl hl (by decide) rfl (fun ls hl => ?_)
    refine lv_aload_n hx hb dX2_readSign_151 rfl (lv_at hl 1 rfl) ?_
    refine lv_iload_n hx hb dX2_readSign_152 rfl (lv_at hl 0 rfl) ?_
    refine lv_if_ne (tgt := 160) hx hb dX2_readSign_153 (by decide) (fun c153 => ?_) (fun c153 => ?_)
    · have h := g_if c153 h
      exact J160 x1 x2 M _ _ _ h hM hS (lv_sub hl [1, 2, 3] rfl)
    · have h := g_it c153 h
      refine lv_iload_n hx hb dX2_readSign_156 rfl (lv_at hl 3 rfl) ?_
      refine lv_if_eq (tgt := 164) hx hb dX2_readSign_157 (by decide) (fun c157 => ?_) (fun c157 => ?_)
      · have h := g_it c157 h
        refine lv_iconst (v := 4) hx hb dX2_readSign_164 (by decide) ?_
        exact J165 x1 x2 4 M _ _ _ h hM hS (lv_sub hl [1, 2, 3] rfl)
      · have h := g_if c157 h
        exact J160 x1 x2 M _ _ _ h hM hS (lv_sub hl [1, 2, 3] rfl)
  have J145 : ∀ (x1 x2 : Int32) (M : MM) (H : Heap) (locs : List Loc) (ls : Array Slot), mm_readSign_J145 x1 x2 M = some M' → gM E M H → va_S (gx_A E) s.heap H locs → lv_has ls 4 [(0, .ref (gx_m E)), (1, .int x1), (2, .int x2)] → W p l e (gRm 2 0 0) s m args below meth c H locs 0 0 (MQ below (gQ none (gM E M') (gx_A E)) args s 0 0 (gx_A E)) (F0 m 145 ls []) := by
    intro x1 x2 M H locs ls h hM hS hl
    unfold mm_readSign_J145 at h
    refine lv_iconst (v := 1) hx hb dX2_readSign_145 (by decide) ?_
    refine lv_goto (tgt := 150) hx hb dX2_readSign_146 (by decide) ?_
    exact J150 x1 x2 1 M _ _ _ h hM hS (lv_sub hl [0, 1, 2] rfl)
  have J67 : ∀ (x1 x2 : Int32) (M : MM) (H : Heap) (locs : List Loc) (ls : Array Slot), mm_readSign_J67 x1 x2 M = some M' → gM E M H → va_S (gx_A E) s.heap H locs → lv_has ls 4 [(0, .ref (gx_m E)), (1, .int x1), (2, .int x2)] → W p l e (gRm 2 0 0) s m args below meth c H locs 0 0 (MQ below (gQ none (gM E M') (gx_A E)) args s 0 0 (gx_A E)) (F0 m 67 ls []) := by
    intro x1 x2 M H locs ls h hM hS hl
    unfold mm_readSign_J67 at h
    refine lv_iload_n hx hb dX2_readSign_67 rfl (lv_at hl 1 rfl) ?_
    refine lv_bipush (v := 123) hx hb dX2_readSign_68 (by decide) ?_
    refine lv_icmp_eq (tgt := 145) hx hb dX2_readSign_70 (by decide) (fun c70 => ?_) (fun c70 => ?_)
    · have h := g_it c70 h
      exact J145 x1 x2 M _ _ _ h hM hS (lv_sub hl [0, 1, 2] rfl)
    · have h := g_if c70 h
      refine lv_iload_n hx hb dX2_readSign_73 rfl (lv_at hl 1 rfl) ?_
      refine lv_bipush (v := 125) hx hb dX2_readSign_74 (by decide) ?_
      refine lv_icmp_eq (tgt := 145) hx hb dX2_readSign_76 (by decide) (fun c76 => ?_) (fun c76 => ?_)
      · have h := g_it c76 h
        exact J145 x1 x2 M _ _ _ h hM hS (lv_sub hl [0, 1, 2] rfl)
      · have h := g_if c76 h
        refine lv_iload_n hx hb dX2_readSign_79 rfl (lv_at hl 1 rfl) ?_
        refine lv_bipush (v := 40) hx hb dX2_readSign_80 (by decide) ?_
        refine lv_icmp_eq (tgt := 145) hx hb dX2_readSign_82 (by decide) (fun c82 => ?_) (fun c82 => ?_)
        · have h := g_it c82 h
          exact J145 x1 x2 M _ _ _ h hM hS (lv_sub hl [0, 1, 2] rfl)
        · have h := g_if c82 h
          refine lv_iload_n hx hb dX2_readSign_85 rfl (lv_at hl 1 rfl) ?_
          refine lv_bipush (v := 41) hx hb dX2_readSign_86 (by decide) ?_
          refine lv_icmp_eq (tgt := 145) hx hb dX2_readSign_88 (by decide) (fun c88 => ?_) (fun c88 => ?_)
          · have h := g_it c88 h
            exact J145 x1 x2 M _ _ _ h hM hS (lv_sub hl [0, 1, 2] rfl)
          · have h := g_if c88 h
            refine lv_iload_n hx hb dX2_readSign_91 rfl (lv_at hl 1 rfl) ?_
            refine lv_bipush (v := 59) hx hb dX2_readSign_92 (by decide) ?_
            refine lv_icmp_eq (tgt := 145) hx hb dX2_readSign_94 (by decide) (fun c94 => ?_) (fun c94 => ?_)
            · have h := g_it c94 h
              exact J145 x1 x2 M _ _ _ h hM hS (lv_sub hl [0, 1, 2] rfl)
            · have h := g_if c94 h
              refine lv_iload_n hx hb dX2_readSign_97 rfl (lv_at hl 1 rfl) ?_
              refine lv_bipush (v := 46) hx hb dX2_readSign_98 (by decide) ?_
              refine lv_icmp_eq (tgt := 145) hx hb dX2_readSign_100 (by decide) (fun c100 => ?_) (fun c100 => ?_)
              · have h := g_it c100 h
                exact J145 x1 x2 M _ _ _ h hM hS (lv_sub hl [0, 1, 2] rfl)
              · have h := g_if c100 h
                refine lv_iload_n hx hb dX2_readSign_103 rfl (lv_at hl 1 rfl) ?_
                refine lv_bipush (v := 43) hx hb dX2_readSign_104 (by decide) ?_
                refine lv_icmp_eq (tgt := 145) hx hb dX2_readSign_106 (by decide) (fun c106 => ?_) (fun c106 => ?_)
                · have h := g_it c106 h
                  exact J145 x1 x2 M _ _ _ h hM hS (lv_sub hl [0, 1, 2] rfl)
                · have h := g_if c106 h
                  refine lv_iload_n hx hb dX2_readSign_109 rfl (lv_at hl 1 rfl) ?_
                  refine lv_bipush (v := 45) hx hb dX2_readSign_110 (by decide) ?_
                  refine lv_icmp_eq (tgt := 145) hx hb dX2_readSign_112 (by decide) (fun c112 => ?_) (fun c112 => ?_)
                  · have h := g_it c112 h
                    exact J145 x1 x2 M _ _ _ h hM hS (lv_sub hl [0, 1, 2] rfl)
                  · have h := g_if c112 h
                    refine lv_iload_n hx hb dX2_readSign_115 rfl (lv_at hl 1 rfl) ?_
                    refine lv_bipush (v := 42) hx hb dX2_readSign_116 (by decide) ?_
                    refine lv_icmp_eq (tgt := 145) hx hb dX2_readSign_118 (by decide) (fun c118 => ?_) (fun c118 => ?_)
                    · have h := g_it c118 h
                      exact J145 x1 x2 M _ _ _ h hM hS (lv_sub hl [0, 1, 2] rfl)
                    · have h := g_if c118 h
                      refine lv_iload_n hx hb dX2_readSign_121 rfl (lv_at hl 1 rfl) ?_
                      refine lv_bipush (v := 47) hx hb dX2_readSign_122 (by decide) ?_
                      refine lv_icmp_eq (tgt := 145) hx hb dX2_readSign_124 (by decide) (fun c124 => ?_) (fun c124 => ?_)
                      · have h := g_it c124 h
                        exact J145 x1 x2 M _ _ _ h hM hS (lv_sub hl [0, 1, 2] rfl)
                      · have h := g_if c124 h
                        refine lv_iload_n hx hb dX2_readSign_127 rfl (lv_at hl 1 rfl) ?_
                        refine lv_bipush (v := 60) hx hb dX2_readSign_128 (by decide) ?_
                        refine lv_icmp_eq (tgt := 145) hx hb dX2_readSign_130 (by decide) (fun c130 => ?_) (fun c130 => ?_)
                        · have h := g_it c130 h
                          exact J145 x1 x2 M _ _ _ h hM hS (lv_sub hl [0, 1, 2] rfl)
                        · have h := g_if c130 h
                          refine lv_iload_n hx hb dX2_readSign_133 rfl (lv_at hl 1 rfl) ?_
                          refine lv_bipush (v := 62) hx hb dX2_readSign_134 (by decide) ?_
                          refine lv_icmp_eq (tgt := 145) hx hb dX2_readSign_136 (by decide) (fun c136 => ?_) (fun c136 => ?_)
                          · have h := g_it c136 h
                            exact J145 x1 x2 M _ _ _ h hM hS (lv_sub hl [0, 1, 2] rfl)
                          · have h := g_if c136 h
                            refine lv_iload_n hx hb dX2_readSign_139 rfl (lv_at hl 1 rfl) ?_
                            refine lv_bipush (v := 61) hx hb dX2_readSign_140 (by decide) ?_
                            refine lv_icmp_ne (tgt := 149) hx hb dX2_readSign_142 (by decide) (fun c142 => ?_) (fun c142 => ?_)
                            · have h := g_if c142 h
                              refine lv_iconst (v := 0) hx hb dX2_readSign_149 (by decide) ?_
                              exact J150 x1 x2 0 M _ _ _ h hM hS (lv_sub hl [0, 1, 2] rfl)
                            · have h := g_it c142 h
                              exact J145 x1 x2 M _ _ _ h hM hS (lv_sub hl [0, 1, 2] rfl)
  have J52 : ∀ (x1 s0 : Int32) (M : MM) (H : Heap) (locs : List Loc) (ls : Array Slot), mm_readSign_J52 x1 s0 M = some M' → gM E M H → va_S (gx_A E) s.heap H locs → lv_has ls 4 [(0, .ref (gx_m E)), (1, .int x1)] → W p l e (gRm 2 0 0) s m args below meth c H locs 0 0 (MQ below (gQ none (gM E M') (gx_A E)) args s 0 0 (gx_A E)) (F0 m 52 ls [.int s0]) := by
    intro x1 s0 M H locs ls h hM hS hl
    unfold mm_readSign_J52 at h
    refine lv_istore_n (lv' := [(2, .int s0), (0, .ref (gx_m E)), (1, .int x1)]) hx hb dX2_readSign_52 rfl hl (by decide) rfl (fun ls hl => ?_)
    refine lv_iload_n hx hb dX2_readSign_53 rfl (lv_at hl 0 rfl) ?_
    refine lv_if_eq (tgt := 67) hx hb dX2_readSign_54 (by decide) (fun c54 => ?_) (fun c54 => ?_)
    · have h := g_it c54 h
      exact J67 x1 s0 M _ _ _ h hM hS (lv_sub hl [1, 2, 0] rfl)
    · have h := g_if c54 h
      refine lv_aload_n hx hb dX2_readSign_57 rfl (lv_at hl 1 rfl) ?_
      refine lv_dup hx hb dX2_readSign_58 rfl ?_
      refine mg_at dX2_readSign_59 S hE hM ?_
      refine lv_iconst (v := 1) hx hb dX2_readSign_62 (by decide) ?_
      refine lv_iadd hx hb dX2_readSign_63 ?_
      obtain ⟨M64, e64, h⟩ := g_bd h
      refine mp_at dX2_readSign_64 S hE hM hS e64 (fun H locs hM hS => ?_)
      exact J67 x1 s0 M64 _ _ _ h hM hS (lv_sub hl [1, 2, 0] rfl)
  have J51 : ∀ (x1 : Int32) (M : MM) (H : Heap) (locs : List Loc) (ls : Array Slot), mm_readSign_J51 x1 M = some M' → gM E M H → va_S (gx_A E) s.heap H locs → lv_has ls 4 [(0, .ref (gx_m E)), (1, .int x1)] → W p l e (gRm 2 0 0) s m args below meth c H locs 0 0 (MQ below (gQ none (gM E M') (gx_A E)) args s 0 0 (gx_A E)) (F0 m 51 ls []) := by
    intro x1 M H locs ls h hM hS hl
    unfold mm_readSign_J51 at h
    refine lv_iconst (v := 0) hx hb dX2_readSign_51 (by decide) ?_
    exact J52 x1 0 M _ _ _ h hM hS (lv_sub hl [0, 1] rfl)
  have J34 : ∀ (x1 : Int32) (M : MM) (H : Heap) (locs : List Loc) (ls : Array Slot), mm_readSign_J34 x1 M = some M' → gM E M H → va_S (gx_A E) s.heap H locs → lv_has ls 4 [(0, .ref (gx_m E)), (1, .int x1)] → W p l e (gRm 2 0 0) s m args below meth c H locs 0 0 (MQ below (gQ none (gM E M') (gx_A E)) args s 0 0 (gx_A E)) (F0 m 34 ls []) := by
    intro x1 M H locs ls h hM hS hl
    unfold mm_readSign_J34 at h
    refine lv_aload_n hx hb dX2_readSign_34 rfl (lv_at hl 0 rfl) ?_
    refine lv_aload_n hx hb dX2_readSign_35 rfl (lv_at hl 0 rfl) ?_
    refine mg_at dX2_readSign_36 S hE hM ?_
    obtain ⟨v39, e39, h⟩ := g_bd h
    refine m_cV (y := yX2_byteAt) (rest := []) dX2_readSign_39 q3068 q3070 qs59 q3071 hm_byteAt S hE hM hS hl.1 rfl (wm_byteAt E l _ _ _ e39) rfl (Nat.le_of_ble_eq_true rfl) ⟨Nat.le_of_ble_eq_true rfl, Nat.le_of_ble_eq_true rfl⟩ ⟨Nat.le_refl 0, Nat.le_refl 0⟩ (fun H locs hM hS => ?_)
    refine lv_bipush (v := 61) hx hb dX2_readSign_42 (by decide) ?_
    refine lv_icmp_ne (tgt := 51) hx hb dX2_readSign_44 (by decide) (fun c44 => ?_) (fun c44 => ?_)
    · have h := g_if c44 h
      exact J51 x1 M _ _ _ h hM hS (lv_sub hl [0, 1] rfl)
    · have h := g_it c44 h
      refine lv_iconst (v := 1) hx hb dX2_readSign_47 (by decide) ?_
      refine lv_goto (tgt := 52) hx hb dX2_readSign_48 (by decide) ?_
      exact J52 x1 1 M _ _ _ h hM hS (lv_sub hl [0, 1] rfl)
  unfold mm_readSign at h
  refine lv_aload_n hx hb dX2_readSign_0 rfl (lv_at hl 0 rfl) ?_
  refine lv_dup hx hb dX2_readSign_1 rfl ?_
  refine mg_at dX2_readSign_2 S hE hM ?_
  refine lv_iconst (v := 1) hx hb dX2_readSign_5 (by decide) ?_
  refine lv_iadd hx hb dX2_readSign_6 ?_
  obtain ⟨M7, e7, h⟩ := g_bd h
  refine mp_at dX2_readSign_7 S hE hM hS e7 (fun H locs hM hS => ?_)
  refine lv_iload_n hx hb dX2_readSign_10 rfl (lv_at hl 1 rfl) ?_
  refine lv_bipush (v := 60) hx hb dX2_readSign_11 (by decide) ?_
  refine lv_icmp_eq (tgt := 34) hx hb dX2_readSign_13 (by decide) (fun c13 => ?_) (fun c13 => ?_)
  · have h := g_it c13 h
    exact J34 x1 M7 _ _ _ h hM hS (lv_sub hl [0, 1] rfl)
  · have h := g_if c13 h
    refine lv_iload_n hx hb dX2_readSign_16 rfl (lv_at hl 1 rfl) ?_
    refine lv_bipush (v := 62) hx hb dX2_readSign_17 (by decide) ?_
    refine lv_icmp_eq (tgt := 34) hx hb dX2_readSign_19 (by decide) (fun c19 => ?_) (fun c19 => ?_)
    · have h := g_it c19 h
      exact J34 x1 M7 _ _ _ h hM hS (lv_sub hl [0, 1] rfl)
    · have h := g_if c19 h
      refine lv_iload_n hx hb dX2_readSign_22 rfl (lv_at hl 1 rfl) ?_
      refine lv_bipush (v := 61) hx hb dX2_readSign_23 (by decide) ?_
      refine lv_icmp_eq (tgt := 34) hx hb dX2_readSign_25 (by decide) (fun c25 => ?_) (fun c25 => ?_)
      · have h := g_it c25 h
        exact J34 x1 M7 _ _ _ h hM hS (lv_sub hl [0, 1] rfl)
      · have h := g_if c25 h
        refine lv_iload_n hx hb dX2_readSign_28 rfl (lv_at hl 1 rfl) ?_
        refine lv_bipush (v := 33) hx hb dX2_readSign_29 (by decide) ?_
        refine lv_icmp_ne (tgt := 51) hx hb dX2_readSign_31 (by decide) (fun c31 => ?_) (fun c31 => ?_)
        · have h := g_if c31 h
          exact J51 x1 M7 _ _ _ h hM hS (lv_sub hl [0, 1] rfl)
        · have h := g_it c31 h
          exact J34 x1 M7 _ _ _ h hM hS (lv_sub hl [0, 1] rfl)
theorem hm_cut : yX2_cut.cls = RX2 ∧ yX2_cut.cls ≠ "java/lang/invoke/MethodHandle" ∧ yX2_cut.cls ≠ "java/lang/invoke/VarHandle" ∧ (parseMethodDescriptor yX2_cut.desc).map (fun d => d.parameters.length) = some 0 := by decide +kernel
set_option maxHeartbeats 4000000 in
set_option maxRecDepth 100000 in
theorem wm_cut (E : gX) (l : Launch) (M M' : MM) (h : mm_cut M = some M') : gMet E l yX2_cut cX2_cut 2 none 9 0 0 (gx_A E) [.ref (gx_m E)] (gM E M) (gM E M') none := by
  refine gMet.of (own := RX2) (by decide +kernel) (Nat.le_of_ble_eq_true rfl) rfl ?_
  intro p e s m args below meth c S hr hk hnm hE hM hS ls hl
  have hl : lv_has ls 2 [(0, .ref (gx_m E))] := hl
  have hx := S.1
  have hb := S.2.1
  have J133 : ∀ (M : MM) (H : Heap) (locs : List Loc) (ls : Array Slot), mm_cut_J133 M = some M' → gM E M H → va_S (gx_A E) s.heap H locs → lv_has ls 2 [(0, .ref (gx_m E))] → W p l e (gRm 9 0 0) s m args below meth c H locs 0 0 (MQ below (gQ none (gM E M') (gx_A E)) args s 0 0 (gx_A E)) (F0 m 133 ls []) := by
    intro M H locs ls h hM hS hl
    unfold mm_cut_J133 at h
    refine lv_aload_n hx hb dX2_cut_133 rfl (lv_at hl 0 rfl) ?_
    refine lv_aload_n hx hb dX2_cut_134 rfl (lv_at hl 0 rfl) ?_
    refine mg_at dX2_cut_135 S hE hM ?_
    obtain ⟨M138, e138, h⟩ := g_bd h
    refine mp_ends dX2_cut_138 S hE hM hS e138 (fun H locs hM hS => ?_)
    exact m_vretW dX2_cut_141 S hr hk hM hS h
  have J52 : ∀ (M : MM) (H : Heap) (locs : List Loc) (ls : Array Slot), mm_cut_J52 M = some M' → gM E M H → va_S (gx_A E) s.heap H locs → lv_has ls 2 [(0, .ref (gx_m E))] → W p l e (gRm 9 0 0) s m args below meth c H locs 0 0 (MQ below (gQ none (gM E M') (gx_A E)) args s 0 0 (gx_A E)) (F0 m 52 ls []) := by
    intro M H locs ls h hM hS hl
    unfold mm_cut_J52 at h
    refine lv_aload_n hx hb dX2_cut_52 rfl (lv_at hl 0 rfl) ?_
    refine lv_aload_n hx hb dX2_cut_53 rfl (lv_at hl 0 rfl) ?_
    refine mg_at dX2_cut_54 S hE hM ?_
    obtain ⟨M57, e57, h⟩ := g_bd h
    refine mp_begins dX2_cut_57 S hE hM hS e57 (fun H locs hM hS => ?_)
    refine lv_aload_n hx hb dX2_cut_60 rfl (lv_at hl 0 rfl) ?_
    refine lv_iconst (v := (-1)) hx hb dX2_cut_61 (by decide) ?_
    obtain ⟨M62, e62, h⟩ := g_bd h
    refine mp_word dX2_cut_62 S hE hM hS e62 (fun H locs hM hS => ?_)
    refine lv_aload_n hx hb dX2_cut_65 rfl (lv_at hl 0 rfl) ?_
    refine mg_at dX2_cut_66 S hE hM ?_
    refine lv_aload_n hx hb dX2_cut_69 rfl (lv_at hl 0 rfl) ?_
    refine mg_size dX2_cut_70 S hE hM ?_
    refine lv_icmp_ne (tgt := 90) hx hb dX2_cut_73 (by decide) (fun c73 => ?_) (fun c73 => ?_)
    · have h := g_if c73 h
      refine lv_aload_n hx hb dX2_cut_90 rfl (lv_at hl 0 rfl) ?_
      refine ma_text dX2_cut_91 S hE hM ?_
      refine lv_aload_n hx hb dX2_cut_94 rfl (lv_at hl 0 rfl) ?_
      refine mg_at dX2_cut_95 S hE hM ?_
      obtain ⟨v98, e98, h⟩ := g_bd h
      refine m_ald 4 dX2_cut_98 (by decide) rfl S hE hM e98 ?_
      refine lv_istore_n (lv' := [(1, .int v98), (0, .ref (gx_m E))]) hx hb dX2_cut_99 rfl hl (by decide) rfl (fun ls hl => ?_)
      refine lv_iload_n hx hb dX2_cut_100 rfl (lv_at hl 0 rfl) ?_
      obtain ⟨v101, e101, h⟩ := g_bd h
      refine m_cS (y := yX2_isLetter) (rest := []) dX2_cut_101 q3061 q3062 q3063 hm_isLetter S hE hM hS hl.1 rfl (wm_isLetter E l _ _ _ e101) rfl (Nat.le_of_ble_eq_true rfl) ⟨Nat.le_of_ble_eq_true rfl, Nat.le_of_ble_eq_true rfl⟩ ⟨Nat.le_refl 0, Nat.le_refl 0⟩ (fun H locs hM hS => ?_)
      refine lv_if_eq (tgt := 114) hx hb dX2_cut_104 (by decide) (fun c104 => ?_) (fun c104 => ?_)
      · have h := g_it c104 h
        refine lv_iload_n hx hb dX2_cut_114 rfl (lv_at hl 0 rfl) ?_
        obtain ⟨v115, e115, h⟩ := g_bd h
        refine m_cS (y := yX2_isDigit) (rest := []) dX2_cut_115 q3072 q3073 q3074 hm_isDigit S hE hM hS hl.1 rfl (wm_isDigit E l _ _ _ e115) rfl (Nat.le_of_ble_eq_true rfl) ⟨Nat.le_of_ble_eq_true rfl, Nat.le_of_ble_eq_true rfl⟩ ⟨Nat.le_refl 0, Nat.le_refl 0⟩ (fun H locs hM hS => ?_)
        refine lv_if_eq (tgt := 128) hx hb dX2_cut_118 (by decide) (fun c118 => ?_) (fun c118 => ?_)
        · have h := g_it c118 h
          refine lv_aload_n hx hb dX2_cut_128 rfl (lv_at hl 1 rfl) ?_
          refine lv_iload_n hx hb dX2_cut_129 rfl (lv_at hl 0 rfl) ?_
          obtain ⟨M130, e130, h⟩ := g_bd h
          refine m_cV (y := yX2_readSign) (rest := []) dX2_cut_130 q3081 q3083 qs61 q3084 hm_readSign S hE hM hS hl.1 rfl (wm_readSign E l _ _ _ e130) rfl (Nat.le_of_ble_eq_true rfl) ⟨Nat.le_of_ble_eq_true rfl, Nat.le_of_ble_eq_true rfl⟩ ⟨Nat.le_refl 0, Nat.le_refl 0⟩ (fun H locs hM hS => ?_)
          exact J133 M130 _ _ _ h hM hS (lv_sub hl [1] rfl)
        · have h := g_if c118 h
          refine lv_aload_n hx hb dX2_cut_121 rfl (lv_at hl 1 rfl) ?_
          obtain ⟨M122, e122, h⟩ := g_bd h
          refine m_cV (y := yX2_readNumber) (rest := []) dX2_cut_122 q3077 q3079 qs60 q3080 hm_readNumber S hE hM hS hl.1 rfl (wm_readNumber E l _ _ e122) rfl (Nat.le_of_ble_eq_true rfl) ⟨Nat.le_of_ble_eq_true rfl, Nat.le_of_ble_eq_true rfl⟩ ⟨Nat.le_refl 0, Nat.le_refl 0⟩ (fun H locs hM hS => ?_)
          refine lv_goto (tgt := 133) hx hb dX2_cut_125 (by decide) ?_
          exact J133 M122 _ _ _ h hM hS (lv_sub hl [1] rfl)
      · have h := g_if c104 h
        refine lv_aload_n hx hb dX2_cut_107 rfl (lv_at hl 1 rfl) ?_
        obtain ⟨M108, e108, h⟩ := g_bd h
        refine m_cV (y := yX2_readWord) (rest := []) dX2_cut_108 q3064 q3066 qs58 q3067 hm_readWord S hE hM hS hl.1 rfl (wm_readWord E l _ _ e108) rfl (Nat.le_of_ble_eq_true rfl) ⟨Nat.le_of_ble_eq_true rfl, Nat.le_of_ble_eq_true rfl⟩ ⟨Nat.le_refl 0, Nat.le_refl 0⟩ (fun H locs hM hS => ?_)
        refine lv_goto (tgt := 133) hx hb dX2_cut_111 (by decide) ?_
        exact J133 M108 _ _ _ h hM hS (lv_sub hl [1] rfl)
    · have h := g_it c73 h
      refine lv_aload_n hx hb dX2_cut_76 rfl (lv_at hl 0 rfl) ?_
      refine lv_iconst (v := 0) hx hb dX2_cut_77 (by decide) ?_
      obtain ⟨M78, e78, h⟩ := g_bd h
      refine mp_token dX2_cut_78 S hE hM hS e78 (fun H locs hM hS => ?_)
      refine lv_aload_n hx hb dX2_cut_81 rfl (lv_at hl 0 rfl) ?_
      refine lv_aload_n hx hb dX2_cut_82 rfl (lv_at hl 0 rfl) ?_
      refine mg_at dX2_cut_83 S hE hM ?_
      obtain ⟨M86, e86, h⟩ := g_bd h
      refine mp_ends dX2_cut_86 S hE hM hS e86 (fun H locs hM hS => ?_)
      exact m_vretW dX2_cut_89 S hr hk hM hS h
  have L0 : ∀ (n : Nat) (M : MM) (H : Heap) (locs : List Loc) (ls : Array Slot), mm_cut_L0 n M = some M' → gM E M H → va_S (gx_A E) s.heap H locs → lv_has ls 2 [(0, .ref (gx_m E))] → W p l e (gRm 9 0 0) s m args below meth c H locs 0 0 (MQ below (gQ none (gM E M') (gx_A E)) args s 0 0 (gx_A E)) (F0 m 0 ls []) := by
    intro n0
    induction n0 with
    | zero =>
      intro M H locs ls h
      cases h
    | succ n0 ih0 =>
      have J39 : ∀ (M : MM) (H : Heap) (locs : List Loc) (ls : Array Slot), mm_cut_J39 (mm_cut_L0 n0) M = some M' → gM E M H → va_S (gx_A E) s.heap H locs → lv_has ls 2 [(0, .ref (gx_m E))] → W p l e (gRm 9 0 0) s m args below meth c H locs 0 0 (MQ below (gQ none (gM E M') (gx_A E)) args s 0 0 (gx_A E)) (F0 m 39 ls []) := by
        intro M H locs ls h hM hS hl
        unfold mm_cut_J39 at h
        refine lv_aload_n hx hb dX2_cut_39 rfl (lv_at hl 0 rfl) ?_
        refine lv_dup hx hb dX2_cut_40 rfl ?_
        refine mg_at dX2_cut_41 S hE hM ?_
        refine lv_iconst (v := 1) hx hb dX2_cut_44 (by decide) ?_
        refine lv_iadd hx hb dX2_cut_45 ?_
        obtain ⟨M46, e46, h⟩ := g_bd h
        refine mp_at dX2_cut_46 S hE hM hS e46 (fun H locs hM hS => ?_)
        refine lv_goto (tgt := 0) hx hb dX2_cut_49 (by decide) ?_
        exact ih0 M46 _ _ _ h hM hS (lv_sub hl [0] rfl)
      intro M H locs ls h hM hS hl
      have h : mm_cut_B0 (mm_cut_L0 n0) M = some M' := h
      unfold mm_cut_B0 at h
      refine lv_aload_n hx hb dX2_cut_0 rfl (lv_at hl 0 rfl) ?_
      refine mg_at dX2_cut_1 S hE hM ?_
      refine lv_aload_n hx hb dX2_cut_4 rfl (lv_at hl 0 rfl) ?_
      refine mg_size dX2_cut_5 S hE hM ?_
      refine lv_icmp_ge (tgt := 52) hx hb dX2_cut_8 (by decide) (fun c8 => ?_) (fun c8 => ?_)
      · have h := g_it c8 h
        exact J52 M _ _ _ h hM hS (lv_sub hl [0] rfl)
      · have h := g_if c8 h
        refine lv_aload_n hx hb dX2_cut_11 rfl (lv_at hl 0 rfl) ?_
        refine ma_text dX2_cut_12 S hE hM ?_
        refine lv_aload_n hx hb dX2_cut_15 rfl (lv_at hl 0 rfl) ?_
        refine mg_at dX2_cut_16 S hE hM ?_
        obtain ⟨v19, e19, h⟩ := g_bd h
        refine m_ald 4 dX2_cut_19 (by decide) rfl S hE hM e19 ?_
        refine lv_bipush (v := 10) hx hb dX2_cut_20 (by decide) ?_
        refine lv_icmp_eq (tgt := 39) hx hb dX2_cut_22 (by decide) (fun c22 => ?_) (fun c22 => ?_)
        · have h := g_it c22 h
          exact J39 M _ _ _ h hM hS (lv_sub hl [0] rfl)
        · have h := g_if c22 h
          refine lv_aload_n hx hb dX2_cut_25 rfl (lv_at hl 0 rfl) ?_
          refine ma_text dX2_cut_26 S hE hM ?_
          refine lv_aload_n hx hb dX2_cut_29 rfl (lv_at hl 0 rfl) ?_
          refine mg_at dX2_cut_30 S hE hM ?_
          obtain ⟨v33, e33, h⟩ := g_bd h
          refine m_ald 4 dX2_cut_33 (by decide) rfl S hE hM e33 ?_
          refine lv_bipush (v := 32) hx hb dX2_cut_34 (by decide) ?_
          refine lv_icmp_ne (tgt := 52) hx hb dX2_cut_36 (by decide) (fun c36 => ?_) (fun c36 => ?_)
          · have h := g_if c36 h
            exact J52 M _ _ _ h hM hS (lv_sub hl [0] rfl)
          · have h := g_it c36 h
            exact J39 M _ _ _ h hM hS (lv_sub hl [0] rfl)
  unfold mm_cut at h
  exact L0 gF M _ _ _ h hM hS (lv_sub hl [0] rfl)
theorem hm_wrong : yX2_wrong.cls = RX2 ∧ yX2_wrong.cls ≠ "java/lang/invoke/MethodHandle" ∧ yX2_wrong.cls ≠ "java/lang/invoke/VarHandle" ∧ (parseMethodDescriptor yX2_wrong.desc).map (fun d => d.parameters.length) = some 2 := by decide +kernel
set_option maxHeartbeats 4000000 in
set_option maxRecDepth 100000 in
theorem wm_wrong (E : gX) (l : Launch) (x1 x2 : Int32) (M M' : MM) (h : mm_wrong x1 x2 M = some M') : gMet E l yX2_wrong cX2_wrong 3 none 1 0 0 (gx_A E) [.ref (gx_m E), .int x1, .int x2] (gM E M) (gM E M') none := by
  refine gMet.of (own := RX2) (by decide +kernel) (Nat.le_of_ble_eq_true rfl) rfl ?_
  intro p e s m args below meth c S hr hk hnm hE hM hS ls hl
  have hl : lv_has ls 3 [(0, .ref (gx_m E)), (1, .int x1), (2, .int x2)] := hl
  have hx := S.1
  have hb := S.2.1
  unfold mm_wrong at h
  refine lv_aload_n hx hb dX2_wrong_0 rfl (lv_at hl 0 rfl) ?_
  refine mg_fault dX2_wrong_1 S hE hM ?_
  refine lv_if_ne (tgt := 17) hx hb dX2_wrong_4 (by decide) (fun c4 => ?_) (fun c4 => ?_)
  · have h := g_if c4 h
    exact m_vretW dX2_wrong_17 S hr hk hM hS h
  · have h := g_it c4 h
    refine lv_aload_n hx hb dX2_wrong_7 rfl (lv_at hl 0 rfl) ?_
    refine lv_iload_n hx hb dX2_wrong_8 rfl (lv_at hl 1 rfl) ?_
    obtain ⟨M9, e9, h⟩ := g_bd h
    refine mp_fault dX2_wrong_9 S hE hM hS e9 (fun H locs hM hS => ?_)
    refine lv_aload_n hx hb dX2_wrong_12 rfl (lv_at hl 0 rfl) ?_
    refine lv_iload_n hx hb dX2_wrong_13 rfl (lv_at hl 2 rfl) ?_
    obtain ⟨M14, e14, h⟩ := g_bd h
    refine mp_faultPlace dX2_wrong_14 S hE hM hS e14 (fun H locs hM hS => ?_)
    exact m_vretW dX2_wrong_17 S hr hk hM hS h
theorem hm_numberIn : yX2_numberIn.cls = RX2 ∧ yX2_numberIn.cls ≠ "java/lang/invoke/MethodHandle" ∧ yX2_numberIn.cls ≠ "java/lang/invoke/VarHandle" ∧ (parseMethodDescriptor yX2_numberIn.desc).map (fun d => d.parameters.length) = some 2 := by decide +kernel
set_option maxHeartbeats 4000000 in
set_option maxRecDepth 100000 in
theorem wm_numberIn (E : gX) (l : Launch) (x1 x2 : Int32) (r : Int32) (M M' : MM) (h : mm_numberIn x1 x2 M = some (r, M')) : gMet E l yX2_numberIn cX2_numberIn 4 (some .int) 10 0 0 (gx_A E) [.ref (gx_m E), .int x1, .int x2] (gM E M) (gM E M') (some (.int r)) := by
  refine gMet.of (own := RX2) (by decide +kernel) (Nat.le_of_ble_eq_true rfl) rfl ?_
  intro p e s m args below meth c S hr hk hnm hE hM hS ls hl
  have hl : lv_has ls 4 [(0, .ref (gx_m E)), (1, .int x1), (2, .int x2)] := hl
  have hx := S.1
  have hb := S.2.1
  have J43 : ∀ (x3 : Int32) (M : MM) (H : Heap) (locs : List Loc) (ls : Array Slot), mm_numberIn_J43 x3 M = some (r, M') → gM E M H → va_S (gx_A E) s.heap H locs → lv_has ls 4 [(0, .ref (gx_m E)), (3, .int x3)] → W p l e (gRm 10 0 0) s m args below meth c H locs 0 0 (MQ below (gQ (some (.int r)) (gM E M') (gx_A E)) args s 0 0 (gx_A E)) (F0 m 43 ls []) := by
    intro x3 M H locs ls h hM hS hl
    unfold mm_numberIn_J43 at h
    refine lv_aload_n hx hb dX2_numberIn_43 rfl (lv_at hl 0 rfl) ?_
    refine mg_fault dX2_numberIn_44 S hE hM ?_
    refine lv_if_ne (tgt := 54) hx hb dX2_numberIn_47 (by decide) (fun c47 => ?_) (fun c47 => ?_)
    · have h := g_if c47 h
      refine lv_iload_n hx hb dX2_numberIn_54 rfl (lv_at hl 1 rfl) ?_
      exact m_iretW dX2_numberIn_55 S hr hk hM hS h
    · have h := g_it c47 h
      refine lv_aload_n hx hb dX2_numberIn_50 rfl (lv_at hl 0 rfl) ?_
      obtain ⟨M51, e51, h⟩ := g_bd h
      refine m_cV (y := yX2_cut) (rest := []) dX2_numberIn_51 q3057 q3059 qs57 q3060 hm_cut S hE hM hS hl.1 rfl (wm_cut E l _ _ e51) rfl (Nat.le_of_ble_eq_true rfl) ⟨Nat.le_of_ble_eq_true rfl, Nat.le_of_ble_eq_true rfl⟩ ⟨Nat.le_refl 0, Nat.le_refl 0⟩ (fun H locs hM hS => ?_)
      refine lv_iload_n hx hb dX2_numberIn_54 rfl (lv_at hl 1 rfl) ?_
      exact m_iretW dX2_numberIn_55 S hr hk hM hS h
  have J34 : ∀ (x3 : Int32) (M : MM) (H : Heap) (locs : List Loc) (ls : Array Slot), mm_numberIn_J34 x3 M = some (r, M') → gM E M H → va_S (gx_A E) s.heap H locs → lv_has ls 4 [(0, .ref (gx_m E)), (3, .int x3)] → W p l e (gRm 10 0 0) s m args below meth c H locs 0 0 (MQ below (gQ (some (.int r)) (gM E M') (gx_A E)) args s 0 0 (gx_A E)) (F0 m 34 ls []) := by
    intro x3 M H locs ls h hM hS hl
    unfold mm_numberIn_J34 at h
    refine lv_aload_n hx hb dX2_numberIn_34 rfl (lv_at hl 0 rfl) ?_
    refine lv_iconst (v := 5) hx hb dX2_numberIn_35 (by decide) ?_
    refine lv_aload_n hx hb dX2_numberIn_36 rfl (lv_at hl 0 rfl) ?_
    refine mg_begins dX2_numberIn_37 S hE hM ?_
    obtain ⟨M40, e40, h⟩ := g_bd h
    refine m_cV (y := yX2_wrong) (rest := []) dX2_numberIn_40 q3089 q3091 qs63 q3092 hm_wrong S hE hM hS hl.1 rfl (wm_wrong E l _ _ _ _ e40) rfl (Nat.le_of_ble_eq_true rfl) ⟨Nat.le_of_ble_eq_true rfl, Nat.le_of_ble_eq_true rfl⟩ ⟨Nat.le_refl 0, Nat.le_refl 0⟩ (fun H locs hM hS => ?_)
    exact J43 x3 M40 _ _ _ h hM hS (lv_sub hl [0, 1] rfl)
  unfold mm_numberIn at h
  refine lv_aload_n hx hb dX2_numberIn_0 rfl (lv_at hl 0 rfl) ?_
  refine mg_token dX2_numberIn_1 S hE hM ?_
  refine lv_iconst (v := 2) hx hb dX2_numberIn_4 (by decide) ?_
  refine lv_icmp_eq (tgt := 19) hx hb dX2_numberIn_5 (by decide) (fun c5 => ?_) (fun c5 => ?_)
  · have h := g_it c5 h
    refine lv_aload_n hx hb dX2_numberIn_19 rfl (lv_at hl 0 rfl) ?_
    refine mg_number dX2_numberIn_20 S hE hM ?_
    refine lv_istore_n (lv' := [(3, .int (M 10 0)), (0, .ref (gx_m E)), (1, .int x1), (2, .int x2)]) hx hb dX2_numberIn_23 rfl hl (by decide) rfl (fun ls hl => ?_)
    refine lv_iload_n hx hb dX2_numberIn_24 rfl (lv_at hl 0 rfl) ?_
    refine lv_iload_n hx hb dX2_numberIn_25 rfl (lv_at hl 2 rfl) ?_
    refine lv_icmp_lt (tgt := 34) hx hb dX2_numberIn_26 (by decide) (fun c26 => ?_) (fun c26 => ?_)
    · have h := g_it c26 h
      exact J34 (M 10 0) M _ _ _ h hM hS (lv_sub hl [1, 0] rfl)
    · have h := g_if c26 h
      refine lv_iload_n hx hb dX2_numberIn_29 rfl (lv_at hl 0 rfl) ?_
      refine lv_iload_n hx hb dX2_numberIn_30 rfl (lv_at hl 3 rfl) ?_
      refine lv_icmp_le (tgt := 43) hx hb dX2_numberIn_31 (by decide) (fun c31 => ?_) (fun c31 => ?_)
      · have h := g_it c31 h
        exact J43 (M 10 0) M _ _ _ h hM hS (lv_sub hl [1, 0] rfl)
      · have h := g_if c31 h
        exact J34 (M 10 0) M _ _ _ h hM hS (lv_sub hl [1, 0] rfl)
  · have h := g_if c5 h
    refine lv_aload_n hx hb dX2_numberIn_8 rfl (lv_at hl 0 rfl) ?_
    refine lv_iconst (v := 1) hx hb dX2_numberIn_9 (by decide) ?_
    refine lv_aload_n hx hb dX2_numberIn_10 rfl (lv_at hl 0 rfl) ?_
    refine mg_begins dX2_numberIn_11 S hE hM ?_
    obtain ⟨M14, e14, h⟩ := g_bd h
    refine m_cV (y := yX2_wrong) (rest := []) dX2_numberIn_14 q3089 q3091 qs63 q3092 hm_wrong S hE hM hS hl.1 rfl (wm_wrong E l _ _ _ _ e14) rfl (Nat.le_of_ble_eq_true rfl) ⟨Nat.le_of_ble_eq_true rfl, Nat.le_of_ble_eq_true rfl⟩ ⟨Nat.le_refl 0, Nat.le_refl 0⟩ (fun H locs hM hS => ?_)
    refine lv_iconst (v := 0) hx hb dX2_numberIn_17 (by decide) ?_
    exact m_iretW dX2_numberIn_18 S hr hk hM hS h
theorem hm_known : yX2_known.cls = RX2 ∧ yX2_known.cls ≠ "java/lang/invoke/MethodHandle" ∧ yX2_known.cls ≠ "java/lang/invoke/VarHandle" ∧ (parseMethodDescriptor yX2_known.desc).map (fun d => d.parameters.length) = some 2 := by decide +kernel
set_option maxHeartbeats 4000000 in
set_option maxRecDepth 100000 in
theorem wm_known (E : gX) (l : Launch) (x1 x2 : Int32) (r : Int32) (M : MM) (h : mm_known x1 x2 M = some r) : gMet E l yX2_known cX2_known 7 (some .int) 1 0 0 (gx_A E) [.ref (gx_m E), .int x1, .int x2] (gM E M) (gM E M) (some (.int r)) := by
  refine gMet.of (own := RX2) (by decide +kernel) (Nat.le_of_ble_eq_true rfl) rfl ?_
  intro p e s m args below meth c S hr hk hnm hE hM hS ls hl
  have hl : lv_has ls 7 [(0, .ref (gx_m E)), (1, .int x1), (2, .int x2)] := hl
  have hx := S.1
  have hb := S.2.1
  have L5 : ∀ (n : Nat) (x1 x2 x3 x4 : Int32) (M : MM) (H : Heap) (locs : List Loc) (ls : Array Slot), mm_known_L5 n x1 x2 x3 x4 M = some r → gM E M H → va_S (gx_A E) s.heap H locs → lv_has ls 7 [(0, .ref (gx_m E)), (1, .int x1), (2, .int x2), (3, .int x3), (4, .int x4)] → W p l e (gRm 1 0 0) s m args below meth c H locs 0 0 (MQ below (gQ (some (.int r)) (gM E M) (gx_A E)) args s 0 0 (gx_A E)) (F0 m 5 ls []) := by
    intro n5
    induction n5 with
    | zero =>
      intro x1 x2 x3 x4 M H locs ls h
      cases h
    | succ n5 ih5 =>
      have J97 : ∀ (x1 x2 x4 s0 : Int32) (M : MM) (H : Heap) (locs : List Loc) (ls : Array Slot), mm_known_J97 (mm_known_L5 n5) x1 x2 x4 s0 M = some r → gM E M H → va_S (gx_A E) s.heap H locs → lv_has ls 7 [(0, .ref (gx_m E)), (1, .int x1), (2, .int x2), (4, .int x4)] → W p l e (gRm 1 0 0) s m args below meth c H locs 0 0 (MQ below (gQ (some (.int r)) (gM E M) (gx_A E)) args s 0 0 (gx_A E)) (F0 m 97 ls [.int s0]) := by
        intro x1 x2 x4 s0 M H locs ls h hM hS hl
        unfold mm_known_J97 at h
        refine lv_istore_n (lv' := [(3, .int s0), (0, .ref (gx_m E)), (1, .int x1), (2, .int x2), (4, .int x4)]) hx hb dX2_known_97 rfl hl (by decide) rfl (fun ls hl => ?_)
        refine lv_iinc (k := 4) (v := (x4 + 1)) (lv' := [(4, .int (x4 + 1)), (3, .int s0), (0, .ref (gx_m E)), (1, .int x1), (2, .int x2)]) hx hb dX2_known_98 hl rfl rfl (by decide) rfl (fun ls hl => ?_)
        refine lv_goto (tgt := 5) hx hb dX2_known_101 (by decide) ?_
        exact ih5 x1 x2 s0 (x4 + 1) M _ _ _ h hM hS (lv_sub hl [2, 3, 4, 1, 0] rfl)
      have J86 : ∀ (x1 x2 x3 x4 x5 : Int32) (M : MM) (H : Heap) (locs : List Loc) (ls : Array Slot), mm_known_J86 (mm_known_L5 n5) x1 x2 x3 x4 x5 M = some r → gM E M H → va_S (gx_A E) s.heap H locs → lv_has ls 7 [(0, .ref (gx_m E)), (1, .int x1), (2, .int x2), (3, .int x3), (4, .int x4), (5, .int x5)] → W p l e (gRm 1 0 0) s m args below meth c H locs 0 0 (MQ below (gQ (some (.int r)) (gM E M) (gx_A E)) args s 0 0 (gx_A E)) (F0 m 86 ls []) := by
        intro x1 x2 x3 x4 x5 M H locs ls h hM hS hl
        unfold mm_known_J86 at h
        refine lv_iload hx hb dX2_known_86 (lv_at hl 5 rfl) ?_
        refine lv_if_eq (tgt := 96) hx hb dX2_known_88 (by decide) (fun c88 => ?_) (fun c88 => ?_)
        · have h := g_it c88 h
          refine lv_iload_n hx hb dX2_known_96 rfl (lv_at hl 3 rfl) ?_
          exact J97 x1 x2 x4 x3 M _ _ _ h hM hS (lv_sub hl [0, 1, 2, 4] rfl)
        · have h := g_if c88 h
          refine lv_iload hx hb dX2_known_91 (lv_at hl 4 rfl) ?_
          refine lv_goto (tgt := 97) hx hb dX2_known_93 (by decide) ?_
          exact J97 x1 x2 x4 x4 M _ _ _ h hM hS (lv_sub hl [0, 1, 2, 4] rfl)
      have L35 : ∀ (n : Nat) (x1 x2 x3 x4 x5 x6 : Int32) (M : MM) (H : Heap) (locs : List Loc) (ls : Array Slot), mm_known_L35 (mm_known_L5 n5) n x1 x2 x3 x4 x5 x6 M = some r → gM E M H → va_S (gx_A E) s.heap H locs → lv_has ls 7 [(0, .ref (gx_m E)), (1, .int x1), (2, .int x2), (3, .int x3), (4, .int x4), (5, .int x5), (6, .int x6)] → W p l e (gRm 1 0 0) s m args below meth c H locs 0 0 (MQ below (gQ (some (.int r)) (gM E M) (gx_A E)) args s 0 0 (gx_A E)) (F0 m 35 ls []) := by
        intro n35
        induction n35 with
        | zero =>
          intro x1 x2 x3 x4 x5 x6 M H locs ls h
          cases h
        | succ n35 ih35 =>
          have J78 : ∀ (x1 x2 x3 x4 x6 s0 : Int32) (M : MM) (H : Heap) (locs : List Loc) (ls : Array Slot), mm_known_J78 (mm_known_L5 n5) (mm_known_L35 (mm_known_L5 n5) n35) x1 x2 x3 x4 x6 s0 M = some r → gM E M H → va_S (gx_A E) s.heap H locs → lv_has ls 7 [(0, .ref (gx_m E)), (1, .int x1), (2, .int x2), (3, .int x3), (4, .int x4), (6, .int x6)] → W p l e (gRm 1 0 0) s m args below meth c H locs 0 0 (MQ below (gQ (some (.int r)) (gM E M) (gx_A E)) args s 0 0 (gx_A E)) (F0 m 78 ls [.int s0]) := by
            intro x1 x2 x3 x4 x6 s0 M H locs ls h hM hS hl
            unfold mm_known_J78 at h
            refine lv_istore (lv' := [(5, .int s0), (0, .ref (gx_m E)), (1, .int x1), (2, .int x2), (3, .int x3), (4, .int x4), (6, .int x6)]) hx hb dX2_known_78 hl (by decide) rfl (fun ls hl => ?_)
            refine lv_iinc (k := 6) (v := (x6 + 1)) (lv' := [(6, .int (x6 + 1)), (5, .int s0), (0, .ref (gx_m E)), (1, .int x1), (2, .int x2), (3, .int x3), (4, .int x4)]) hx hb dX2_known_80 hl rfl rfl (by decide) rfl (fun ls hl => ?_)
            refine lv_goto (tgt := 35) hx hb dX2_known_83 (by decide) ?_
            exact ih35 x1 x2 x3 x4 s0 (x6 + 1) M _ _ _ h hM hS (lv_sub hl [2, 3, 4, 5, 6, 1, 0] rfl)
          intro x1 x2 x3 x4 x5 x6 M H locs ls h hM hS hl
          have h : mm_known_B35 (mm_known_L5 n5) (mm_known_L35 (mm_known_L5 n5) n35) x1 x2 x3 x4 x5 x6 M = some r := h
          unfold mm_known_B35 at h
          refine lv_iload hx hb dX2_known_35 (lv_at hl 6 rfl) ?_
          refine lv_iload_n hx hb dX2_known_37 rfl (lv_at hl 2 rfl) ?_
          refine lv_icmp_ge (tgt := 86) hx hb dX2_known_38 (by decide) (fun c38 => ?_) (fun c38 => ?_)
          · have h := g_it c38 h
            exact J86 x1 x2 x3 x4 x5 M _ _ _ h hM hS (lv_sub hl [0, 1, 2, 3, 4, 5] rfl)
          · have h := g_if c38 h
            refine lv_iload hx hb dX2_known_41 (lv_at hl 5 rfl) ?_
            refine lv_if_eq (tgt := 86) hx hb dX2_known_43 (by decide) (fun c43 => ?_) (fun c43 => ?_)
            · have h := g_it c43 h
              exact J86 x1 x2 x3 x4 x5 M _ _ _ h hM hS (lv_sub hl [0, 1, 2, 3, 4, 5] rfl)
            · have h := g_if c43 h
              refine lv_aload_n hx hb dX2_known_46 rfl (lv_at hl 0 rfl) ?_
              refine ma_text dX2_known_47 S hE hM ?_
              refine lv_aload_n hx hb dX2_known_50 rfl (lv_at hl 0 rfl) ?_
              refine ma_nameAt dX2_known_51 S hE hM ?_
              refine lv_iload hx hb dX2_known_54 (lv_at hl 4 rfl) ?_
              obtain ⟨v56, e56, h⟩ := g_bd h
              refine m_ald 16 dX2_known_56 (by decide) rfl S hE hM e56 ?_
              refine lv_iload hx hb dX2_known_57 (lv_at hl 6 rfl) ?_
              refine lv_iadd hx hb dX2_known_59 ?_
              obtain ⟨v60, e60, h⟩ := g_bd h
              refine m_ald 4 dX2_known_60 (by decide) rfl S hE hM e60 ?_
              refine lv_aload_n hx hb dX2_known_61 rfl (lv_at hl 0 rfl) ?_
              refine ma_text dX2_known_62 S hE hM ?_
              refine lv_iload_n hx hb dX2_known_65 rfl (lv_at hl 1 rfl) ?_
              refine lv_iload hx hb dX2_known_66 (lv_at hl 6 rfl) ?_
              refine lv_iadd hx hb dX2_known_68 ?_
              obtain ⟨v69, e69, h⟩ := g_bd h
              refine m_ald 4 dX2_known_69 (by decide) rfl S hE hM e69 ?_
              refine lv_icmp_ne (tgt := 77) hx hb dX2_known_70 (by decide) (fun c70 => ?_) (fun c70 => ?_)
              · have h := g_if c70 h
                refine lv_iconst (v := 0) hx hb dX2_known_77 (by decide) ?_
                exact J78 x1 x2 x3 x4 x6 0 M _ _ _ h hM hS (lv_sub hl [0, 1, 2, 3, 4, 6] rfl)
              · have h := g_it c70 h
                refine lv_iconst (v := 1) hx hb dX2_known_73 (by decide) ?_
                refine lv_goto (tgt := 78) hx hb dX2_known_74 (by decide) ?_
                exact J78 x1 x2 x3 x4 x6 1 M _ _ _ h hM hS (lv_sub hl [0, 1, 2, 3, 4, 6] rfl)
      have J30 : ∀ (x1 x2 x3 x4 s0 : Int32) (M : MM) (H : Heap) (locs : List Loc) (ls : Array Slot), mm_known_J30 (mm_known_L5 n5) x1 x2 x3 x4 s0 M = some r → gM E M H → va_S (gx_A E) s.heap H locs → lv_has ls 7 [(0, .ref (gx_m E)), (1, .int x1), (2, .int x2), (3, .int x3), (4, .int x4)] → W p l e (gRm 1 0 0) s m args below meth c H locs 0 0 (MQ below (gQ (some (.int r)) (gM E M) (gx_A E)) args s 0 0 (gx_A E)) (F0 m 30 ls [.int s0]) := by
        intro x1 x2 x3 x4 s0 M H locs ls h hM hS hl
        unfold mm_known_J30 at h
        refine lv_istore (lv' := [(5, .int s0), (0, .ref (gx_m E)), (1, .int x1), (2, .int x2), (3, .int x3), (4, .int x4)]) hx hb dX2_known_30 hl (by decide) rfl (fun ls hl => ?_)
        refine lv_iconst (v := 0) hx hb dX2_known_32 (by decide) ?_
        refine lv_istore (lv' := [(6, .int 0), (5, .int s0), (0, .ref (gx_m E)), (1, .int x1), (2, .int x2), (3, .int x3), (4, .int x4)]) hx hb dX2_known_33 hl (by decide) rfl (fun ls hl => ?_)
        exact L35 gF x1 x2 x3 x4 s0 0 M _ _ _ h hM hS (lv_sub hl [2, 3, 4, 5, 6, 1, 0] rfl)
      intro x1 x2 x3 x4 M H locs ls h hM hS hl
      have h : mm_known_B5 (mm_known_L5 n5) x1 x2 x3 x4 M = some r := h
      unfold mm_known_B5 at h
      refine lv_iload hx hb dX2_known_5 (lv_at hl 4 rfl) ?_
      refine lv_aload_n hx hb dX2_known_7 rfl (lv_at hl 0 rfl) ?_
      refine mg_names dX2_known_8 S hE hM ?_
      refine lv_icmp_ge (tgt := 104) hx hb dX2_known_11 (by decide) (fun c11 => ?_) (fun c11 => ?_)
      · have h := g_it c11 h
        refine lv_iload_n hx hb dX2_known_104 rfl (lv_at hl 3 rfl) ?_
        exact m_iretR dX2_known_105 S hr hk hM hS h
      · have h := g_if c11 h
        refine lv_aload_n hx hb dX2_known_14 rfl (lv_at hl 0 rfl) ?_
        refine ma_nameLong dX2_known_15 S hE hM ?_
        refine lv_iload hx hb dX2_known_18 (lv_at hl 4 rfl) ?_
        obtain ⟨v20, e20, h⟩ := g_bd h
        refine m_ald 17 dX2_known_20 (by decide) rfl S hE hM e20 ?_
        refine lv_iload_n hx hb dX2_known_21 rfl (lv_at hl 2 rfl) ?_
        refine lv_icmp_ne (tgt := 29) hx hb dX2_known_22 (by decide) (fun c22 => ?_) (fun c22 => ?_)
        · have h := g_if c22 h
          refine lv_iconst (v := 0) hx hb dX2_known_29 (by decide) ?_
          exact J30 x1 x2 x3 x4 0 M _ _ _ h hM hS (lv_sub hl [0, 1, 2, 3, 4] rfl)
        · have h := g_it c22 h
          refine lv_iconst (v := 1) hx hb dX2_known_25 (by decide) ?_
          refine lv_goto (tgt := 30) hx hb dX2_known_26 (by decide) ?_
          exact J30 x1 x2 x3 x4 1 M _ _ _ h hM hS (lv_sub hl [0, 1, 2, 3, 4] rfl)
  unfold mm_known at h
  refine lv_iconst (v := (-1)) hx hb dX2_known_0 (by decide) ?_
  refine lv_istore_n (lv' := [(3, .int (-1)), (0, .ref (gx_m E)), (1, .int x1), (2, .int x2)]) hx hb dX2_known_1 rfl hl (by decide) rfl (fun ls hl => ?_)
  refine lv_iconst (v := 0) hx hb dX2_known_2 (by decide) ?_
  refine lv_istore (lv' := [(4, .int 0), (3, .int (-1)), (0, .ref (gx_m E)), (1, .int x1), (2, .int x2)]) hx hb dX2_known_3 hl (by decide) rfl (fun ls hl => ?_)
  exact L5 gF x1 x2 (-1) 0 M _ _ _ h hM hS (lv_sub hl [2, 3, 4, 1, 0] rfl)
theorem hm_newName : yX2_newName.cls = RX2 ∧ yX2_newName.cls ≠ "java/lang/invoke/MethodHandle" ∧ yX2_newName.cls ≠ "java/lang/invoke/VarHandle" ∧ (parseMethodDescriptor yX2_newName.desc).map (fun d => d.parameters.length) = some 2 := by decide +kernel
set_option maxHeartbeats 4000000 in
set_option maxRecDepth 100000 in
theorem wm_newName (E : gX) (l : Launch) (x1 x2 : Int32) (r : Int32) (M M' : MM) (h : mm_newName x1 x2 M = some (r, M')) : gMet E l yX2_newName cX2_newName 3 (some .boolean) 10 0 0 (gx_A E) [.ref (gx_m E), .int x1, .int x2] (gM E M) (gM E M') (some (.int r)) := by
  refine gMet.of (own := RX2) (by decide +kernel) (Nat.le_of_ble_eq_true rfl) rfl ?_
  intro p e s m args below meth c S hr hk hnm hE hM hS ls hl
  have hl : lv_has ls 3 [(0, .ref (gx_m E)), (1, .int x1), (2, .int x2)] := hl
  have hx := S.1
  have hb := S.2.1
  have J58 : ∀ (x1 x2 : Int32) (M : MM) (H : Heap) (locs : List Loc) (ls : Array Slot), mm_newName_J58 x1 x2 M = some (r, M') → gM E M H → va_S (gx_A E) s.heap H locs → lv_has ls 3 [(0, .ref (gx_m E)), (1, .int x1), (2, .int x2)] → W p l e (gRm 10 0 0) s m args below meth c H locs 0 0 (MQ below (gQ (some (.int r)) (gM E M') (gx_A E)) args s 0 0 (gx_A E)) (F0 m 58 ls []) := by
    intro x1 x2 M H locs ls h hM hS hl
    unfold mm_newName_J58 at h
    refine lv_aload_n hx hb dX2_newName_58 rfl (lv_at hl 0 rfl) ?_
    refine mg_fault dX2_newName_59 S hE hM ?_
    refine lv_if_eq (tgt := 67) hx hb dX2_newName_62 (by decide) (fun c62 => ?_) (fun c62 => ?_)
    · have h := g_it c62 h
      refine lv_aload_n hx hb dX2_newName_67 rfl (lv_at hl 0 rfl) ?_
      refine ma_nameSort dX2_newName_68 S hE hM ?_
      refine lv_aload_n hx hb dX2_newName_71 rfl (lv_at hl 0 rfl) ?_
      refine mg_names dX2_newName_72 S hE hM ?_
      refine lv_iload_n hx hb dX2_newName_75 rfl (lv_at hl 1 rfl) ?_
      obtain ⟨M76, e76, h⟩ := g_bd h
      refine m_ast 14 dX2_newName_76 (by decide) rfl S hE hM hS e76 (fun H locs hM hS => ?_)
      refine lv_aload_n hx hb dX2_newName_77 rfl (lv_at hl 0 rfl) ?_
      refine ma_nameOf dX2_newName_78 S hE hM ?_
      refine lv_aload_n hx hb dX2_newName_81 rfl (lv_at hl 0 rfl) ?_
      refine mg_names dX2_newName_82 S hE hM ?_
      refine lv_iload_n hx hb dX2_newName_85 rfl (lv_at hl 2 rfl) ?_
      obtain ⟨M86, e86, h⟩ := g_bd h
      refine m_ast 15 dX2_newName_86 (by decide) rfl S hE hM hS e86 (fun H locs hM hS => ?_)
      refine lv_aload_n hx hb dX2_newName_87 rfl (lv_at hl 0 rfl) ?_
      refine ma_nameAt dX2_newName_88 S hE hM ?_
      refine lv_aload_n hx hb dX2_newName_91 rfl (lv_at hl 0 rfl) ?_
      refine mg_names dX2_newName_92 S hE hM ?_
      refine lv_aload_n hx hb dX2_newName_95 rfl (lv_at hl 0 rfl) ?_
      refine mg_begins dX2_newName_96 S hE hM ?_
      obtain ⟨M99, e99, h⟩ := g_bd h
      refine m_ast 16 dX2_newName_99 (by decide) rfl S hE hM hS e99 (fun H locs hM hS => ?_)
      refine lv_aload_n hx hb dX2_newName_100 rfl (lv_at hl 0 rfl) ?_
      refine ma_nameLong dX2_newName_101 S hE hM ?_
      refine lv_aload_n hx hb dX2_newName_104 rfl (lv_at hl 0 rfl) ?_
      refine mg_names dX2_newName_105 S hE hM ?_
      refine lv_aload_n hx hb dX2_newName_108 rfl (lv_at hl 0 rfl) ?_
      refine mg_ends dX2_newName_109 S hE hM ?_
      refine lv_aload_n hx hb dX2_newName_112 rfl (lv_at hl 0 rfl) ?_
      refine mg_begins dX2_newName_113 S hE hM ?_
      refine lv_isub hx hb dX2_newName_116 ?_
      obtain ⟨M117, e117, h⟩ := g_bd h
      refine m_ast 17 dX2_newName_117 (by decide) rfl S hE hM hS e117 (fun H locs hM hS => ?_)
      refine lv_aload_n hx hb dX2_newName_118 rfl (lv_at hl 0 rfl) ?_
      refine lv_dup hx hb dX2_newName_119 rfl ?_
      refine mg_names dX2_newName_120 S hE hM ?_
      refine lv_iconst (v := 1) hx hb dX2_newName_123 (by decide) ?_
      refine lv_iadd hx hb dX2_newName_124 ?_
      obtain ⟨M125, e125, h⟩ := g_bd h
      refine mp_names dX2_newName_125 S hE hM hS e125 (fun H locs hM hS => ?_)
      refine lv_aload_n hx hb dX2_newName_128 rfl (lv_at hl 0 rfl) ?_
      obtain ⟨M129, e129, h⟩ := g_bd h
      refine m_cV (y := yX2_cut) (rest := []) dX2_newName_129 q3057 q3059 qs57 q3060 hm_cut S hE hM hS hl.1 rfl (wm_cut E l _ _ e129) rfl (Nat.le_of_ble_eq_true rfl) ⟨Nat.le_of_ble_eq_true rfl, Nat.le_of_ble_eq_true rfl⟩ ⟨Nat.le_refl 0, Nat.le_refl 0⟩ (fun H locs hM hS => ?_)
      refine lv_iconst (v := 1) hx hb dX2_newName_132 (by decide) ?_
      exact m_zretW dX2_newName_133 S hr hk hM hS h
    · have h := g_if c62 h
      refine lv_iconst (v := 0) hx hb dX2_newName_65 (by decide) ?_
      exact m_zretW dX2_newName_66 S hr hk hM hS h
  have J49 : ∀ (x1 x2 : Int32) (M : MM) (H : Heap) (locs : List Loc) (ls : Array Slot), mm_newName_J49 x1 x2 M = some (r, M') → gM E M H → va_S (gx_A E) s.heap H locs → lv_has ls 3 [(0, .ref (gx_m E)), (1, .int x1), (2, .int x2)] → W p l e (gRm 10 0 0) s m args below meth c H locs 0 0 (MQ below (gQ (some (.int r)) (gM E M') (gx_A E)) args s 0 0 (gx_A E)) (F0 m 49 ls []) := by
    intro x1 x2 M H locs ls h hM hS hl
    unfold mm_newName_J49 at h
    refine lv_aload_n hx hb dX2_newName_49 rfl (lv_at hl 0 rfl) ?_
    refine lv_iconst (v := 2) hx hb dX2_newName_50 (by decide) ?_
    refine lv_aload_n hx hb dX2_newName_51 rfl (lv_at hl 0 rfl) ?_
    refine mg_begins dX2_newName_52 S hE hM ?_
    obtain ⟨M55, e55, h⟩ := g_bd h
    refine m_cV (y := yX2_wrong) (rest := []) dX2_newName_55 q3089 q3091 qs63 q3092 hm_wrong S hE hM hS hl.1 rfl (wm_wrong E l _ _ _ _ e55) rfl (Nat.le_of_ble_eq_true rfl) ⟨Nat.le_of_ble_eq_true rfl, Nat.le_of_ble_eq_true rfl⟩ ⟨Nat.le_refl 0, Nat.le_refl 0⟩ (fun H locs hM hS => ?_)
    exact J58 x1 x2 M55 _ _ _ h hM hS (lv_sub hl [0, 1, 2] rfl)
  unfold mm_newName at h
  refine lv_aload_n hx hb dX2_newName_0 rfl (lv_at hl 0 rfl) ?_
  refine mg_token dX2_newName_1 S hE hM ?_
  refine lv_iconst (v := 1) hx hb dX2_newName_4 (by decide) ?_
  refine lv_icmp_eq (tgt := 20) hx hb dX2_newName_5 (by decide) (fun c5 => ?_) (fun c5 => ?_)
  · have h := g_it c5 h
    refine lv_aload_n hx hb dX2_newName_20 rfl (lv_at hl 0 rfl) ?_
    refine mg_word dX2_newName_21 S hE hM ?_
    refine lv_iconst (v := (-1)) hx hb dX2_newName_24 (by decide) ?_
    refine lv_icmp_ne (tgt := 49) hx hb dX2_newName_25 (by decide) (fun c25 => ?_) (fun c25 => ?_)
    · have h := g_if c25 h
      exact J49 x1 x2 M _ _ _ h hM hS (lv_sub hl [0, 1, 2] rfl)
    · have h := g_it c25 h
      refine lv_aload_n hx hb dX2_newName_28 rfl (lv_at hl 0 rfl) ?_
      refine lv_aload_n hx hb dX2_newName_29 rfl (lv_at hl 0 rfl) ?_
      refine mg_begins dX2_newName_30 S hE hM ?_
      refine lv_aload_n hx hb dX2_newName_33 rfl (lv_at hl 0 rfl) ?_
      refine mg_ends dX2_newName_34 S hE hM ?_
      refine lv_aload_n hx hb dX2_newName_37 rfl (lv_at hl 0 rfl) ?_
      refine mg_begins dX2_newName_38 S hE hM ?_
      refine lv_isub hx hb dX2_newName_41 ?_
      obtain ⟨v42, e42, h⟩ := g_bd h
      refine m_cV (y := yX2_known) (rest := []) dX2_newName_42 q3101 q3103 qs66 q3104 hm_known S hE hM hS hl.1 rfl (wm_known E l _ _ _ _ e42) rfl (Nat.le_of_ble_eq_true rfl) ⟨Nat.le_of_ble_eq_true rfl, Nat.le_of_ble_eq_true rfl⟩ ⟨Nat.le_refl 0, Nat.le_refl 0⟩ (fun H locs hM hS => ?_)
      refine lv_iconst (v := (-1)) hx hb dX2_newName_45 (by decide) ?_
      refine lv_icmp_eq (tgt := 58) hx hb dX2_newName_46 (by decide) (fun c46 => ?_) (fun c46 => ?_)
      · have h := g_it c46 h
        exact J58 x1 x2 M _ _ _ h hM hS (lv_sub hl [0, 1, 2] rfl)
      · have h := g_if c46 h
        exact J49 x1 x2 M _ _ _ h hM hS (lv_sub hl [0, 1, 2] rfl)
  · have h := g_if c5 h
    refine lv_aload_n hx hb dX2_newName_8 rfl (lv_at hl 0 rfl) ?_
    refine lv_iconst (v := 1) hx hb dX2_newName_9 (by decide) ?_
    refine lv_aload_n hx hb dX2_newName_10 rfl (lv_at hl 0 rfl) ?_
    refine mg_begins dX2_newName_11 S hE hM ?_
    obtain ⟨M14, e14, h⟩ := g_bd h
    refine m_cV (y := yX2_wrong) (rest := []) dX2_newName_14 q3089 q3091 qs63 q3092 hm_wrong S hE hM hS hl.1 rfl (wm_wrong E l _ _ _ _ e14) rfl (Nat.le_of_ble_eq_true rfl) ⟨Nat.le_of_ble_eq_true rfl, Nat.le_of_ble_eq_true rfl⟩ ⟨Nat.le_refl 0, Nat.le_refl 0⟩ (fun H locs hM hS => ?_)
    refine lv_goto (tgt := 58) hx hb dX2_newName_17 (by decide) ?_
    exact J58 x1 x2 M14 _ _ _ h hM hS (lv_sub hl [0, 1, 2] rfl)
theorem hm_oldName : yX2_oldName.cls = RX2 ∧ yX2_oldName.cls ≠ "java/lang/invoke/MethodHandle" ∧ yX2_oldName.cls ≠ "java/lang/invoke/VarHandle" ∧ (parseMethodDescriptor yX2_oldName.desc).map (fun d => d.parameters.length) = some 1 := by decide +kernel
set_option maxHeartbeats 4000000 in
set_option maxRecDepth 100000 in
theorem wm_oldName (E : gX) (l : Launch) (x1 : Int32) (r : Int32) (M M' : MM) (h : mm_oldName x1 M = some (r, M')) : gMet E l yX2_oldName cX2_oldName 3 (some .int) 10 0 0 (gx_A E) [.ref (gx_m E), .int x1] (gM E M) (gM E M') (some (.int r)) := by
  refine gMet.of (own := RX2) (by decide +kernel) (Nat.le_of_ble_eq_true rfl) rfl ?_
  intro p e s m args below meth c S hr hk hnm hE hM hS ls hl
  have hl : lv_has ls 3 [(0, .ref (gx_m E)), (1, .int x1)] := hl
  have hx := S.1
  have hb := S.2.1
  have J64 : ∀ (M : MM) (H : Heap) (locs : List Loc) (ls : Array Slot), mm_oldName_J64 M = some (r, M') → gM E M H → va_S (gx_A E) s.heap H locs → lv_has ls 3 [(0, .ref (gx_m E))] → W p l e (gRm 10 0 0) s m args below meth c H locs 0 0 (MQ below (gQ (some (.int r)) (gM E M') (gx_A E)) args s 0 0 (gx_A E)) (F0 m 64 ls []) := by
    intro M H locs ls h hM hS hl
    unfold mm_oldName_J64 at h
    refine lv_aload_n hx hb dX2_oldName_64 rfl (lv_at hl 0 rfl) ?_
    refine lv_iconst (v := 3) hx hb dX2_oldName_65 (by decide) ?_
    refine lv_aload_n hx hb dX2_oldName_66 rfl (lv_at hl 0 rfl) ?_
    refine mg_begins dX2_oldName_67 S hE hM ?_
    obtain ⟨M70, e70, h⟩ := g_bd h
    refine m_cV (y := yX2_wrong) (rest := []) dX2_oldName_70 q3089 q3091 qs63 q3092 hm_wrong S hE hM hS hl.1 rfl (wm_wrong E l _ _ _ _ e70) rfl (Nat.le_of_ble_eq_true rfl) ⟨Nat.le_of_ble_eq_true rfl, Nat.le_of_ble_eq_true rfl⟩ ⟨Nat.le_refl 0, Nat.le_refl 0⟩ (fun H locs hM hS => ?_)
    refine lv_iconst (v := (-1)) hx hb dX2_oldName_73 (by decide) ?_
    exact m_iretW dX2_oldName_74 S hr hk hM hS h
  have J48 : ∀ (x1 s0 : Int32) (M : MM) (H : Heap) (locs : List Loc) (ls : Array Slot), mm_oldName_J48 x1 s0 M = some (r, M') → gM E M H → va_S (gx_A E) s.heap H locs → lv_has ls 3 [(0, .ref (gx_m E)), (1, .int x1)] → W p l e (gRm 10 0 0) s m args below meth c H locs 0 0 (MQ below (gQ (some (.int r)) (gM E M') (gx_A E)) args s 0 0 (gx_A E)) (F0 m 48 ls [.int s0]) := by
    intro x1 s0 M H locs ls h hM hS hl
    unfold mm_oldName_J48 at h
    refine lv_istore_n (lv' := [(2, .int s0), (0, .ref (gx_m E)), (1, .int x1)]) hx hb dX2_oldName_48 rfl hl (by decide) rfl (fun ls hl => ?_)
    refine lv_iload_n hx hb dX2_oldName_49 rfl (lv_at hl 0 rfl) ?_
    refine lv_iconst (v := (-1)) hx hb dX2_oldName_50 (by decide) ?_
    refine lv_icmp_eq (tgt := 64) hx hb dX2_oldName_51 (by decide) (fun c51 => ?_) (fun c51 => ?_)
    · have h := g_it c51 h
      exact J64 M _ _ _ h hM hS (lv_sub hl [1] rfl)
    · have h := g_if c51 h
      refine lv_aload_n hx hb dX2_oldName_54 rfl (lv_at hl 1 rfl) ?_
      refine ma_nameSort dX2_oldName_55 S hE hM ?_
      refine lv_iload_n hx hb dX2_oldName_58 rfl (lv_at hl 0 rfl) ?_
      obtain ⟨v59, e59, h⟩ := g_bd h
      refine m_ald 14 dX2_oldName_59 (by decide) rfl S hE hM e59 ?_
      refine lv_iload_n hx hb dX2_oldName_60 rfl (lv_at hl 2 rfl) ?_
      refine lv_icmp_eq (tgt := 75) hx hb dX2_oldName_61 (by decide) (fun c61 => ?_) (fun c61 => ?_)
      · have h := g_it c61 h
        refine lv_aload_n hx hb dX2_oldName_75 rfl (lv_at hl 1 rfl) ?_
        obtain ⟨M76, e76, h⟩ := g_bd h
        refine m_cV (y := yX2_cut) (rest := []) dX2_oldName_76 q3057 q3059 qs57 q3060 hm_cut S hE hM hS hl.1 rfl (wm_cut E l _ _ e76) rfl (Nat.le_of_ble_eq_true rfl) ⟨Nat.le_of_ble_eq_true rfl, Nat.le_of_ble_eq_true rfl⟩ ⟨Nat.le_refl 0, Nat.le_refl 0⟩ (fun H locs hM hS => ?_)
        refine lv_aload_n hx hb dX2_oldName_79 rfl (lv_at hl 1 rfl) ?_
        refine ma_nameOf dX2_oldName_80 S hE hM ?_
        refine lv_iload_n hx hb dX2_oldName_83 rfl (lv_at hl 0 rfl) ?_
        obtain ⟨v84, e84, h⟩ := g_bd h
        refine m_ald 15 dX2_oldName_84 (by decide) rfl S hE hM e84 ?_
        exact m_iretW dX2_oldName_85 S hr hk hM hS h
      · have h := g_if c61 h
        exact J64 M _ _ _ h hM hS (lv_sub hl [1] rfl)
  unfold mm_oldName at h
  refine lv_aload_n hx hb dX2_oldName_0 rfl (lv_at hl 0 rfl) ?_
  refine mg_token dX2_oldName_1 S hE hM ?_
  refine lv_iconst (v := 1) hx hb dX2_oldName_4 (by decide) ?_
  refine lv_icmp_eq (tgt := 19) hx hb dX2_oldName_5 (by decide) (fun c5 => ?_) (fun c5 => ?_)
  · have h := g_it c5 h
    refine lv_aload_n hx hb dX2_oldName_19 rfl (lv_at hl 0 rfl) ?_
    refine mg_word dX2_oldName_20 S hE hM ?_
    refine lv_iconst (v := (-1)) hx hb dX2_oldName_23 (by decide) ?_
    refine lv_icmp_eq (tgt := 31) hx hb dX2_oldName_24 (by decide) (fun c24 => ?_) (fun c24 => ?_)
    · have h := g_it c24 h
      refine lv_aload_n hx hb dX2_oldName_31 rfl (lv_at hl 0 rfl) ?_
      refine lv_aload_n hx hb dX2_oldName_32 rfl (lv_at hl 0 rfl) ?_
      refine mg_begins dX2_oldName_33 S hE hM ?_
      refine lv_aload_n hx hb dX2_oldName_36 rfl (lv_at hl 0 rfl) ?_
      refine mg_ends dX2_oldName_37 S hE hM ?_
      refine lv_aload_n hx hb dX2_oldName_40 rfl (lv_at hl 0 rfl) ?_
      refine mg_begins dX2_oldName_41 S hE hM ?_
      refine lv_isub hx hb dX2_oldName_44 ?_
      obtain ⟨v45, e45, h⟩ := g_bd h
      refine m_cV (y := yX2_known) (rest := []) dX2_oldName_45 q3101 q3103 qs66 q3104 hm_known S hE hM hS hl.1 rfl (wm_known E l _ _ _ _ e45) rfl (Nat.le_of_ble_eq_true rfl) ⟨Nat.le_of_ble_eq_true rfl, Nat.le_of_ble_eq_true rfl⟩ ⟨Nat.le_refl 0, Nat.le_refl 0⟩ (fun H locs hM hS => ?_)
      exact J48 x1 v45 M _ _ _ h hM hS (lv_sub hl [0, 1] rfl)
    · have h := g_if c24 h
      refine lv_iconst (v := (-1)) hx hb dX2_oldName_27 (by decide) ?_
      refine lv_goto (tgt := 48) hx hb dX2_oldName_28 (by decide) ?_
      exact J48 x1 (-1) M _ _ _ h hM hS (lv_sub hl [0, 1] rfl)
  · have h := g_if c5 h
    refine lv_aload_n hx hb dX2_oldName_8 rfl (lv_at hl 0 rfl) ?_
    refine lv_iconst (v := 1) hx hb dX2_oldName_9 (by decide) ?_
    refine lv_aload_n hx hb dX2_oldName_10 rfl (lv_at hl 0 rfl) ?_
    refine mg_begins dX2_oldName_11 S hE hM ?_
    obtain ⟨M14, e14, h⟩ := g_bd h
    refine m_cV (y := yX2_wrong) (rest := []) dX2_oldName_14 q3089 q3091 qs63 q3092 hm_wrong S hE hM hS hl.1 rfl (wm_wrong E l _ _ _ _ e14) rfl (Nat.le_of_ble_eq_true rfl) ⟨Nat.le_of_ble_eq_true rfl, Nat.le_of_ble_eq_true rfl⟩ ⟨Nat.le_refl 0, Nat.le_refl 0⟩ (fun H locs hM hS => ?_)
    refine lv_iconst (v := (-1)) hx hb dX2_oldName_17 (by decide) ?_
    exact m_iretW dX2_oldName_18 S hr hk hM hS h
theorem hm_lead : yX2_lead.cls = RX2 ∧ yX2_lead.cls ≠ "java/lang/invoke/MethodHandle" ∧ yX2_lead.cls ≠ "java/lang/invoke/VarHandle" ∧ (parseMethodDescriptor yX2_lead.desc).map (fun d => d.parameters.length) = some 1 := by decide +kernel
set_option maxHeartbeats 4000000 in
set_option maxRecDepth 100000 in
theorem wm_lead (E : gX) (l : Launch) (x1 : Int32) (M M' : MM) (h : mm_lead x1 M = some M') : gMet E l yX2_lead cX2_lead 4 none 11 0 0 (gx_A E) [.ref (gx_m E), .int x1] (gM E M) (gM E M') none := by
  refine gMet.of (own := RX2) (by decide +kernel) (Nat.le_of_ble_eq_true rfl) rfl ?_
  intro p e s m args below meth c S hr hk hnm hE hM hS ls hl
  have hl : lv_has ls 4 [(0, .ref (gx_m E)), (1, .int x1)] := hl
  have hx := S.1
  have hb := S.2.1
  have J69 : ∀ (x1 x3 : Int32) (M : MM) (H : Heap) (locs : List Loc) (ls : Array Slot), mm_lead_J69 x1 x3 M = some M' → gM E M H → va_S (gx_A E) s.heap H locs → lv_has ls 4 [(0, .ref (gx_m E)), (1, .int x1), (3, .int x3)] → W p l e (gRm 11 0 0) s m args below meth c H locs 0 0 (MQ below (gQ none (gM E M') (gx_A E)) args s 0 0 (gx_A E)) (F0 m 69 ls []) := by
    intro x1 x3 M H locs ls h hM hS hl
    unfold mm_lead_J69 at h
    refine lv_aload_n hx hb dX2_lead_69 rfl (lv_at hl 0 rfl) ?_
    refine ma_leader dX2_lead_70 S hE hM ?_
    refine lv_iload_n hx hb dX2_lead_73 rfl (lv_at hl 1 rfl) ?_
    refine lv_iload_n hx hb dX2_lead_74 rfl (lv_at hl 2 rfl) ?_
    obtain ⟨M75, e75, h⟩ := g_bd h
    refine m_ast 26 dX2_lead_75 (by decide) rfl S hE hM hS e75 (fun H locs hM hS => ?_)
    exact m_vretW dX2_lead_76 S hr hk hM hS h
  have J63 : ∀ (x1 x2 x3 : Int32) (M : MM) (H : Heap) (locs : List Loc) (ls : Array Slot), mm_lead_J63 x1 x2 x3 M = some M' → gM E M H → va_S (gx_A E) s.heap H locs → lv_has ls 4 [(0, .ref (gx_m E)), (1, .int x1), (2, .int x2), (3, .int x3)] → W p l e (gRm 11 0 0) s m args below meth c H locs 0 0 (MQ below (gQ none (gM E M') (gx_A E)) args s 0 0 (gx_A E)) (F0 m 63 ls []) := by
    intro x1 x2 x3 M H locs ls h hM hS hl
    unfold mm_lead_J63 at h
    refine lv_aload_n hx hb dX2_lead_63 rfl (lv_at hl 0 rfl) ?_
    refine lv_iconst (v := 5) hx hb dX2_lead_64 (by decide) ?_
    refine lv_iload_n hx hb dX2_lead_65 rfl (lv_at hl 2 rfl) ?_
    obtain ⟨M66, e66, h⟩ := g_bd h
    refine m_cV (y := yX2_wrong) (rest := []) dX2_lead_66 q3089 q3091 qs63 q3092 hm_wrong S hE hM hS hl.1 rfl (wm_wrong E l _ _ _ _ e66) rfl (Nat.le_of_ble_eq_true rfl) ⟨Nat.le_of_ble_eq_true rfl, Nat.le_of_ble_eq_true rfl⟩ ⟨Nat.le_refl 0, Nat.le_refl 0⟩ (fun H locs hM hS => ?_)
    exact J69 x1 x3 M66 _ _ _ h hM hS (lv_sub hl [0, 1, 3] rfl)
  have J29 : ∀ (x1 x2 x3 : Int32) (M : MM) (H : Heap) (locs : List Loc) (ls : Array Slot), mm_lead_J29 x1 x2 x3 M = some M' → gM E M H → va_S (gx_A E) s.heap H locs → lv_has ls 4 [(0, .ref (gx_m E)), (1, .int x1), (2, .int x2), (3, .int x3)] → W p l e (gRm 11 0 0) s m args below meth c H locs 0 0 (MQ below (gQ none (gM E M') (gx_A E)) args s 0 0 (gx_A E)) (F0 m 29 ls []) := by
    intro x1 x2 x3 M H locs ls h hM hS hl
    unfold mm_lead_J29 at h
    refine lv_aload_n hx hb dX2_lead_29 rfl (lv_at hl 0 rfl) ?_
    refine mg_fault dX2_lead_30 S hE hM ?_
    refine lv_if_ne (tgt := 69) hx hb dX2_lead_33 (by decide) (fun c33 => ?_) (fun c33 => ?_)
    · have h := g_if c33 h
      exact J69 x1 x3 M _ _ _ h hM hS (lv_sub hl [0, 1, 3] rfl)
    · have h := g_it c33 h
      refine lv_aload_n hx hb dX2_lead_36 rfl (lv_at hl 0 rfl) ?_
      refine ma_abilities dX2_lead_37 S hE hM ?_
      refine lv_aload_n hx hb dX2_lead_40 rfl (lv_at hl 0 rfl) ?_
      refine ma_kind dX2_lead_41 S hE hM ?_
      refine lv_iload_n hx hb dX2_lead_44 rfl (lv_at hl 3 rfl) ?_
      obtain ⟨v45, e45, h⟩ := g_bd h
      refine m_ald 25 dX2_lead_45 (by decide) rfl S hE hM e45 ?_
      obtain ⟨v46, e46, h⟩ := g_bd h
      refine m_ald 1 dX2_lead_46 (by decide) rfl S hE hM e46 ?_
      refine lv_iconst (v := 1) hx hb dX2_lead_47 (by decide) ?_
      refine lv_iand hx hb dX2_lead_48 ?_
      refine lv_if_eq (tgt := 63) hx hb dX2_lead_49 (by decide) (fun c49 => ?_) (fun c49 => ?_)
      · have h := g_it c49 h
        exact J63 x1 x2 x3 M _ _ _ h hM hS (lv_sub hl [0, 1, 2, 3] rfl)
      · have h := g_if c49 h
        refine lv_aload_n hx hb dX2_lead_52 rfl (lv_at hl 0 rfl) ?_
        refine ma_kind dX2_lead_53 S hE hM ?_
        refine lv_iload_n hx hb dX2_lead_56 rfl (lv_at hl 3 rfl) ?_
        obtain ⟨v57, e57, h⟩ := g_bd h
        refine m_ald 25 dX2_lead_57 (by decide) rfl S hE hM e57 ?_
        refine lv_bipush (v := 8) hx hb dX2_lead_58 (by decide) ?_
        refine lv_icmp_ne (tgt := 69) hx hb dX2_lead_60 (by decide) (fun c60 => ?_) (fun c60 => ?_)
        · have h := g_if c60 h
          exact J69 x1 x3 M _ _ _ h hM hS (lv_sub hl [0, 1, 3] rfl)
        · have h := g_it c60 h
          exact J63 x1 x2 x3 M _ _ _ h hM hS (lv_sub hl [0, 1, 2, 3] rfl)
  unfold mm_lead at h
  refine lv_aload_n hx hb dX2_lead_0 rfl (lv_at hl 0 rfl) ?_
  refine mg_begins dX2_lead_1 S hE hM ?_
  refine lv_istore_n (lv' := [(2, .int (M 8 0)), (0, .ref (gx_m E)), (1, .int x1)]) hx hb dX2_lead_4 rfl hl (by decide) rfl (fun ls hl => ?_)
  refine lv_aload_n hx hb dX2_lead_5 rfl (lv_at hl 1 rfl) ?_
  refine lv_iconst (v := 3) hx hb dX2_lead_6 (by decide) ?_
  obtain ⟨q7, e7, h⟩ := g_bd h
  refine m_cV (y := yX2_oldName) (rest := []) dX2_lead_7 q3113 q3115 qs69 q3116 hm_oldName S hE hM hS hl.1 rfl (wm_oldName E l _ _ _ _ e7) rfl (Nat.le_of_ble_eq_true rfl) ⟨Nat.le_of_ble_eq_true rfl, Nat.le_of_ble_eq_true rfl⟩ ⟨Nat.le_refl 0, Nat.le_refl 0⟩ (fun H locs hM hS => ?_)
  refine lv_istore_n (lv' := [(3, .int q7.1), (2, .int (M 8 0)), (0, .ref (gx_m E)), (1, .int x1)]) hx hb dX2_lead_10 rfl hl (by decide) rfl (fun ls hl => ?_)
  refine lv_aload_n hx hb dX2_lead_11 rfl (lv_at hl 2 rfl) ?_
  refine mg_fault dX2_lead_12 S hE hM ?_
  refine lv_if_ne (tgt := 29) hx hb dX2_lead_15 (by decide) (fun c15 => ?_) (fun c15 => ?_)
  · have h := g_if c15 h
    exact J29 x1 (M 8 0) q7.1 q7.2 _ _ _ h hM hS (lv_sub hl [2, 3, 1, 0] rfl)
  · have h := g_it c15 h
    refine lv_iload_n hx hb dX2_lead_18 rfl (lv_at hl 0 rfl) ?_
    refine lv_iload_n hx hb dX2_lead_19 rfl (lv_at hl 3 rfl) ?_
    refine lv_icmp_ne (tgt := 29) hx hb dX2_lead_20 (by decide) (fun c20 => ?_) (fun c20 => ?_)
    · have h := g_if c20 h
      exact J29 x1 (M 8 0) q7.1 q7.2 _ _ _ h hM hS (lv_sub hl [2, 3, 1, 0] rfl)
    · have h := g_it c20 h
      refine lv_aload_n hx hb dX2_lead_23 rfl (lv_at hl 2 rfl) ?_
      refine lv_iconst (v := 3) hx hb dX2_lead_24 (by decide) ?_
      refine lv_iload_n hx hb dX2_lead_25 rfl (lv_at hl 1 rfl) ?_
      obtain ⟨M26, e26, h⟩ := g_bd h
      refine m_cV (y := yX2_wrong) (rest := []) dX2_lead_26 q3089 q3091 qs63 q3092 hm_wrong S hE hM hS hl.1 rfl (wm_wrong E l _ _ _ _ e26) rfl (Nat.le_of_ble_eq_true rfl) ⟨Nat.le_of_ble_eq_true rfl, Nat.le_of_ble_eq_true rfl⟩ ⟨Nat.le_refl 0, Nat.le_refl 0⟩ (fun H locs hM hS => ?_)
      exact J29 x1 (M 8 0) q7.1 M26 _ _ _ h hM hS (lv_sub hl [2, 3, 1, 0] rfl)
theorem hm_isSign : yX2_isSign.cls = RX2 ∧ yX2_isSign.cls ≠ "java/lang/invoke/MethodHandle" ∧ yX2_isSign.cls ≠ "java/lang/invoke/VarHandle" ∧ (parseMethodDescriptor yX2_isSign.desc).map (fun d => d.parameters.length) = some 1 := by decide +kernel
set_option maxHeartbeats 4000000 in
set_option maxRecDepth 100000 in
theorem wm_isSign (E : gX) (l : Launch) (x1 : Int32) (r : Int32) (M : MM) (h : mm_isSign x1 M = some r) : gMet E l yX2_isSign cX2_isSign 2 (some .boolean) 1 0 0 (gx_A E) [.ref (gx_m E), .int x1] (gM E M) (gM E M) (some (.int r)) := by
  refine gMet.of (own := RX2) (by decide +kernel) (Nat.le_of_ble_eq_true rfl) rfl ?_
  intro p e s m args below meth c S hr hk hnm hE hM hS ls hl
  have hl : lv_has ls 2 [(0, .ref (gx_m E)), (1, .int x1)] := hl
  have hx := S.1
  have hb := S.2.1
  unfold mm_isSign at h
  refine lv_aload_n hx hb dX2_isSign_0 rfl (lv_at hl 0 rfl) ?_
  refine mg_token dX2_isSign_1 S hE hM ?_
  refine lv_iconst (v := 3) hx hb dX2_isSign_4 (by decide) ?_
  refine lv_icmp_ne (tgt := 20) hx hb dX2_isSign_5 (by decide) (fun c5 => ?_) (fun c5 => ?_)
  · have h := g_if c5 h
    refine lv_iconst (v := 0) hx hb dX2_isSign_20 (by decide) ?_
    exact m_zretR dX2_isSign_21 S hr hk hM hS h
  · have h := g_it c5 h
    refine lv_aload_n hx hb dX2_isSign_8 rfl (lv_at hl 0 rfl) ?_
    refine mg_number dX2_isSign_9 S hE hM ?_
    refine lv_iload_n hx hb dX2_isSign_12 rfl (lv_at hl 1 rfl) ?_
    refine lv_icmp_ne (tgt := 20) hx hb dX2_isSign_13 (by decide) (fun c13 => ?_) (fun c13 => ?_)
    · have h := g_if c13 h
      refine lv_iconst (v := 0) hx hb dX2_isSign_20 (by decide) ?_
      exact m_zretR dX2_isSign_21 S hr hk hM hS h
    · have h := g_it c13 h
      refine lv_iconst (v := 1) hx hb dX2_isSign_16 (by decide) ?_
      refine lv_goto (tgt := 21) hx hb dX2_isSign_17 (by decide) ?_
      exact m_zretR dX2_isSign_21 S hr hk hM hS h
theorem hm_isStep : yX2_isStep.cls = RX2 ∧ yX2_isStep.cls ≠ "java/lang/invoke/MethodHandle" ∧ yX2_isStep.cls ≠ "java/lang/invoke/VarHandle" ∧ (parseMethodDescriptor yX2_isStep.desc).map (fun d => d.parameters.length) = some 1 := by decide +kernel
set_option maxHeartbeats 4000000 in
set_option maxRecDepth 100000 in
theorem wm_isStep (E : gX) (l : Launch) (x0 : Int32) (r : Int32) (M : MM) (h : mm_isStep x0 M = some r) : gMet E l yX2_isStep cX2_isStep 1 (some .boolean) 1 0 0 (gx_A E) [.int x0] (gM E M) (gM E M) (some (.int r)) := by
  refine gMet.of (own := RX2) (by decide +kernel) (Nat.le_of_ble_eq_true rfl) rfl ?_
  intro p e s m args below meth c S hr hk hnm hE hM hS ls hl
  have hl : lv_has ls 1 [(0, .int x0)] := hl
  have hx := S.1
  have hb := S.2.1
  have J23 : ∀ (M : MM) (H : Heap) (locs : List Loc) (ls : Array Slot), mm_isStep_J23 M = some r → gM E M H → va_S (gx_A E) s.heap H locs → lv_has ls 1 [] → W p l e (gRm 1 0 0) s m args below meth c H locs 0 0 (MQ below (gQ (some (.int r)) (gM E M) (gx_A E)) args s 0 0 (gx_A E)) (F0 m 23 ls []) := by
    intro M H locs ls h hM hS hl
    unfold mm_isStep_J23 at h
    refine lv_iconst (v := 1) hx hb dX2_isStep_23 (by decide) ?_
    refine lv_goto (tgt := 28) hx hb dX2_isStep_24 (by decide) ?_
    exact m_zretR dX2_isStep_28 S hr hk hM hS h
  have J11 : ∀ (x0 : Int32) (M : MM) (H : Heap) (locs : List Loc) (ls : Array Slot), mm_isStep_J11 x0 M = some r → gM E M H → va_S (gx_A E) s.heap H locs → lv_has ls 1 [(0, .int x0)] → W p l e (gRm 1 0 0) s m args below meth c H locs 0 0 (MQ below (gQ (some (.int r)) (gM E M) (gx_A E)) args s 0 0 (gx_A E)) (F0 m 11 ls []) := by
    intro x0 M H locs ls h hM hS hl
    unfold mm_isStep_J11 at h
    refine lv_iload_n hx hb dX2_isStep_11 rfl (lv_at hl 0 rfl) ?_
    refine lv_bipush (v := 41) hx hb dX2_isStep_12 (by decide) ?_
    refine lv_icmp_lt (tgt := 27) hx hb dX2_isStep_14 (by decide) (fun c14 => ?_) (fun c14 => ?_)
    · have h := g_it c14 h
      refine lv_iconst (v := 0) hx hb dX2_isStep_27 (by decide) ?_
      exact m_zretR dX2_isStep_28 S hr hk hM hS h
    · have h := g_if c14 h
      refine lv_iload_n hx hb dX2_isStep_17 rfl (lv_at hl 0 rfl) ?_
      refine lv_bipush (v := 44) hx hb dX2_isStep_18 (by decide) ?_
      refine lv_icmp_gt (tgt := 27) hx hb dX2_isStep_20 (by decide) (fun c20 => ?_) (fun c20 => ?_)
      · have h := g_it c20 h
        refine lv_iconst (v := 0) hx hb dX2_isStep_27 (by decide) ?_
        exact m_zretR dX2_isStep_28 S hr hk hM hS h
      · have h := g_if c20 h
        exact J23 M _ _ _ h hM hS (lv_sub hl [] rfl)
  unfold mm_isStep at h
  refine lv_iload_n hx hb dX2_isStep_0 rfl (lv_at hl 0 rfl) ?_
  refine lv_iconst (v := 4) hx hb dX2_isStep_1 (by decide) ?_
  refine lv_icmp_lt (tgt := 11) hx hb dX2_isStep_2 (by decide) (fun c2 => ?_) (fun c2 => ?_)
  · have h := g_it c2 h
    exact J11 x0 M _ _ _ h hM hS (lv_sub hl [0] rfl)
  · have h := g_if c2 h
    refine lv_iload_n hx hb dX2_isStep_5 rfl (lv_at hl 0 rfl) ?_
    refine lv_bipush (v := 22) hx hb dX2_isStep_6 (by decide) ?_
    refine lv_icmp_le (tgt := 23) hx hb dX2_isStep_8 (by decide) (fun c8 => ?_) (fun c8 => ?_)
    · have h := g_it c8 h
      exact J23 M _ _ _ h hM hS (lv_sub hl [] rfl)
    · have h := g_if c8 h
      exact J11 x0 M _ _ _ h hM hS (lv_sub hl [0] rfl)
theorem hm_fits : yX2_fits.cls = RX2 ∧ yX2_fits.cls ≠ "java/lang/invoke/MethodHandle" ∧ yX2_fits.cls ≠ "java/lang/invoke/VarHandle" ∧ (parseMethodDescriptor yX2_fits.desc).map (fun d => d.parameters.length) = some 1 := by decide +kernel
set_option maxHeartbeats 4000000 in
set_option maxRecDepth 100000 in
theorem wm_fits (E : gX) (l : Launch) (x1 : Int32) (r : Int32) (M : MM) (h : mm_fits x1 M = some r) : gMet E l yX2_fits cX2_fits 3 (some .boolean) 1 0 0 (gx_A E) [.ref (gx_m E), .int x1] (gM E M) (gM E M) (some (.int r)) := by
  refine gMet.of (own := RX2) (by decide +kernel) (Nat.le_of_ble_eq_true rfl) rfl ?_
  intro p e s m args below meth c S hr hk hnm hE hM hS ls hl
  have hl : lv_has ls 3 [(0, .ref (gx_m E)), (1, .int x1)] := hl
  have hx := S.1
  have hb := S.2.1
  unfold mm_fits at h
  refine lv_aload_n hx hb dX2_fits_0 rfl (lv_at hl 0 rfl) ?_
  refine ma_abilities dX2_fits_1 S hE hM ?_
  refine lv_aload_n hx hb dX2_fits_4 rfl (lv_at hl 0 rfl) ?_
  refine ma_kind dX2_fits_5 S hE hM ?_
  refine lv_aload_n hx hb dX2_fits_8 rfl (lv_at hl 0 rfl) ?_
  refine mg_reads dX2_fits_9 S hE hM ?_
  obtain ⟨v12, e12, h⟩ := g_bd h
  refine m_ald 25 dX2_fits_12 (by decide) rfl S hE hM e12 ?_
  obtain ⟨v13, e13, h⟩ := g_bd h
  refine m_ald 1 dX2_fits_13 (by decide) rfl S hE hM e13 ?_
  refine lv_istore_n (lv' := [(2, .int v13), (0, .ref (gx_m E)), (1, .int x1)]) hx hb dX2_fits_14 rfl hl (by decide) rfl (fun ls hl => ?_)
  refine lv_iload_n hx hb dX2_fits_15 rfl (lv_at hl 2 rfl) ?_
  by_cases c16_4 : x1 = 4
  · have h := g_it c16_4 h
    refine lv_tableIn (off := 88) (tgt := 104) hx hb dX2_fits_16 (by rw [c16_4]; decide) (by rw [c16_4]; decide) (by rw [c16_4]; rfl) (by decide) ?_
    refine lv_iload_n hx hb dX2_fits_104 rfl (lv_at hl 0 rfl) ?_
    refine lv_iconst (v := 1) hx hb dX2_fits_105 (by decide) ?_
    refine lv_iand hx hb dX2_fits_106 ?_
    refine lv_if_eq (tgt := 128) hx hb dX2_fits_107 (by decide) (fun c107 => ?_) (fun c107 => ?_)
    · have h := g_it c107 h
      refine lv_iconst (v := 0) hx hb dX2_fits_128 (by decide) ?_
      exact m_zretR dX2_fits_129 S hr hk hM hS h
    · have h := g_if c107 h
      refine lv_aload_n hx hb dX2_fits_110 rfl (lv_at hl 1 rfl) ?_
      refine ma_kind dX2_fits_111 S hE hM ?_
      refine lv_aload_n hx hb dX2_fits_114 rfl (lv_at hl 1 rfl) ?_
      refine mg_reads dX2_fits_115 S hE hM ?_
      obtain ⟨v118, e118, h⟩ := g_bd h
      refine m_ald 25 dX2_fits_118 (by decide) rfl S hE hM e118 ?_
      refine lv_bipush (v := 8) hx hb dX2_fits_119 (by decide) ?_
      refine lv_icmp_eq (tgt := 128) hx hb dX2_fits_121 (by decide) (fun c121 => ?_) (fun c121 => ?_)
      · have h := g_it c121 h
        refine lv_iconst (v := 0) hx hb dX2_fits_128 (by decide) ?_
        exact m_zretR dX2_fits_129 S hr hk hM hS h
      · have h := g_if c121 h
        refine lv_iconst (v := 1) hx hb dX2_fits_124 (by decide) ?_
        refine lv_goto (tgt := 129) hx hb dX2_fits_125 (by decide) ?_
        exact m_zretR dX2_fits_129 S hr hk hM hS h
  have h := g_if c16_4 h
  by_cases c16_5 : x1 = 5
  · have h := g_it c16_5 h
    refine lv_tableIn (off := 114) (tgt := 130) hx hb dX2_fits_16 (by rw [c16_5]; decide) (by rw [c16_5]; decide) (by rw [c16_5]; rfl) (by decide) ?_
    refine lv_iload_n hx hb dX2_fits_130 rfl (lv_at hl 0 rfl) ?_
    refine lv_iconst (v := 2) hx hb dX2_fits_131 (by decide) ?_
    refine lv_iand hx hb dX2_fits_132 ?_
    refine lv_if_eq (tgt := 140) hx hb dX2_fits_133 (by decide) (fun c133 => ?_) (fun c133 => ?_)
    · have h := g_it c133 h
      refine lv_iconst (v := 0) hx hb dX2_fits_140 (by decide) ?_
      exact m_zretR dX2_fits_141 S hr hk hM hS h
    · have h := g_if c133 h
      refine lv_iconst (v := 1) hx hb dX2_fits_136 (by decide) ?_
      refine lv_goto (tgt := 141) hx hb dX2_fits_137 (by decide) ?_
      exact m_zretR dX2_fits_141 S hr hk hM hS h
  have h := g_if c16_5 h
  by_cases c16_6 : x1 = 6
  · have h := g_it c16_6 h
    refine lv_tableIn (off := 126) (tgt := 142) hx hb dX2_fits_16 (by rw [c16_6]; decide) (by rw [c16_6]; decide) (by rw [c16_6]; rfl) (by decide) ?_
    refine lv_iload_n hx hb dX2_fits_142 rfl (lv_at hl 0 rfl) ?_
    refine lv_bipush (v := 8) hx hb dX2_fits_143 (by decide) ?_
    refine lv_iand hx hb dX2_fits_145 ?_
    refine lv_if_eq (tgt := 153) hx hb dX2_fits_146 (by decide) (fun c146 => ?_) (fun c146 => ?_)
    · have h := g_it c146 h
      refine lv_iconst (v := 0) hx hb dX2_fits_153 (by decide) ?_
      exact m_zretR dX2_fits_154 S hr hk hM hS h
    · have h := g_if c146 h
      refine lv_iconst (v := 1) hx hb dX2_fits_149 (by decide) ?_
      refine lv_goto (tgt := 154) hx hb dX2_fits_150 (by decide) ?_
      exact m_zretR dX2_fits_154 S hr hk hM hS h
  have h := g_if c16_6 h
  by_cases c16_7 : x1 = 7
  · have h := g_it c16_7 h
    refine lv_tableIn (off := 139) (tgt := 155) hx hb dX2_fits_16 (by rw [c16_7]; decide) (by rw [c16_7]; decide) (by rw [c16_7]; rfl) (by decide) ?_
    refine lv_iload_n hx hb dX2_fits_155 rfl (lv_at hl 0 rfl) ?_
    refine lv_bipush (v := 16) hx hb dX2_fits_156 (by decide) ?_
    refine lv_iand hx hb dX2_fits_158 ?_
    refine lv_if_eq (tgt := 166) hx hb dX2_fits_159 (by decide) (fun c159 => ?_) (fun c159 => ?_)
    · have h := g_it c159 h
      refine lv_iconst (v := 0) hx hb dX2_fits_166 (by decide) ?_
      exact m_zretR dX2_fits_167 S hr hk hM hS h
    · have h := g_if c159 h
      refine lv_iconst (v := 1) hx hb dX2_fits_162 (by decide) ?_
      refine lv_goto (tgt := 167) hx hb dX2_fits_163 (by decide) ?_
      exact m_zretR dX2_fits_167 S hr hk hM hS h
  have h := g_if c16_7 h
  by_cases c16_8 : x1 = 8
  · have h := g_it c16_8 h
    refine lv_tableIn (off := 152) (tgt := 168) hx hb dX2_fits_16 (by rw [c16_8]; decide) (by rw [c16_8]; decide) (by rw [c16_8]; rfl) (by decide) ?_
    refine lv_iload_n hx hb dX2_fits_168 rfl (lv_at hl 0 rfl) ?_
    refine lv_iconst (v := 4) hx hb dX2_fits_169 (by decide) ?_
    refine lv_iand hx hb dX2_fits_170 ?_
    refine lv_if_eq (tgt := 178) hx hb dX2_fits_171 (by decide) (fun c171 => ?_) (fun c171 => ?_)
    · have h := g_it c171 h
      refine lv_iconst (v := 0) hx hb dX2_fits_178 (by decide) ?_
      exact m_zretR dX2_fits_179 S hr hk hM hS h
    · have h := g_if c171 h
      refine lv_iconst (v := 1) hx hb dX2_fits_174 (by decide) ?_
      refine lv_goto (tgt := 179) hx hb dX2_fits_175 (by decide) ?_
      exact m_zretR dX2_fits_179 S hr hk hM hS h
  have h := g_if c16_8 h
  by_cases c16_9 : x1 = 9
  · have h := g_it c16_9 h
    refine lv_tableIn (off := 152) (tgt := 168) hx hb dX2_fits_16 (by rw [c16_9]; decide) (by rw [c16_9]; decide) (by rw [c16_9]; rfl) (by decide) ?_
    refine lv_iload_n hx hb dX2_fits_168 rfl (lv_at hl 0 rfl) ?_
    refine lv_iconst (v := 4) hx hb dX2_fits_169 (by decide) ?_
    refine lv_iand hx hb dX2_fits_170 ?_
    refine lv_if_eq (tgt := 178) hx hb dX2_fits_171 (by decide) (fun c171 => ?_) (fun c171 => ?_)
    · have h := g_it c171 h
      refine lv_iconst (v := 0) hx hb dX2_fits_178 (by decide) ?_
      exact m_zretR dX2_fits_179 S hr hk hM hS h
    · have h := g_if c171 h
      refine lv_iconst (v := 1) hx hb dX2_fits_174 (by decide) ?_
      refine lv_goto (tgt := 179) hx hb dX2_fits_175 (by decide) ?_
      exact m_zretR dX2_fits_179 S hr hk hM hS h
  have h := g_if c16_9 h
  by_cases c16_10 : x1 = 10
  · have h := g_it c16_10 h
    refine lv_tableIn (off := 178) (tgt := 194) hx hb dX2_fits_16 (by rw [c16_10]; decide) (by rw [c16_10]; decide) (by rw [c16_10]; rfl) (by decide) ?_
    refine lv_iconst (v := 1) hx hb dX2_fits_194 (by decide) ?_
    exact m_zretR dX2_fits_195 S hr hk hM hS h
  have h := g_if c16_10 h
  by_cases c16_11 : x1 = 11
  · have h := g_it c16_11 h
    refine lv_tableIn (off := 178) (tgt := 194) hx hb dX2_fits_16 (by rw [c16_11]; decide) (by rw [c16_11]; decide) (by rw [c16_11]; rfl) (by decide) ?_
    refine lv_iconst (v := 1) hx hb dX2_fits_194 (by decide) ?_
    exact m_zretR dX2_fits_195 S hr hk hM hS h
  have h := g_if c16_11 h
  by_cases c16_12 : x1 = 12
  · have h := g_it c16_12 h
    refine lv_tableIn (off := 178) (tgt := 194) hx hb dX2_fits_16 (by rw [c16_12]; decide) (by rw [c16_12]; decide) (by rw [c16_12]; rfl) (by decide) ?_
    refine lv_iconst (v := 1) hx hb dX2_fits_194 (by decide) ?_
    exact m_zretR dX2_fits_195 S hr hk hM hS h
  have h := g_if c16_12 h
  by_cases c16_13 : x1 = 13
  · have h := g_it c16_13 h
    refine lv_tableIn (off := 178) (tgt := 194) hx hb dX2_fits_16 (by rw [c16_13]; decide) (by rw [c16_13]; decide) (by rw [c16_13]; rfl) (by decide) ?_
    refine lv_iconst (v := 1) hx hb dX2_fits_194 (by decide) ?_
    exact m_zretR dX2_fits_195 S hr hk hM hS h
  have h := g_if c16_13 h
  by_cases c16_14 : x1 = 14
  · have h := g_it c16_14 h
    refine lv_tableIn (off := 178) (tgt := 194) hx hb dX2_fits_16 (by rw [c16_14]; decide) (by rw [c16_14]; decide) (by rw [c16_14]; rfl) (by decide) ?_
    refine lv_iconst (v := 1) hx hb dX2_fits_194 (by decide) ?_
    exact m_zretR dX2_fits_195 S hr hk hM hS h
  have h := g_if c16_14 h
  by_cases c16_15 : x1 = 15
  · have h := g_it c16_15 h
    refine lv_tableIn (off := 178) (tgt := 194) hx hb dX2_fits_16 (by rw [c16_15]; decide) (by rw [c16_15]; decide) (by rw [c16_15]; rfl) (by decide) ?_
    refine lv_iconst (v := 1) hx hb dX2_fits_194 (by decide) ?_
    exact m_zretR dX2_fits_195 S hr hk hM hS h
  have h := g_if c16_15 h
  by_cases c16_16 : x1 = 16
  · have h := g_it c16_16 h
    refine lv_tableIn (off := 178) (tgt := 194) hx hb dX2_fits_16 (by rw [c16_16]; decide) (by rw [c16_16]; decide) (by rw [c16_16]; rfl) (by decide) ?_
    refine lv_iconst (v := 1) hx hb dX2_fits_194 (by decide) ?_
    exact m_zretR dX2_fits_195 S hr hk hM hS h
  have h := g_if c16_16 h
  by_cases c16_17 : x1 = 17
  · have h := g_it c16_17 h
    refine lv_tableIn (off := 178) (tgt := 194) hx hb dX2_fits_16 (by rw [c16_17]; decide) (by rw [c16_17]; decide) (by rw [c16_17]; rfl) (by decide) ?_
    refine lv_iconst (v := 1) hx hb dX2_fits_194 (by decide) ?_
    exact m_zretR dX2_fits_195 S hr hk hM hS h
  have h := g_if c16_17 h
  by_cases c16_18 : x1 = 18
  · have h := g_it c16_18 h
    refine lv_tableIn (off := 178) (tgt := 194) hx hb dX2_fits_16 (by rw [c16_18]; decide) (by rw [c16_18]; decide) (by rw [c16_18]; rfl) (by decide) ?_
    refine lv_iconst (v := 1) hx hb dX2_fits_194 (by decide) ?_
    exact m_zretR dX2_fits_195 S hr hk hM hS h
  have h := g_if c16_18 h
  by_cases c16_19 : x1 = 19
  · have h := g_it c16_19 h
    refine lv_tableIn (off := 178) (tgt := 194) hx hb dX2_fits_16 (by rw [c16_19]; decide) (by rw [c16_19]; decide) (by rw [c16_19]; rfl) (by decide) ?_
    refine lv_iconst (v := 1) hx hb dX2_fits_194 (by decide) ?_
    exact m_zretR dX2_fits_195 S hr hk hM hS h
  have h := g_if c16_19 h
  by_cases c16_20 : x1 = 20
  · have h := g_it c16_20 h
    refine lv_tableIn (off := 178) (tgt := 194) hx hb dX2_fits_16 (by rw [c16_20]; decide) (by rw [c16_20]; decide) (by rw [c16_20]; rfl) (by decide) ?_
    refine lv_iconst (v := 1) hx hb dX2_fits_194 (by decide) ?_
    exact m_zretR dX2_fits_195 S hr hk hM hS h
  have h := g_if c16_20 h
  by_cases c16_21 : x1 = 21
  · have h := g_it c16_21 h
    refine lv_tableIn (off := 164) (tgt := 180) hx hb dX2_fits_16 (by rw [c16_21]; decide) (by rw [c16_21]; decide) (by rw [c16_21]; rfl) (by decide) ?_
    refine lv_aload_n hx hb dX2_fits_180 rfl (lv_at hl 1 rfl) ?_
    refine mg_loop dX2_fits_181 S hE hM ?_
    refine lv_iconst (v := (-1)) hx hb dX2_fits_184 (by decide) ?_
    refine lv_icmp_eq (tgt := 192) hx hb dX2_fits_185 (by decide) (fun c185 => ?_) (fun c185 => ?_)
    · have h := g_it c185 h
      refine lv_iconst (v := 0) hx hb dX2_fits_192 (by decide) ?_
      exact m_zretR dX2_fits_193 S hr hk hM hS h
    · have h := g_if c185 h
      refine lv_iconst (v := 1) hx hb dX2_fits_188 (by decide) ?_
      refine lv_goto (tgt := 193) hx hb dX2_fits_189 (by decide) ?_
      exact m_zretR dX2_fits_193 S hr hk hM hS h
  have h := g_if c16_21 h
  refine lv_tableOut (tgt := 194) hx hb dX2_fits_16 (g_swOut 4 21 (by intro k hk; match k, hk with | 0, _ => exact c16_4 | 1, _ => exact c16_5 | 2, _ => exact c16_6 | 3, _ => exact c16_7 | 4, _ => exact c16_8 | 5, _ => exact c16_9 | 6, _ => exact c16_10 | 7, _ => exact c16_11 | 8, _ => exact c16_12 | 9, _ => exact c16_13 | 10, _ => exact c16_14 | 11, _ => exact c16_15 | 12, _ => exact c16_16 | 13, _ => exact c16_17 | 14, _ => exact c16_18 | 15, _ => exact c16_19 | 16, _ => exact c16_20 | 17, _ => exact c16_21 | k + 18, hk => exact absurd hk (by omega)) (by decide) (by decide)) (by decide) ?_
  refine lv_iconst (v := 1) hx hb dX2_fits_194 (by decide) ?_
  exact m_zretR dX2_fits_195 S hr hk hM hS h
