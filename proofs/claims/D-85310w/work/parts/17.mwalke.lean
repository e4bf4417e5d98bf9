/-! walks of the model's methods: printed by mgen.py -/
set_option maxRecDepth 100000
theorem hm_asked : yX2_asked.cls = RX2 ∧ yX2_asked.cls ≠ "java/lang/invoke/MethodHandle" ∧ yX2_asked.cls ≠ "java/lang/invoke/VarHandle" ∧ (parseMethodDescriptor yX2_asked.desc).map (fun d => d.parameters.length) = some 2 := by decide +kernel
set_option maxHeartbeats 4000000 in
set_option maxRecDepth 100000 in
theorem wm_asked (E : gX) (l : Launch) (x1 x2 : Int32) (r : Int32) (M M' : MM) (h : mm_asked x1 x2 M = some (r, M')) : gMet E l yX2_asked cX2_asked 6 (some .boolean) 4 0 0 (gx_A E) [.ref (gx_m E), .int x1, .int x2] (gM E M) (gM E M') (some (.int r)) := by
  refine gMet.of (own := RX2) (by decide +kernel) (Nat.le_of_ble_eq_true rfl) rfl ?_
  intro p e s m args below meth c S hr hk hnm hE hM hS ls hl
  have hl : lv_has ls 6 [(0, .ref (gx_m E)), (1, .int x1), (2, .int x2)] := hl
  have hx := S.1
  have hb := S.2.1
  have J233 : ∀ (s0 s1 : Int32) (M : MM) (H : Heap) (locs : List Loc) (ls : Array Slot), mm_asked_J233 s0 s1 M = some (r, M') → gM E M H → va_S (gx_A E) s.heap H locs → lv_has ls 6 [(0, .ref (gx_m E))] → W p l e (gRm 4 0 0) s m args below meth c H locs 0 0 (MQ below (gQ (some (.int r)) (gM E M') (gx_A E)) args s 0 0 (gx_A E)) (F0 m 233 ls [.int s1, .int s0]) := by
    intro s0 s1 M H locs ls h hM hS hl
    unfold mm_asked_J233 at h
    refine lv_icmp_eq (tgt := 240) hx hb dX2_asked_233 (by decide) (fun c233 => ?_) (fun c233 => ?_)
    · have h := g_it c233 h
      refine lv_iconst (v := 0) hx hb dX2_asked_240 (by decide) ?_
      exact m_zretW dX2_asked_241 S hr hk hM hS h
    · have h := g_if c233 h
      refine lv_iconst (v := 1) hx hb dX2_asked_236 (by decide) ?_
      refine lv_goto (tgt := 241) hx hb dX2_asked_237 (by decide) ?_
      exact m_zretW dX2_asked_241 S hr hk hM hS h
  have J217 : ∀ (x1 x3 : Int32) (M : MM) (H : Heap) (locs : List Loc) (ls : Array Slot), mm_asked_J217 x1 x3 M = some (r, M') → gM E M H → va_S (gx_A E) s.heap H locs → lv_has ls 6 [(0, .ref (gx_m E)), (1, .int x1), (3, .int x3)] → W p l e (gRm 4 0 0) s m args below meth c H locs 0 0 (MQ below (gQ (some (.int r)) (gM E M') (gx_A E)) args s 0 0 (gx_A E)) (F0 m 217 ls []) := by
    intro x1 x3 M H locs ls h hM hS hl
    unfold mm_asked_J217 at h
    refine lv_iload_n hx hb dX2_asked_217 rfl (lv_at hl 2 rfl) ?_
    refine lv_aload_n hx hb dX2_asked_218 rfl (lv_at hl 0 rfl) ?_
    refine ma_askNot dX2_asked_219 S hE hM ?_
    refine lv_iload_n hx hb dX2_asked_222 rfl (lv_at hl 1 rfl) ?_
    obtain ⟨v223, e223, h⟩ := g_bd h
    refine m_ald 46 dX2_asked_223 (by decide) rfl S hE hM e223 ?_
    refine lv_iconst (v := 1) hx hb dX2_asked_224 (by decide) ?_
    refine lv_icmp_ne (tgt := 232) hx hb dX2_asked_225 (by decide) (fun c225 => ?_) (fun c225 => ?_)
    · have h := g_if c225 h
      refine lv_iconst (v := 0) hx hb dX2_asked_232 (by decide) ?_
      exact J233 x3 0 M _ _ _ h hM hS (lv_sub hl [0] rfl)
    · have h := g_it c225 h
      refine lv_iconst (v := 1) hx hb dX2_asked_228 (by decide) ?_
      refine lv_goto (tgt := 233) hx hb dX2_asked_229 (by decide) ?_
      exact J233 x3 1 M _ _ _ h hM hS (lv_sub hl [0] rfl)
  have J136 : ∀ (x1 s0 : Int32) (M : MM) (H : Heap) (locs : List Loc) (ls : Array Slot), mm_asked_J136 x1 s0 M = some (r, M') → gM E M H → va_S (gx_A E) s.heap H locs → lv_has ls 6 [(0, .ref (gx_m E)), (1, .int x1)] → W p l e (gRm 4 0 0) s m args below meth c H locs 0 0 (MQ below (gQ (some (.int r)) (gM E M') (gx_A E)) args s 0 0 (gx_A E)) (F0 m 136 ls [.int s0]) := by
    intro x1 s0 M H locs ls h hM hS hl
    unfold mm_asked_J136 at h
    refine lv_istore_n (lv' := [(3, .int s0), (0, .ref (gx_m E)), (1, .int x1)]) hx hb dX2_asked_136 rfl hl (by decide) rfl (fun ls hl => ?_)
    refine lv_goto (tgt := 217) hx hb dX2_asked_137 (by decide) ?_
    exact J217 x1 s0 M _ _ _ h hM hS (lv_sub hl [1, 2, 0] rfl)
  have J152 : ∀ (x1 s0 : Int32) (M : MM) (H : Heap) (locs : List Loc) (ls : Array Slot), mm_asked_J152 x1 s0 M = some (r, M') → gM E M H → va_S (gx_A E) s.heap H locs → lv_has ls 6 [(0, .ref (gx_m E)), (1, .int x1)] → W p l e (gRm 4 0 0) s m args below meth c H locs 0 0 (MQ below (gQ (some (.int r)) (gM E M') (gx_A E)) args s 0 0 (gx_A E)) (F0 m 152 ls [.int s0]) := by
    intro x1 s0 M H locs ls h hM hS hl
    unfold mm_asked_J152 at h
    refine lv_istore_n (lv' := [(3, .int s0), (0, .ref (gx_m E)), (1, .int x1)]) hx hb dX2_asked_152 rfl hl (by decide) rfl (fun ls hl => ?_)
    refine lv_goto (tgt := 217) hx hb dX2_asked_153 (by decide) ?_
    exact J217 x1 s0 M _ _ _ h hM hS (lv_sub hl [1, 2, 0] rfl)
  have J168 : ∀ (x1 s0 : Int32) (M : MM) (H : Heap) (locs : List Loc) (ls : Array Slot), mm_asked_J168 x1 s0 M = some (r, M') → gM E M H → va_S (gx_A E) s.heap H locs → lv_has ls 6 [(0, .ref (gx_m E)), (1, .int x1)] → W p l e (gRm 4 0 0) s m args below meth c H locs 0 0 (MQ below (gQ (some (.int r)) (gM E M') (gx_A E)) args s 0 0 (gx_A E)) (F0 m 168 ls [.int s0]) := by
    intro x1 s0 M H locs ls h hM hS hl
    unfold mm_asked_J168 at h
    refine lv_istore_n (lv' := [(3, .int s0), (0, .ref (gx_m E)), (1, .int x1)]) hx hb dX2_asked_168 rfl hl (by decide) rfl (fun ls hl => ?_)
    refine lv_goto (tgt := 217) hx hb dX2_asked_169 (by decide) ?_
    exact J217 x1 s0 M _ _ _ h hM hS (lv_sub hl [1, 2, 0] rfl)
  have J200 : ∀ (x1 s0 : Int32) (M : MM) (H : Heap) (locs : List Loc) (ls : Array Slot), mm_asked_J200 x1 s0 M = some (r, M') → gM E M H → va_S (gx_A E) s.heap H locs → lv_has ls 6 [(0, .ref (gx_m E)), (1, .int x1)] → W p l e (gRm 4 0 0) s m args below meth c H locs 0 0 (MQ below (gQ (some (.int r)) (gM E M') (gx_A E)) args s 0 0 (gx_A E)) (F0 m 200 ls [.int s0]) := by
    intro x1 s0 M H locs ls h hM hS hl
    unfold mm_asked_J200 at h
    refine lv_istore_n (lv' := [(3, .int s0), (0, .ref (gx_m E)), (1, .int x1)]) hx hb dX2_asked_200 rfl hl (by decide) rfl (fun ls hl => ?_)
    refine lv_goto (tgt := 217) hx hb dX2_asked_201 (by decide) ?_
    exact J217 x1 s0 M _ _ _ h hM hS (lv_sub hl [1, 2, 0] rfl)
  have J184 : ∀ (x1 s0 : Int32) (M : MM) (H : Heap) (locs : List Loc) (ls : Array Slot), mm_asked_J184 x1 s0 M = some (r, M') → gM E M H → va_S (gx_A E) s.heap H locs → lv_has ls 6 [(0, .ref (gx_m E)), (1, .int x1)] → W p l e (gRm 4 0 0) s m args below meth c H locs 0 0 (MQ below (gQ (some (.int r)) (gM E M') (gx_A E)) args s 0 0 (gx_A E)) (F0 m 184 ls [.int s0]) := by
    intro x1 s0 M H locs ls h hM hS hl
    unfold mm_asked_J184 at h
    refine lv_istore_n (lv' := [(3, .int s0), (0, .ref (gx_m E)), (1, .int x1)]) hx hb dX2_asked_184 rfl hl (by decide) rfl (fun ls hl => ?_)
    refine lv_goto (tgt := 217) hx hb dX2_asked_185 (by decide) ?_
    exact J217 x1 s0 M _ _ _ h hM hS (lv_sub hl [1, 2, 0] rfl)
  have J216 : ∀ (x1 s0 : Int32) (M : MM) (H : Heap) (locs : List Loc) (ls : Array Slot), mm_asked_J216 x1 s0 M = some (r, M') → gM E M H → va_S (gx_A E) s.heap H locs → lv_has ls 6 [(0, .ref (gx_m E)), (1, .int x1)] → W p l e (gRm 4 0 0) s m args below meth c H locs 0 0 (MQ below (gQ (some (.int r)) (gM E M') (gx_A E)) args s 0 0 (gx_A E)) (F0 m 216 ls [.int s0]) := by
    intro x1 s0 M H locs ls h hM hS hl
    unfold mm_asked_J216 at h
    refine lv_istore_n (lv' := [(3, .int s0), (0, .ref (gx_m E)), (1, .int x1)]) hx hb dX2_asked_216 rfl hl (by decide) rfl (fun ls hl => ?_)
    exact J217 x1 s0 M _ _ _ h hM hS (lv_sub hl [1, 2, 0] rfl)
  unfold mm_asked at h
  refine lv_aload_n hx hb dX2_asked_0 rfl (lv_at hl 0 rfl) ?_
  refine ma_askSign dX2_asked_1 S hE hM ?_
  refine lv_iload_n hx hb dX2_asked_4 rfl (lv_at hl 1 rfl) ?_
  obtain ⟨v5, e5, h⟩ := g_bd h
  refine m_ald 47 dX2_asked_5 (by decide) rfl S hE hM e5 ?_
  refine lv_if_ne (tgt := 24) hx hb dX2_asked_6 (by decide) (fun c6 => ?_) (fun c6 => ?_)
  · have h := g_if c6 h
    refine lv_aload_n hx hb dX2_asked_24 rfl (lv_at hl 0 rfl) ?_
    refine lv_aload_n hx hb dX2_asked_25 rfl (lv_at hl 0 rfl) ?_
    refine ma_askA dX2_asked_26 S hE hM ?_
    refine lv_iload_n hx hb dX2_asked_29 rfl (lv_at hl 1 rfl) ?_
    obtain ⟨v30, e30, h⟩ := g_bd h
    refine m_ald 48 dX2_asked_30 (by decide) rfl S hE hM e30 ?_
    refine lv_iload_n hx hb dX2_asked_31 rfl (lv_at hl 2 rfl) ?_
    obtain ⟨q32, e32, h⟩ := g_bd h
    refine m_cV (y := yX2_value) (rest := []) dX2_asked_32 q3260 q3262 qs99 q3263 hm_value S hE hM hS hl.1 rfl (wm_value E l _ _ _ _ _ e32) rfl (Nat.le_of_ble_eq_true rfl) ⟨Nat.le_of_ble_eq_true rfl, Nat.le_of_ble_eq_true rfl⟩ ⟨Nat.le_refl 0, Nat.le_refl 0⟩ (fun H locs hM hS => ?_)
    refine lv_istore (lv' := [(4, .int q32.1), (0, .ref (gx_m E)), (1, .int x1), (2, .int x2)]) hx hb dX2_asked_35 hl (by decide) rfl (fun ls hl => ?_)
    refine lv_aload_n hx hb dX2_asked_37 rfl (lv_at hl 1 rfl) ?_
    refine mg_byZero dX2_asked_38 S hE hM ?_
    refine lv_if_eq (tgt := 46) hx hb dX2_asked_41 (by decide) (fun c41 => ?_) (fun c41 => ?_)
    · have h := g_it c41 h
      refine lv_aload_n hx hb dX2_asked_46 rfl (lv_at hl 1 rfl) ?_
      refine lv_aload_n hx hb dX2_asked_47 rfl (lv_at hl 1 rfl) ?_
      refine ma_askB dX2_asked_48 S hE hM ?_
      refine lv_iload_n hx hb dX2_asked_51 rfl (lv_at hl 2 rfl) ?_
      obtain ⟨v52, e52, h⟩ := g_bd h
      refine m_ald 49 dX2_asked_52 (by decide) rfl S hE hM e52 ?_
      refine lv_iload_n hx hb dX2_asked_53 rfl (lv_at hl 3 rfl) ?_
      obtain ⟨q54, e54, h⟩ := g_bd h
      refine m_cV (y := yX2_value) (rest := []) dX2_asked_54 q3260 q3262 qs99 q3263 hm_value S hE hM hS hl.1 rfl (wm_value E l _ _ _ _ _ e54) rfl (Nat.le_of_ble_eq_true rfl) ⟨Nat.le_of_ble_eq_true rfl, Nat.le_of_ble_eq_true rfl⟩ ⟨Nat.le_refl 0, Nat.le_refl 0⟩ (fun H locs hM hS => ?_)
      refine lv_istore (lv' := [(5, .int q54.1), (4, .int q32.1), (0, .ref (gx_m E)), (1, .int x1), (2, .int x2)]) hx hb dX2_asked_57 hl (by decide) rfl (fun ls hl => ?_)
      refine lv_aload_n hx hb dX2_asked_59 rfl (lv_at hl 2 rfl) ?_
      refine mg_byZero dX2_asked_60 S hE hM ?_
      refine lv_if_eq (tgt := 68) hx hb dX2_asked_63 (by decide) (fun c63 => ?_) (fun c63 => ?_)
      · have h := g_it c63 h
        refine lv_aload_n hx hb dX2_asked_68 rfl (lv_at hl 2 rfl) ?_
        refine ma_askSign dX2_asked_69 S hE hM ?_
        refine lv_iload_n hx hb dX2_asked_72 rfl (lv_at hl 3 rfl) ?_
        obtain ⟨v73, e73, h⟩ := g_bd h
        refine m_ald 47 dX2_asked_73 (by decide) rfl S hE hM e73 ?_
        by_cases c74_60 : v73 = 60
        · have h := g_it c74_60 h
          refine lv_lookup (off := 50) (tgt := 124) hx hb dX2_asked_74 (by decide) (by rw [c74_60]; rfl) (by decide) ?_
          refine lv_iload hx hb dX2_asked_124 (lv_at hl 1 rfl) ?_
          refine lv_iload hx hb dX2_asked_126 (lv_at hl 0 rfl) ?_
          refine lv_icmp_ge (tgt := 135) hx hb dX2_asked_128 (by decide) (fun c128 => ?_) (fun c128 => ?_)
          · have h := g_it c128 h
            refine lv_iconst (v := 0) hx hb dX2_asked_135 (by decide) ?_
            exact J136 x1 0 q54.2 _ _ _ h hM hS (lv_sub hl [2, 3] rfl)
          · have h := g_if c128 h
            refine lv_iconst (v := 1) hx hb dX2_asked_131 (by decide) ?_
            refine lv_goto (tgt := 136) hx hb dX2_asked_132 (by decide) ?_
            exact J136 x1 1 q54.2 _ _ _ h hM hS (lv_sub hl [2, 3] rfl)
        have h := g_if c74_60 h
        by_cases c74_62 : v73 = 62
        · have h := g_it c74_62 h
          refine lv_lookup (off := 66) (tgt := 140) hx hb dX2_asked_74 (by decide) (by rw [c74_62]; rfl) (by decide) ?_
          refine lv_iload hx hb dX2_asked_140 (lv_at hl 1 rfl) ?_
          refine lv_iload hx hb dX2_asked_142 (lv_at hl 0 rfl) ?_
          refine lv_icmp_le (tgt := 151) hx hb dX2_asked_144 (by decide) (fun c144 => ?_) (fun c144 => ?_)
          · have h := g_it c144 h
            refine lv_iconst (v := 0) hx hb dX2_asked_151 (by decide) ?_
            exact J152 x1 0 q54.2 _ _ _ h hM hS (lv_sub hl [2, 3] rfl)
          · have h := g_if c144 h
            refine lv_iconst (v := 1) hx hb dX2_asked_147 (by decide) ?_
            refine lv_goto (tgt := 152) hx hb dX2_asked_148 (by decide) ?_
            exact J152 x1 1 q54.2 _ _ _ h hM hS (lv_sub hl [2, 3] rfl)
        have h := g_if c74_62 h
        by_cases c74_316 : v73 = 316
        · have h := g_it c74_316 h
          refine lv_lookup (off := 82) (tgt := 156) hx hb dX2_asked_74 (by decide) (by rw [c74_316]; rfl) (by decide) ?_
          refine lv_iload hx hb dX2_asked_156 (lv_at hl 1 rfl) ?_
          refine lv_iload hx hb dX2_asked_158 (lv_at hl 0 rfl) ?_
          refine lv_icmp_gt (tgt := 167) hx hb dX2_asked_160 (by decide) (fun c160 => ?_) (fun c160 => ?_)
          · have h := g_it c160 h
            refine lv_iconst (v := 0) hx hb dX2_asked_167 (by decide) ?_
            exact J168 x1 0 q54.2 _ _ _ h hM hS (lv_sub hl [2, 3] rfl)
          · have h := g_if c160 h
            refine lv_iconst (v := 1) hx hb dX2_asked_163 (by decide) ?_
            refine lv_goto (tgt := 168) hx hb dX2_asked_164 (by decide) ?_
            exact J168 x1 1 q54.2 _ _ _ h hM hS (lv_sub hl [2, 3] rfl)
        have h := g_if c74_316 h
        by_cases c74_317 : v73 = 317
        · have h := g_it c74_317 h
          refine lv_lookup (off := 114) (tgt := 188) hx hb dX2_asked_74 (by decide) (by rw [c74_317]; rfl) (by decide) ?_
          refine lv_iload hx hb dX2_asked_188 (lv_at hl 1 rfl) ?_
          refine lv_iload hx hb dX2_asked_190 (lv_at hl 0 rfl) ?_
          refine lv_icmp_ne (tgt := 199) hx hb dX2_asked_192 (by decide) (fun c192 => ?_) (fun c192 => ?_)
          · have h := g_if c192 h
            refine lv_iconst (v := 0) hx hb dX2_asked_199 (by decide) ?_
            exact J200 x1 0 q54.2 _ _ _ h hM hS (lv_sub hl [2, 3] rfl)
          · have h := g_it c192 h
            refine lv_iconst (v := 1) hx hb dX2_asked_195 (by decide) ?_
            refine lv_goto (tgt := 200) hx hb dX2_asked_196 (by decide) ?_
            exact J200 x1 1 q54.2 _ _ _ h hM hS (lv_sub hl [2, 3] rfl)
        have h := g_if c74_317 h
        by_cases c74_318 : v73 = 318
        · have h := g_it c74_318 h
          refine lv_lookup (off := 98) (tgt := 172) hx hb dX2_asked_74 (by decide) (by rw [c74_318]; rfl) (by decide) ?_
          refine lv_iload hx hb dX2_asked_172 (lv_at hl 1 rfl) ?_
          refine lv_iload hx hb dX2_asked_174 (lv_at hl 0 rfl) ?_
          refine lv_icmp_lt (tgt := 183) hx hb dX2_asked_176 (by decide) (fun c176 => ?_) (fun c176 => ?_)
          · have h := g_it c176 h
            refine lv_iconst (v := 0) hx hb dX2_asked_183 (by decide) ?_
            exact J184 x1 0 q54.2 _ _ _ h hM hS (lv_sub hl [2, 3] rfl)
          · have h := g_if c176 h
            refine lv_iconst (v := 1) hx hb dX2_asked_179 (by decide) ?_
            refine lv_goto (tgt := 184) hx hb dX2_asked_180 (by decide) ?_
            exact J184 x1 1 q54.2 _ _ _ h hM hS (lv_sub hl [2, 3] rfl)
        have h := g_if c74_318 h
        refine lv_lookup (off := 130) (tgt := 204) hx hb dX2_asked_74 (by decide) (by show Op.lookupswitch.offset [(60, 50), (62, 66), (316, 82), (317, 114), (318, 98)] 130 _ = _; rw [lv_osw c74_60 (by decide), lv_osw c74_62 (by decide), lv_osw c74_316 (by decide), lv_osw c74_317 (by decide), lv_osw c74_318 (by decide)]; rfl) (by decide) ?_
        refine lv_iload hx hb dX2_asked_204 (lv_at hl 1 rfl) ?_
        refine lv_iload hx hb dX2_asked_206 (lv_at hl 0 rfl) ?_
        refine lv_icmp_eq (tgt := 215) hx hb dX2_asked_208 (by decide) (fun c208 => ?_) (fun c208 => ?_)
        · have h := g_it c208 h
          refine lv_iconst (v := 0) hx hb dX2_asked_215 (by decide) ?_
          exact J216 x1 0 q54.2 _ _ _ h hM hS (lv_sub hl [2, 3] rfl)
        · have h := g_if c208 h
          refine lv_iconst (v := 1) hx hb dX2_asked_211 (by decide) ?_
          refine lv_goto (tgt := 216) hx hb dX2_asked_212 (by decide) ?_
          exact J216 x1 1 q54.2 _ _ _ h hM hS (lv_sub hl [2, 3] rfl)
      · have h := g_if c63 h
        refine lv_iconst (v := 0) hx hb dX2_asked_66 (by decide) ?_
        exact m_zretW dX2_asked_67 S hr hk hM hS h
    · have h := g_if c41 h
      refine lv_iconst (v := 0) hx hb dX2_asked_44 (by decide) ?_
      exact m_zretW dX2_asked_45 S hr hk hM hS h
  · have h := g_it c6 h
    refine lv_aload_n hx hb dX2_asked_9 rfl (lv_at hl 0 rfl) ?_
    refine ma_isUp dX2_asked_10 S hE hM ?_
    refine lv_aload_n hx hb dX2_asked_13 rfl (lv_at hl 0 rfl) ?_
    refine ma_askA dX2_asked_14 S hE hM ?_
    refine lv_iload_n hx hb dX2_asked_17 rfl (lv_at hl 1 rfl) ?_
    obtain ⟨v18, e18, h⟩ := g_bd h
    refine m_ald 48 dX2_asked_18 (by decide) rfl S hE hM e18 ?_
    obtain ⟨v19, e19, h⟩ := g_bd h
    refine m_zld 75 dX2_asked_19 (by decide) rfl S hE hM e19 ?_
    refine lv_istore_n (lv' := [(3, .int v19), (0, .ref (gx_m E)), (1, .int x1), (2, .int x2)]) hx hb dX2_asked_20 rfl hl (by decide) rfl (fun ls hl => ?_)
    refine lv_goto (tgt := 217) hx hb dX2_asked_21 (by decide) ?_
    exact J217 x1 v19 M _ _ _ h hM hS (lv_sub hl [1, 2, 0] rfl)
theorem hm_isTrue : yX2_isTrue.cls = RX2 ∧ yX2_isTrue.cls ≠ "java/lang/invoke/MethodHandle" ∧ yX2_isTrue.cls ≠ "java/lang/invoke/VarHandle" ∧ (parseMethodDescriptor yX2_isTrue.desc).map (fun d => d.parameters.length) = some 2 := by decide +kernel
set_option maxHeartbeats 4000000 in
set_option maxRecDepth 100000 in
theorem wm_isTrue (E : gX) (l : Launch) (x1 x2 : Int32) (r : Int32) (M M' : MM) (h : mm_isTrue x1 x2 M = some (r, M')) : gMet E l yX2_isTrue cX2_isTrue 5 (some .boolean) 5 0 0 (gx_A E) [.ref (gx_m E), .int x1, .int x2] (gM E M) (gM E M') (some (.int r)) := by
  refine gMet.of (own := RX2) (by decide +kernel) (Nat.le_of_ble_eq_true rfl) rfl ?_
  intro p e s m args below meth c S hr hk hnm hE hM hS ls hl
  have hl : lv_has ls 5 [(0, .ref (gx_m E)), (1, .int x1), (2, .int x2)] := hl
  have hx := S.1
  have hb := S.2.1
  have L15 : ∀ (n : Nat) (x2 x3 x4 : Int32) (M : MM) (H : Heap) (locs : List Loc) (ls : Array Slot), mm_isTrue_L15 n x2 x3 x4 M = some (r, M') → gM E M H → va_S (gx_A E) s.heap H locs → lv_has ls 5 [(0, .ref (gx_m E)), (2, .int x2), (3, .int x3), (4, .int x4)] → W p l e (gRm 5 0 0) s m args below meth c H locs 0 0 (MQ below (gQ (some (.int r)) (gM E M') (gx_A E)) args s 0 0 (gx_A E)) (F0 m 15 ls []) := by
    intro n15
    induction n15 with
    | zero =>
      intro x2 x3 x4 M H locs ls h
      cases h
    | succ n15 ih15 =>
      have J51 : ∀ (x2 x3 x4 s0 s1 : Int32) (M : MM) (H : Heap) (locs : List Loc) (ls : Array Slot), mm_isTrue_J51 (mm_isTrue_L15 n15) x2 x3 x4 s0 s1 M = some (r, M') → gM E M H → va_S (gx_A E) s.heap H locs → lv_has ls 5 [(0, .ref (gx_m E)), (2, .int x2), (3, .int x3), (4, .int x4)] → W p l e (gRm 5 0 0) s m args below meth c H locs 0 0 (MQ below (gQ (some (.int r)) (gM E M') (gx_A E)) args s 0 0 (gx_A E)) (F0 m 51 ls [.int s1, .int s0]) := by
        intro x2 x3 x4 s0 s1 M H locs ls h hM hS hl
        unfold mm_isTrue_J51 at h
        refine lv_icmp_ne (tgt := 68) hx hb dX2_isTrue_51 (by decide) (fun c51 => ?_) (fun c51 => ?_)
        · have h := g_if c51 h
          refine lv_iload_n hx hb dX2_isTrue_68 rfl (lv_at hl 2 rfl) ?_
          exact m_zretW dX2_isTrue_69 S hr hk hM hS h
        · have h := g_it c51 h
          refine lv_iinc (k := 3) (v := (x4 + 1)) (lv' := [(4, .int (x4 + 1)), (0, .ref (gx_m E)), (2, .int x2), (3, .int x3)]) hx hb dX2_isTrue_54 hl rfl rfl (by decide) rfl (fun ls hl => ?_)
          refine lv_aload_n hx hb dX2_isTrue_57 rfl (lv_at hl 1 rfl) ?_
          refine lv_iload hx hb dX2_isTrue_58 (lv_at hl 0 rfl) ?_
          refine lv_iload_n hx hb dX2_isTrue_60 rfl (lv_at hl 2 rfl) ?_
          obtain ⟨q61, e61, h⟩ := g_bd h
          refine m_cV (y := yX2_asked) (rest := []) dX2_isTrue_61 q3300 q3302 qs109 q3303 hm_asked S hE hM hS hl.1 rfl (wm_asked E l _ _ _ _ _ e61) rfl (Nat.le_of_ble_eq_true rfl) ⟨Nat.le_of_ble_eq_true rfl, Nat.le_of_ble_eq_true rfl⟩ ⟨Nat.le_refl 0, Nat.le_refl 0⟩ (fun H locs hM hS => ?_)
          refine lv_istore_n (lv' := [(3, .int q61.1), (4, .int (x4 + 1)), (0, .ref (gx_m E)), (2, .int x2)]) hx hb dX2_isTrue_64 rfl hl (by decide) rfl (fun ls hl => ?_)
          refine lv_goto (tgt := 15) hx hb dX2_isTrue_65 (by decide) ?_
          exact ih15 x2 q61.1 (x4 + 1) q61.2 _ _ _ h hM hS (lv_sub hl [2, 3, 0, 1] rfl)
      intro x2 x3 x4 M H locs ls h hM hS hl
      have h : mm_isTrue_B15 (mm_isTrue_L15 n15) x2 x3 x4 M = some (r, M') := h
      unfold mm_isTrue_B15 at h
      refine lv_aload_n hx hb dX2_isTrue_15 rfl (lv_at hl 0 rfl) ?_
      refine mg_byZero dX2_isTrue_16 S hE hM ?_
      refine lv_if_ne (tgt := 68) hx hb dX2_isTrue_19 (by decide) (fun c19 => ?_) (fun c19 => ?_)
      · have h := g_if c19 h
        refine lv_iload_n hx hb dX2_isTrue_68 rfl (lv_at hl 2 rfl) ?_
        exact m_zretW dX2_isTrue_69 S hr hk hM hS h
      · have h := g_it c19 h
        refine lv_aload_n hx hb dX2_isTrue_22 rfl (lv_at hl 0 rfl) ?_
        refine ma_askNext dX2_isTrue_23 S hE hM ?_
        refine lv_iload hx hb dX2_isTrue_26 (lv_at hl 3 rfl) ?_
        obtain ⟨v28, e28, h⟩ := g_bd h
        refine m_ald 50 dX2_isTrue_28 (by decide) rfl S hE hM e28 ?_
        refine lv_iconst (v := (-1)) hx hb dX2_isTrue_29 (by decide) ?_
        refine lv_icmp_eq (tgt := 68) hx hb dX2_isTrue_30 (by decide) (fun c30 => ?_) (fun c30 => ?_)
        · have h := g_it c30 h
          refine lv_iload_n hx hb dX2_isTrue_68 rfl (lv_at hl 2 rfl) ?_
          exact m_zretW dX2_isTrue_69 S hr hk hM hS h
        · have h := g_if c30 h
          refine lv_iload_n hx hb dX2_isTrue_33 rfl (lv_at hl 2 rfl) ?_
          refine lv_aload_n hx hb dX2_isTrue_34 rfl (lv_at hl 0 rfl) ?_
          refine ma_askNext dX2_isTrue_35 S hE hM ?_
          refine lv_iload hx hb dX2_isTrue_38 (lv_at hl 3 rfl) ?_
          obtain ⟨v40, e40, h⟩ := g_bd h
          refine m_ald 50 dX2_isTrue_40 (by decide) rfl S hE hM e40 ?_
          refine lv_bipush (v := 48) hx hb dX2_isTrue_41 (by decide) ?_
          refine lv_icmp_ne (tgt := 50) hx hb dX2_isTrue_43 (by decide) (fun c43 => ?_) (fun c43 => ?_)
          · have h := g_if c43 h
            refine lv_iconst (v := 0) hx hb dX2_isTrue_50 (by decide) ?_
            exact J51 x2 x3 x4 x3 0 M _ _ _ h hM hS (lv_sub hl [0, 1, 2, 3] rfl)
          · have h := g_it c43 h
            refine lv_iconst (v := 1) hx hb dX2_isTrue_46 (by decide) ?_
            refine lv_goto (tgt := 51) hx hb dX2_isTrue_47 (by decide) ?_
            exact J51 x2 x3 x4 x3 1 M _ _ _ h hM hS (lv_sub hl [0, 1, 2, 3] rfl)
  unfold mm_isTrue at h
  refine lv_aload_n hx hb dX2_isTrue_0 rfl (lv_at hl 0 rfl) ?_
  refine lv_iconst (v := 0) hx hb dX2_isTrue_1 (by decide) ?_
  obtain ⟨M2, e2, h⟩ := g_bd h
  refine mp_byZero dX2_isTrue_2 S hE hM hS e2 (fun H locs hM hS => ?_)
  refine lv_aload_n hx hb dX2_isTrue_5 rfl (lv_at hl 0 rfl) ?_
  refine lv_iload_n hx hb dX2_isTrue_6 rfl (lv_at hl 1 rfl) ?_
  refine lv_iload_n hx hb dX2_isTrue_7 rfl (lv_at hl 2 rfl) ?_
  obtain ⟨q8, e8, h⟩ := g_bd h
  refine m_cV (y := yX2_asked) (rest := []) dX2_isTrue_8 q3300 q3302 qs109 q3303 hm_asked S hE hM hS hl.1 rfl (wm_asked E l _ _ _ _ _ e8) rfl (Nat.le_of_ble_eq_true rfl) ⟨Nat.le_of_ble_eq_true rfl, Nat.le_of_ble_eq_true rfl⟩ ⟨Nat.le_refl 0, Nat.le_refl 0⟩ (fun H locs hM hS => ?_)
  refine lv_istore_n (lv' := [(3, .int q8.1), (0, .ref (gx_m E)), (1, .int x1), (2, .int x2)]) hx hb dX2_isTrue_11 rfl hl (by decide) rfl (fun ls hl => ?_)
  refine lv_iload_n hx hb dX2_isTrue_12 rfl (lv_at hl 2 rfl) ?_
  refine lv_istore (lv' := [(4, .int x1), (3, .int q8.1), (0, .ref (gx_m E)), (1, .int x1), (2, .int x2)]) hx hb dX2_isTrue_13 hl (by decide) rfl (fun ls hl => ?_)
  exact L15 gF x2 q8.1 x1 q8.2 _ _ _ h hM hS (lv_sub hl [2, 4, 1, 0] rfl)
theorem hm_shares : yX2_shares.cls = RX2 ∧ yX2_shares.cls ≠ "java/lang/invoke/MethodHandle" ∧ yX2_shares.cls ≠ "java/lang/invoke/VarHandle" ∧ (parseMethodDescriptor yX2_shares.desc).map (fun d => d.parameters.length) = some 2 := by decide +kernel
set_option maxHeartbeats 4000000 in
set_option maxRecDepth 100000 in
theorem wm_shares (E : gX) (l : Launch) (x1 x2 : Int32) (r : Int32) (M M' : MM) (h : mm_shares x1 x2 M = some (r, M')) : gMet E l yX2_shares cX2_shares 5 (some .boolean) 6 0 0 (gx_A E) [.ref (gx_m E), .int x1, .int x2] (gM E M) (gM E M') (some (.int r)) := by
  refine gMet.of (own := RX2) (by decide +kernel) (Nat.le_of_ble_eq_true rfl) rfl ?_
  intro p e s m args below meth c S hr hk hnm hE hM hS ls hl
  have hl : lv_has ls 5 [(0, .ref (gx_m E)), (1, .int x1), (2, .int x2)] := hl
  have hx := S.1
  have hb := S.2.1
  have J205 : ∀ (x1 x2 : Int32) (M : MM) (H : Heap) (locs : List Loc) (ls : Array Slot), mm_shares_J205 x1 x2 M = some (r, M') → gM E M H → va_S (gx_A E) s.heap H locs → lv_has ls 5 [(0, .ref (gx_m E)), (1, .int x1), (2, .int x2)] → W p l e (gRm 6 0 0) s m args below meth c H locs 0 0 (MQ below (gQ (some (.int r)) (gM E M') (gx_A E)) args s 0 0 (gx_A E)) (F0 m 205 ls []) := by
    intro x1 x2 M H locs ls h hM hS hl
    unfold mm_shares_J205 at h
    refine lv_aload_n hx hb dX2_shares_205 rfl (lv_at hl 0 rfl) ?_
    refine lv_iload_n hx hb dX2_shares_206 rfl (lv_at hl 1 rfl) ?_
    refine lv_iload_n hx hb dX2_shares_207 rfl (lv_at hl 2 rfl) ?_
    refine lv_iconst (v := 1) hx hb dX2_shares_208 (by decide) ?_
    refine lv_iadd hx hb dX2_shares_209 ?_
    obtain ⟨M210, e210, h⟩ := g_bd h
    refine m_cV (y := yX2_goTo) (rest := []) dX2_shares_210 q3280 q3282 qs104 q3283 hm_goTo S hE hM hS hl.1 rfl (wm_goTo E l _ _ _ _ e210) rfl (Nat.le_of_ble_eq_true rfl) ⟨Nat.le_of_ble_eq_true rfl, Nat.le_of_ble_eq_true rfl⟩ ⟨Nat.le_refl 0, Nat.le_refl 0⟩ (fun H locs hM hS => ?_)
    refine lv_iconst (v := 1) hx hb dX2_shares_213 (by decide) ?_
    exact m_zretW dX2_shares_214 S hr hk hM hS h
  have J204 : ∀ (x1 x2 s1 s2 : Int32) (M : MM) (H : Heap) (locs : List Loc) (ls : Array Slot), mm_shares_J204 x1 x2 s1 s2 M = some (r, M') → gM E M H → va_S (gx_A E) s.heap H locs → lv_has ls 5 [(0, .ref (gx_m E)), (1, .int x1), (2, .int x2)] → W p l e (gRm 6 0 0) s m args below meth c H locs 0 0 (MQ below (gQ (some (.int r)) (gM E M') (gx_A E)) args s 0 0 (gx_A E)) (F0 m 204 ls [.int s2, .int s1, .ref (gx_m E + mOff 75)]) := by
    intro x1 x2 s1 s2 M H locs ls h hM hS hl
    unfold mm_shares_J204 at h
    obtain ⟨M204, e204, h⟩ := g_bd h
    refine m_zst 75 dX2_shares_204 (by decide) rfl S hE hM hS e204 (fun H locs hM hS => ?_)
    exact J205 x1 x2 M204 _ _ _ h hM hS (lv_sub hl [0, 1, 2] rfl)
  unfold mm_shares at h
  refine lv_aload_n hx hb dX2_shares_0 rfl (lv_at hl 0 rfl) ?_
  refine ma_opA dX2_shares_1 S hE hM ?_
  refine lv_iload_n hx hb dX2_shares_4 rfl (lv_at hl 2 rfl) ?_
  obtain ⟨v5, e5, h⟩ := g_bd h
  refine m_ald 37 dX2_shares_5 (by decide) rfl S hE hM e5 ?_
  refine lv_istore_n (lv' := [(3, .int v5), (0, .ref (gx_m E)), (1, .int x1), (2, .int x2)]) hx hb dX2_shares_6 rfl hl (by decide) rfl (fun ls hl => ?_)
  refine lv_aload_n hx hb dX2_shares_7 rfl (lv_at hl 1 rfl) ?_
  refine ma_op dX2_shares_8 S hE hM ?_
  refine lv_iload_n hx hb dX2_shares_11 rfl (lv_at hl 3 rfl) ?_
  obtain ⟨v12, e12, h⟩ := g_bd h
  refine m_ald 35 dX2_shares_12 (by decide) rfl S hE hM e12 ?_
  by_cases c13_12 : v12 = 12
  · have h := g_it c13_12 h
    refine lv_tableIn (off := 27) (tgt := 40) hx hb dX2_shares_13 (by rw [c13_12]; decide) (by rw [c13_12]; decide) (by rw [c13_12]; rfl) (by decide) ?_
    refine lv_aload_n hx hb dX2_shares_40 rfl (lv_at hl 1 rfl) ?_
    refine lv_iload_n hx hb dX2_shares_41 rfl (lv_at hl 0 rfl) ?_
    refine lv_iload_n hx hb dX2_shares_42 rfl (lv_at hl 2 rfl) ?_
    obtain ⟨q43, e43, h⟩ := g_bd h
    refine m_cV (y := yX2_isTrue) (rest := []) dX2_shares_43 q3296 q3298 qs108 q3299 hm_isTrue S hE hM hS hl.1 rfl (wm_isTrue E l _ _ _ _ _ e43) rfl (Nat.le_of_ble_eq_true rfl) ⟨Nat.le_of_ble_eq_true rfl, Nat.le_of_ble_eq_true rfl⟩ ⟨Nat.le_refl 0, Nat.le_refl 0⟩ (fun H locs hM hS => ?_)
    refine lv_istore (lv' := [(4, .int q43.1), (3, .int v5), (0, .ref (gx_m E)), (1, .int x1), (2, .int x2)]) hx hb dX2_shares_46 hl (by decide) rfl (fun ls hl => ?_)
    refine lv_aload_n hx hb dX2_shares_48 rfl (lv_at hl 2 rfl) ?_
    refine mg_byZero dX2_shares_49 S hE hM ?_
    refine lv_if_eq (tgt := 64) hx hb dX2_shares_52 (by decide) (fun c52 => ?_) (fun c52 => ?_)
    · have h := g_it c52 h
      refine lv_iload hx hb dX2_shares_64 (lv_at hl 0 rfl) ?_
      refine lv_if_ne (tgt := 205) hx hb dX2_shares_66 (by decide) (fun c66 => ?_) (fun c66 => ?_)
      · have h := g_if c66 h
        exact J205 x1 x2 q43.2 _ _ _ h hM hS (lv_sub hl [2, 3, 4] rfl)
      · have h := g_it c66 h
        refine lv_iconst (v := 0) hx hb dX2_shares_69 (by decide) ?_
        exact m_zretW dX2_shares_70 S hr hk hM hS h
    · have h := g_if c52 h
      refine lv_aload_n hx hb dX2_shares_55 rfl (lv_at hl 2 rfl) ?_
      refine lv_iload_n hx hb dX2_shares_56 rfl (lv_at hl 3 rfl) ?_
      refine lv_bipush (v := 6) hx hb dX2_shares_57 (by decide) ?_
      obtain ⟨M59, e59, h⟩ := g_bd h
      refine m_cV (y := yX2_stalls) (rest := []) dX2_shares_59 q3276 q3278 qs103 q3279 hm_stalls S hE hM hS hl.1 rfl (wm_stalls E l _ _ _ _ e59) rfl (Nat.le_of_ble_eq_true rfl) ⟨Nat.le_of_ble_eq_true rfl, Nat.le_of_ble_eq_true rfl⟩ ⟨Nat.le_refl 0, Nat.le_refl 0⟩ (fun H locs hM hS => ?_)
      refine lv_iconst (v := 1) hx hb dX2_shares_62 (by decide) ?_
      exact m_zretW dX2_shares_63 S hr hk hM hS h
  have h := g_if c13_12 h
  by_cases c13_13 : v12 = 13
  · have h := g_it c13_13 h
    refine lv_tableIn (off := 58) (tgt := 71) hx hb dX2_shares_13 (by rw [c13_13]; decide) (by rw [c13_13]; decide) (by rw [c13_13]; rfl) (by decide) ?_
    refine lv_aload_n hx hb dX2_shares_71 rfl (lv_at hl 1 rfl) ?_
    refine ma_holds dX2_shares_72 S hE hM ?_
    refine lv_bipush (v := 6) hx hb dX2_shares_75 (by decide) ?_
    refine lv_iload_n hx hb dX2_shares_77 rfl (lv_at hl 2 rfl) ?_
    refine lv_imul hx hb dX2_shares_78 ?_
    refine lv_iload_n hx hb dX2_shares_79 rfl (lv_at hl 0 rfl) ?_
    refine lv_iadd hx hb dX2_shares_80 ?_
    obtain ⟨v81, e81, h⟩ := g_bd h
    refine m_ald 73 dX2_shares_81 (by decide) rfl S hE hM e81 ?_
    refine lv_iconst (v := 2) hx hb dX2_shares_82 (by decide) ?_
    refine lv_icmp_ne (tgt := 94) hx hb dX2_shares_83 (by decide) (fun c83 => ?_) (fun c83 => ?_)
    · have h := g_if c83 h
      refine lv_aload_n hx hb dX2_shares_94 rfl (lv_at hl 1 rfl) ?_
      refine ma_idle dX2_shares_95 S hE hM ?_
      refine lv_iload_n hx hb dX2_shares_98 rfl (lv_at hl 0 rfl) ?_
      obtain ⟨v99, e99, h⟩ := g_bd h
      refine m_ald 74 dX2_shares_99 (by decide) rfl S hE hM e99 ?_
      refine lv_if_ne (tgt := 105) hx hb dX2_shares_100 (by decide) (fun c100 => ?_) (fun c100 => ?_)
      · have h := g_if c100 h
        refine lv_aload_n hx hb dX2_shares_105 rfl (lv_at hl 1 rfl) ?_
        refine ma_idle dX2_shares_106 S hE hM ?_
        refine lv_iload_n hx hb dX2_shares_109 rfl (lv_at hl 0 rfl) ?_
        refine lv_dup2_11 hx hb dX2_shares_110 rfl rfl ?_
        obtain ⟨v111, e111, h⟩ := g_bd h
        refine m_ald 74 dX2_shares_111 (by decide) rfl S hE hM e111 ?_
        refine lv_iconst (v := 1) hx hb dX2_shares_112 (by decide) ?_
        refine lv_isub hx hb dX2_shares_113 ?_
        obtain ⟨M114, e114, h⟩ := g_bd h
        refine m_ast 74 dX2_shares_114 (by decide) rfl S hE hM hS e114 (fun H locs hM hS => ?_)
        refine lv_aload_n hx hb dX2_shares_115 rfl (lv_at hl 1 rfl) ?_
        refine ma_holds dX2_shares_116 S hE hM ?_
        refine lv_bipush (v := 6) hx hb dX2_shares_119 (by decide) ?_
        refine lv_iload_n hx hb dX2_shares_121 rfl (lv_at hl 2 rfl) ?_
        refine lv_imul hx hb dX2_shares_122 ?_
        refine lv_iload_n hx hb dX2_shares_123 rfl (lv_at hl 0 rfl) ?_
        refine lv_iadd hx hb dX2_shares_124 ?_
        refine lv_dup2_11 hx hb dX2_shares_125 rfl rfl ?_
        obtain ⟨v126, e126, h⟩ := g_bd h
        refine m_ald 73 dX2_shares_126 (by decide) rfl S hE hM e126 ?_
        refine lv_iconst (v := 1) hx hb dX2_shares_127 (by decide) ?_
        refine lv_iadd hx hb dX2_shares_128 ?_
        obtain ⟨M129, e129, h⟩ := g_bd h
        refine m_ast 73 dX2_shares_129 (by decide) rfl S hE hM hS e129 (fun H locs hM hS => ?_)
        refine lv_goto (tgt := 205) hx hb dX2_shares_130 (by decide) ?_
        exact J205 x1 x2 M129 _ _ _ h hM hS (lv_sub hl [1, 2, 3] rfl)
      · have h := g_it c100 h
        refine lv_iconst (v := 0) hx hb dX2_shares_103 (by decide) ?_
        exact m_zretW dX2_shares_104 S hr hk hM hS h
    · have h := g_it c83 h
      refine lv_aload_n hx hb dX2_shares_86 rfl (lv_at hl 1 rfl) ?_
      refine lv_iload_n hx hb dX2_shares_87 rfl (lv_at hl 2 rfl) ?_
      refine lv_iconst (v := 3) hx hb dX2_shares_88 (by decide) ?_
      obtain ⟨M89, e89, h⟩ := g_bd h
      refine m_cV (y := yX2_stalls) (rest := []) dX2_shares_89 q3276 q3278 qs103 q3279 hm_stalls S hE hM hS hl.1 rfl (wm_stalls E l _ _ _ _ e89) rfl (Nat.le_of_ble_eq_true rfl) ⟨Nat.le_of_ble_eq_true rfl, Nat.le_of_ble_eq_true rfl⟩ ⟨Nat.le_refl 0, Nat.le_refl 0⟩ (fun H locs hM hS => ?_)
      refine lv_iconst (v := 1) hx hb dX2_shares_92 (by decide) ?_
      exact m_zretW dX2_shares_93 S hr hk hM hS h
  have h := g_if c13_13 h
  by_cases c13_14 : v12 = 14
  · have h := g_it c13_14 h
    refine lv_tableIn (off := 120) (tgt := 133) hx hb dX2_shares_13 (by rw [c13_14]; decide) (by rw [c13_14]; decide) (by rw [c13_14]; rfl) (by decide) ?_
    refine lv_aload_n hx hb dX2_shares_133 rfl (lv_at hl 1 rfl) ?_
    refine ma_holds dX2_shares_134 S hE hM ?_
    refine lv_bipush (v := 6) hx hb dX2_shares_137 (by decide) ?_
    refine lv_iload_n hx hb dX2_shares_139 rfl (lv_at hl 2 rfl) ?_
    refine lv_imul hx hb dX2_shares_140 ?_
    refine lv_iload_n hx hb dX2_shares_141 rfl (lv_at hl 0 rfl) ?_
    refine lv_iadd hx hb dX2_shares_142 ?_
    obtain ⟨v143, e143, h⟩ := g_bd h
    refine m_ald 73 dX2_shares_143 (by decide) rfl S hE hM e143 ?_
    refine lv_if_ne (tgt := 155) hx hb dX2_shares_144 (by decide) (fun c144 => ?_) (fun c144 => ?_)
    · have h := g_if c144 h
      refine lv_aload_n hx hb dX2_shares_155 rfl (lv_at hl 1 rfl) ?_
      refine ma_idle dX2_shares_156 S hE hM ?_
      refine lv_iload_n hx hb dX2_shares_159 rfl (lv_at hl 0 rfl) ?_
      refine lv_dup2_11 hx hb dX2_shares_160 rfl rfl ?_
      obtain ⟨v161, e161, h⟩ := g_bd h
      refine m_ald 74 dX2_shares_161 (by decide) rfl S hE hM e161 ?_
      refine lv_iconst (v := 1) hx hb dX2_shares_162 (by decide) ?_
      refine lv_iadd hx hb dX2_shares_163 ?_
      obtain ⟨M164, e164, h⟩ := g_bd h
      refine m_ast 74 dX2_shares_164 (by decide) rfl S hE hM hS e164 (fun H locs hM hS => ?_)
      refine lv_aload_n hx hb dX2_shares_165 rfl (lv_at hl 1 rfl) ?_
      refine ma_holds dX2_shares_166 S hE hM ?_
      refine lv_bipush (v := 6) hx hb dX2_shares_169 (by decide) ?_
      refine lv_iload_n hx hb dX2_shares_171 rfl (lv_at hl 2 rfl) ?_
      refine lv_imul hx hb dX2_shares_172 ?_
      refine lv_iload_n hx hb dX2_shares_173 rfl (lv_at hl 0 rfl) ?_
      refine lv_iadd hx hb dX2_shares_174 ?_
      refine lv_dup2_11 hx hb dX2_shares_175 rfl rfl ?_
      obtain ⟨v176, e176, h⟩ := g_bd h
      refine m_ald 73 dX2_shares_176 (by decide) rfl S hE hM e176 ?_
      refine lv_iconst (v := 1) hx hb dX2_shares_177 (by decide) ?_
      refine lv_isub hx hb dX2_shares_178 ?_
      obtain ⟨M179, e179, h⟩ := g_bd h
      refine m_ast 73 dX2_shares_179 (by decide) rfl S hE hM hS e179 (fun H locs hM hS => ?_)
      refine lv_goto (tgt := 205) hx hb dX2_shares_180 (by decide) ?_
      exact J205 x1 x2 M179 _ _ _ h hM hS (lv_sub hl [1, 2, 3] rfl)
    · have h := g_it c144 h
      refine lv_aload_n hx hb dX2_shares_147 rfl (lv_at hl 1 rfl) ?_
      refine lv_iload_n hx hb dX2_shares_148 rfl (lv_at hl 2 rfl) ?_
      refine lv_iconst (v := 3) hx hb dX2_shares_149 (by decide) ?_
      obtain ⟨M150, e150, h⟩ := g_bd h
      refine m_cV (y := yX2_stalls) (rest := []) dX2_shares_150 q3276 q3278 qs103 q3279 hm_stalls S hE hM hS hl.1 rfl (wm_stalls E l _ _ _ _ e150) rfl (Nat.le_of_ble_eq_true rfl) ⟨Nat.le_of_ble_eq_true rfl, Nat.le_of_ble_eq_true rfl⟩ ⟨Nat.le_refl 0, Nat.le_refl 0⟩ (fun H locs hM hS => ?_)
      refine lv_iconst (v := 1) hx hb dX2_shares_153 (by decide) ?_
      exact m_zretW dX2_shares_154 S hr hk hM hS h
  have h := g_if c13_14 h
  refine lv_tableOut (tgt := 183) hx hb dX2_shares_13 (g_swOut 12 14 (by intro k hk; match k, hk with | 0, _ => exact c13_12 | 1, _ => exact c13_13 | 2, _ => exact c13_14 | k + 3, hk => exact absurd hk (by omega)) (by decide) (by decide)) (by decide) ?_
  refine lv_aload_n hx hb dX2_shares_183 rfl (lv_at hl 1 rfl) ?_
  refine ma_isUp dX2_shares_184 S hE hM ?_
  refine lv_iload_n hx hb dX2_shares_187 rfl (lv_at hl 0 rfl) ?_
  refine lv_aload_n hx hb dX2_shares_188 rfl (lv_at hl 1 rfl) ?_
  refine ma_op dX2_shares_189 S hE hM ?_
  refine lv_iload_n hx hb dX2_shares_192 rfl (lv_at hl 3 rfl) ?_
  obtain ⟨v193, e193, h⟩ := g_bd h
  refine m_ald 35 dX2_shares_193 (by decide) rfl S hE hM e193 ?_
  refine lv_bipush (v := 15) hx hb dX2_shares_194 (by decide) ?_
  refine lv_icmp_ne (tgt := 203) hx hb dX2_shares_196 (by decide) (fun c196 => ?_) (fun c196 => ?_)
  · have h := g_if c196 h
    refine lv_iconst (v := 0) hx hb dX2_shares_203 (by decide) ?_
    exact J204 x1 x2 v5 0 M _ _ _ h hM hS (lv_sub hl [1, 2, 3] rfl)
  · have h := g_it c196 h
    refine lv_iconst (v := 1) hx hb dX2_shares_199 (by decide) ?_
    refine lv_goto (tgt := 204) hx hb dX2_shares_200 (by decide) ?_
    exact J204 x1 x2 v5 1 M _ _ _ h hM hS (lv_sub hl [1, 2, 3] rfl)
theorem hm_unload : yX2_unload.cls = RX2 ∧ yX2_unload.cls ≠ "java/lang/invoke/MethodHandle" ∧ yX2_unload.cls ≠ "java/lang/invoke/VarHandle" ∧ (parseMethodDescriptor yX2_unload.desc).map (fun d => d.parameters.length) = some 2 := by decide +kernel
set_option maxHeartbeats 4000000 in
set_option maxRecDepth 100000 in
theorem wm_unload (E : gX) (l : Launch) (x1 x2 : Int32) (M M' : MM) (h : mm_unload x1 x2 M = some M') : gMet E l yX2_unload cX2_unload 4 none 5 0 0 (gx_A E) [.ref (gx_m E), .int x1, .int x2] (gM E M) (gM E M') none := by
  refine gMet.of (own := RX2) (by decide +kernel) (Nat.le_of_ble_eq_true rfl) rfl ?_
  intro p e s m args below meth c S hr hk hnm hE hM hS ls hl
  have hl : lv_has ls 4 [(0, .ref (gx_m E)), (1, .int x1), (2, .int x2)] := hl
  have hx := S.1
  have hb := S.2.1
  have J50 : ∀ (x1 x2 : Int32) (M : MM) (H : Heap) (locs : List Loc) (ls : Array Slot), mm_unload_J50 x1 x2 M = some M' → gM E M H → va_S (gx_A E) s.heap H locs → lv_has ls 4 [(0, .ref (gx_m E)), (1, .int x1), (2, .int x2)] → W p l e (gRm 5 0 0) s m args below meth c H locs 0 0 (MQ below (gQ none (gM E M') (gx_A E)) args s 0 0 (gx_A E)) (F0 m 50 ls []) := by
    intro x1 x2 M H locs ls h hM hS hl
    unfold mm_unload_J50 at h
    refine lv_aload_n hx hb dX2_unload_50 rfl (lv_at hl 0 rfl) ?_
    refine lv_iload_n hx hb dX2_unload_51 rfl (lv_at hl 1 rfl) ?_
    refine lv_iload_n hx hb dX2_unload_52 rfl (lv_at hl 2 rfl) ?_
    refine lv_iconst (v := 1) hx hb dX2_unload_53 (by decide) ?_
    refine lv_iadd hx hb dX2_unload_54 ?_
    obtain ⟨M55, e55, h⟩ := g_bd h
    refine m_cV (y := yX2_goTo) (rest := []) dX2_unload_55 q3280 q3282 qs104 q3283 hm_goTo S hE hM hS hl.1 rfl (wm_goTo E l _ _ _ _ e55) rfl (Nat.le_of_ble_eq_true rfl) ⟨Nat.le_of_ble_eq_true rfl, Nat.le_of_ble_eq_true rfl⟩ ⟨Nat.le_refl 0, Nat.le_refl 0⟩ (fun H locs hM hS => ?_)
    exact m_vretW dX2_unload_58 S hr hk hM hS h
  unfold mm_unload at h
  refine lv_aload_n hx hb dX2_unload_0 rfl (lv_at hl 0 rfl) ?_
  refine lv_iload_n hx hb dX2_unload_1 rfl (lv_at hl 1 rfl) ?_
  obtain ⟨v2, e2, h⟩ := g_bd h
  refine m_cV (y := yX2_isCalm) (rest := []) dX2_unload_2 q3284 q3286 qs105 q3287 hm_isCalm S hE hM hS hl.1 rfl (wm_isCalm E l _ _ _ e2) rfl (Nat.le_of_ble_eq_true rfl) ⟨Nat.le_of_ble_eq_true rfl, Nat.le_of_ble_eq_true rfl⟩ ⟨Nat.le_refl 0, Nat.le_refl 0⟩ (fun H locs hM hS => ?_)
  refine lv_if_ne (tgt := 15) hx hb dX2_unload_5 (by decide) (fun c5 => ?_) (fun c5 => ?_)
  · have h := g_if c5 h
    refine lv_aload_n hx hb dX2_unload_15 rfl (lv_at hl 0 rfl) ?_
    refine ma_aboard dX2_unload_16 S hE hM ?_
    refine lv_iload_n hx hb dX2_unload_19 rfl (lv_at hl 1 rfl) ?_
    obtain ⟨v20, e20, h⟩ := g_bd h
    refine m_ald 61 dX2_unload_20 (by decide) rfl S hE hM e20 ?_
    refine lv_istore_n (lv' := [(3, .int v20), (0, .ref (gx_m E)), (1, .int x1), (2, .int x2)]) hx hb dX2_unload_21 rfl hl (by decide) rfl (fun ls hl => ?_)
    refine lv_aload_n hx hb dX2_unload_22 rfl (lv_at hl 1 rfl) ?_
    refine ma_aboard dX2_unload_23 S hE hM ?_
    refine lv_iload_n hx hb dX2_unload_26 rfl (lv_at hl 2 rfl) ?_
    refine lv_iconst (v := 0) hx hb dX2_unload_27 (by decide) ?_
    obtain ⟨M28, e28, h⟩ := g_bd h
    refine m_ast 61 dX2_unload_28 (by decide) rfl S hE hM hS e28 (fun H locs hM hS => ?_)
    refine lv_aload_n hx hb dX2_unload_29 rfl (lv_at hl 1 rfl) ?_
    refine lv_dup hx hb dX2_unload_30 rfl ?_
    refine mg_served dX2_unload_31 S hE hM ?_
    refine lv_iload_n hx hb dX2_unload_34 rfl (lv_at hl 0 rfl) ?_
    refine lv_iadd hx hb dX2_unload_35 ?_
    obtain ⟨M36, e36, h⟩ := g_bd h
    refine mp_served dX2_unload_36 S hE hM hS e36 (fun H locs hM hS => ?_)
    refine lv_iload_n hx hb dX2_unload_39 rfl (lv_at hl 0 rfl) ?_
    refine lv_if_le (tgt := 50) hx hb dX2_unload_40 (by decide) (fun c40 => ?_) (fun c40 => ?_)
    · have h := g_it c40 h
      exact J50 x1 x2 M36 _ _ _ h hM hS (lv_sub hl [1, 2, 3] rfl)
    · have h := g_if c40 h
      refine lv_aload_n hx hb dX2_unload_43 rfl (lv_at hl 1 rfl) ?_
      refine lv_iconst (v := 5) hx hb dX2_unload_44 (by decide) ?_
      refine lv_iload_n hx hb dX2_unload_45 rfl (lv_at hl 2 rfl) ?_
      refine lv_iload_n hx hb dX2_unload_46 rfl (lv_at hl 0 rfl) ?_
      obtain ⟨M47, e47, h⟩ := g_bd h
      refine m_cV (y := yX2_note) (rest := []) dX2_unload_47 q3240 q3242 qs94 q3243 hm_note S hE hM hS hl.1 rfl (wm_note E l _ _ _ _ _ e47) rfl (Nat.le_of_ble_eq_true rfl) ⟨Nat.le_of_ble_eq_true rfl, Nat.le_of_ble_eq_true rfl⟩ ⟨Nat.le_refl 0, Nat.le_refl 0⟩ (fun H locs hM hS => ?_)
      exact J50 x1 x2 M47 _ _ _ h hM hS (lv_sub hl [1, 2, 3] rfl)
  · have h := g_it c5 h
    refine lv_aload_n hx hb dX2_unload_8 rfl (lv_at hl 0 rfl) ?_
    refine lv_iload_n hx hb dX2_unload_9 rfl (lv_at hl 1 rfl) ?_
    refine lv_iconst (v := 1) hx hb dX2_unload_10 (by decide) ?_
    obtain ⟨M11, e11, h⟩ := g_bd h
    refine m_cV (y := yX2_stalls) (rest := []) dX2_unload_11 q3276 q3278 qs103 q3279 hm_stalls S hE hM hS hl.1 rfl (wm_stalls E l _ _ _ _ e11) rfl (Nat.le_of_ble_eq_true rfl) ⟨Nat.le_of_ble_eq_true rfl, Nat.le_of_ble_eq_true rfl⟩ ⟨Nat.le_refl 0, Nat.le_refl 0⟩ (fun H locs hM hS => ?_)
    exact m_vretW dX2_unload_14 S hr hk hM hS h
theorem hm_worked : yX2_worked.cls = RX2 ∧ yX2_worked.cls ≠ "java/lang/invoke/MethodHandle" ∧ yX2_worked.cls ≠ "java/lang/invoke/VarHandle" ∧ (parseMethodDescriptor yX2_worked.desc).map (fun d => d.parameters.length) = some 2 := by decide +kernel
set_option maxHeartbeats 4000000 in
set_option maxRecDepth 100000 in
theorem wm_worked (E : gX) (l : Launch) (x1 x2 : Int32) (M M' : MM) (h : mm_worked x1 x2 M = some M') : gMet E l yX2_worked cX2_worked 7 none 5 0 0 (gx_A E) [.ref (gx_m E), .int x1, .int x2] (gM E M) (gM E M') none := by
  refine gMet.of (own := RX2) (by decide +kernel) (Nat.le_of_ble_eq_true rfl) rfl ?_
  intro p e s m args below meth c S hr hk hnm hE hM hS ls hl
  have hl : lv_has ls 7 [(0, .ref (gx_m E)), (1, .int x1), (2, .int x2)] := hl
  have hx := S.1
  have hb := S.2.1
  have J271 : ∀ (x1 x2 : Int32) (M : MM) (H : Heap) (locs : List Loc) (ls : Array Slot), mm_worked_J271 x1 x2 M = some M' → gM E M H → va_S (gx_A E) s.heap H locs → lv_has ls 7 [(0, .ref (gx_m E)), (1, .int x1), (2, .int x2)] → W p l e (gRm 5 0 0) s m args below meth c H locs 0 0 (MQ below (gQ none (gM E M') (gx_A E)) args s 0 0 (gx_A E)) (F0 m 271 ls []) := by
    intro x1 x2 M H locs ls h hM hS hl
    unfold mm_worked_J271 at h
    refine lv_aload_n hx hb dX2_worked_271 rfl (lv_at hl 0 rfl) ?_
    refine lv_iload_n hx hb dX2_worked_272 rfl (lv_at hl 1 rfl) ?_
    refine lv_iload_n hx hb dX2_worked_273 rfl (lv_at hl 2 rfl) ?_
    refine lv_iconst (v := 1) hx hb dX2_worked_274 (by decide) ?_
    refine lv_iadd hx hb dX2_worked_275 ?_
    obtain ⟨M276, e276, h⟩ := g_bd h
    refine m_cV (y := yX2_goTo) (rest := []) dX2_worked_276 q3280 q3282 qs104 q3283 hm_goTo S hE hM hS hl.1 rfl (wm_goTo E l _ _ _ _ e276) rfl (Nat.le_of_ble_eq_true rfl) ⟨Nat.le_of_ble_eq_true rfl, Nat.le_of_ble_eq_true rfl⟩ ⟨Nat.le_refl 0, Nat.le_refl 0⟩ (fun H locs hM hS => ?_)
    exact m_vretW dX2_worked_279 S hr hk hM hS h
  have J267 : ∀ (s1 s2 : Int32) (M : MM) (H : Heap) (locs : List Loc) (ls : Array Slot), mm_worked_J267 s1 s2 M = some M' → gM E M H → va_S (gx_A E) s.heap H locs → lv_has ls 7 [(0, .ref (gx_m E))] → W p l e (gRm 5 0 0) s m args below meth c H locs 0 0 (MQ below (gQ none (gM E M') (gx_A E)) args s 0 0 (gx_A E)) (F0 m 267 ls [.int s2, .int s1, .ref (gx_m E)]) := by
    intro s1 s2 M H locs ls h hM hS hl
    unfold mm_worked_J267 at h
    obtain ⟨M267, e267, h⟩ := g_bd h
    refine m_cV (y := yX2_goTo) (rest := []) dX2_worked_267 q3280 q3282 qs104 q3283 hm_goTo S hE hM hS hl.1 rfl (wm_goTo E l _ _ _ _ e267) rfl (Nat.le_of_ble_eq_true rfl) ⟨Nat.le_of_ble_eq_true rfl, Nat.le_of_ble_eq_true rfl⟩ ⟨Nat.le_refl 0, Nat.le_refl 0⟩ (fun H locs hM hS => ?_)
    exact m_vretW dX2_worked_270 S hr hk hM hS h
  have J120 : ∀ (x1 x2 x3 x4 : Int32) (M : MM) (H : Heap) (locs : List Loc) (ls : Array Slot), mm_worked_J120 x1 x2 x3 x4 M = some M' → gM E M H → va_S (gx_A E) s.heap H locs → lv_has ls 7 [(0, .ref (gx_m E)), (1, .int x1), (2, .int x2), (3, .int x3), (4, .int x4)] → W p l e (gRm 5 0 0) s m args below meth c H locs 0 0 (MQ below (gQ none (gM E M') (gx_A E)) args s 0 0 (gx_A E)) (F0 m 120 ls []) := by
    intro x1 x2 x3 x4 M H locs ls h hM hS hl
    unfold mm_worked_J120 at h
    refine lv_iload hx hb dX2_worked_120 (lv_at hl 4 rfl) ?_
    by_cases c122_4 : x4 = 4
    · have h := g_it c122_4 h
      refine lv_lookup (off := 50) (tgt := 172) hx hb dX2_worked_122 (by decide) (by rw [c122_4]; rfl) (by decide) ?_
      refine lv_aload_n hx hb dX2_worked_172 rfl (lv_at hl 0 rfl) ?_
      refine ma_goal dX2_worked_173 S hE hM ?_
      refine lv_iload_n hx hb dX2_worked_176 rfl (lv_at hl 1 rfl) ?_
      refine lv_iload_n hx hb dX2_worked_177 rfl (lv_at hl 3 rfl) ?_
      obtain ⟨M178, e178, h⟩ := g_bd h
      refine m_ast 57 dX2_worked_178 (by decide) rfl S hE hM hS e178 (fun H locs hM hS => ?_)
      refine lv_goto (tgt := 271) hx hb dX2_worked_179 (by decide) ?_
      exact J271 x1 x2 M178 _ _ _ h hM hS (lv_sub hl [0, 1, 2] rfl)
    have h := g_if c122_4 h
    by_cases c122_5 : x4 = 5
    · have h := g_it c122_5 h
      refine lv_lookup (off := 60) (tgt := 182) hx hb dX2_worked_122 (by decide) (by rw [c122_5]; rfl) (by decide) ?_
      refine lv_aload_n hx hb dX2_worked_182 rfl (lv_at hl 0 rfl) ?_
      refine ma_lift dX2_worked_183 S hE hM ?_
      refine lv_iload_n hx hb dX2_worked_186 rfl (lv_at hl 1 rfl) ?_
      refine lv_iload_n hx hb dX2_worked_187 rfl (lv_at hl 3 rfl) ?_
      obtain ⟨M188, e188, h⟩ := g_bd h
      refine m_ast 59 dX2_worked_188 (by decide) rfl S hE hM hS e188 (fun H locs hM hS => ?_)
      refine lv_goto (tgt := 271) hx hb dX2_worked_189 (by decide) ?_
      exact J271 x1 x2 M188 _ _ _ h hM hS (lv_sub hl [0, 1, 2] rfl)
    have h := g_if c122_5 h
    by_cases c122_6 : x4 = 6
    · have h := g_it c122_6 h
      refine lv_lookup (off := 70) (tgt := 192) hx hb dX2_worked_122 (by decide) (by rw [c122_6]; rfl) (by decide) ?_
      refine lv_aload_n hx hb dX2_worked_192 rfl (lv_at hl 0 rfl) ?_
      refine ma_glow dX2_worked_193 S hE hM ?_
      refine lv_iload_n hx hb dX2_worked_196 rfl (lv_at hl 1 rfl) ?_
      refine lv_iload_n hx hb dX2_worked_197 rfl (lv_at hl 3 rfl) ?_
      obtain ⟨M198, e198, h⟩ := g_bd h
      refine m_ast 62 dX2_worked_198 (by decide) rfl S hE hM hS e198 (fun H locs hM hS => ?_)
      refine lv_goto (tgt := 271) hx hb dX2_worked_199 (by decide) ?_
      exact J271 x1 x2 M198 _ _ _ h hM hS (lv_sub hl [0, 1, 2] rfl)
    have h := g_if c122_6 h
    by_cases c122_7 : x4 = 7
    · have h := g_it c122_7 h
      refine lv_lookup (off := 80) (tgt := 202) hx hb dX2_worked_122 (by decide) (by rw [c122_7]; rfl) (by decide) ?_
      refine lv_aload_n hx hb dX2_worked_202 rfl (lv_at hl 0 rfl) ?_
      refine ma_volume dX2_worked_203 S hE hM ?_
      refine lv_iload_n hx hb dX2_worked_206 rfl (lv_at hl 1 rfl) ?_
      refine lv_iload_n hx hb dX2_worked_207 rfl (lv_at hl 3 rfl) ?_
      obtain ⟨M208, e208, h⟩ := g_bd h
      refine m_ast 63 dX2_worked_208 (by decide) rfl S hE hM hS e208 (fun H locs hM hS => ?_)
      refine lv_goto (tgt := 271) hx hb dX2_worked_209 (by decide) ?_
      exact J271 x1 x2 M208 _ _ _ h hM hS (lv_sub hl [0, 1, 2] rfl)
    have h := g_if c122_7 h
    by_cases c122_50 : x4 = 50
    · have h := g_it c122_50 h
      refine lv_lookup (off := 90) (tgt := 212) hx hb dX2_worked_122 (by decide) (by rw [c122_50]; rfl) (by decide) ?_
      refine lv_aload_n hx hb dX2_worked_212 rfl (lv_at hl 0 rfl) ?_
      refine ma_register dX2_worked_213 S hE hM ?_
      refine lv_iconst (v := 4) hx hb dX2_worked_216 (by decide) ?_
      refine lv_iload_n hx hb dX2_worked_217 rfl (lv_at hl 1 rfl) ?_
      refine lv_imul hx hb dX2_worked_218 ?_
      refine lv_aload_n hx hb dX2_worked_219 rfl (lv_at hl 0 rfl) ?_
      refine ma_opB dX2_worked_220 S hE hM ?_
      refine lv_iload_n hx hb dX2_worked_223 rfl (lv_at hl 2 rfl) ?_
      obtain ⟨v224, e224, h⟩ := g_bd h
      refine m_ald 38 dX2_worked_224 (by decide) rfl S hE hM e224 ?_
      refine lv_iadd hx hb dX2_worked_225 ?_
      refine lv_iload_n hx hb dX2_worked_226 rfl (lv_at hl 3 rfl) ?_
      obtain ⟨M227, e227, h⟩ := g_bd h
      refine m_ast 71 dX2_worked_227 (by decide) rfl S hE hM hS e227 (fun H locs hM hS => ?_)
      refine lv_goto (tgt := 271) hx hb dX2_worked_228 (by decide) ?_
      exact J271 x1 x2 M227 _ _ _ h hM hS (lv_sub hl [0, 1, 2] rfl)
    have h := g_if c122_50 h
    refine lv_lookup (off := 109) (tgt := 231) hx hb dX2_worked_122 (by decide) (by show Op.lookupswitch.offset [(4, 50), (5, 60), (6, 70), (7, 80), (50, 90)] 109 _ = _; rw [lv_osw c122_4 (by decide), lv_osw c122_5 (by decide), lv_osw c122_6 (by decide), lv_osw c122_7 (by decide), lv_osw c122_50 (by decide)]; rfl) (by decide) ?_
    refine lv_aload_n hx hb dX2_worked_231 rfl (lv_at hl 0 rfl) ?_
    refine ma_turns dX2_worked_232 S hE hM ?_
    refine lv_bipush (v := 11) hx hb dX2_worked_235 (by decide) ?_
    refine lv_iload_n hx hb dX2_worked_237 rfl (lv_at hl 1 rfl) ?_
    refine lv_imul hx hb dX2_worked_238 ?_
    refine lv_aload_n hx hb dX2_worked_239 rfl (lv_at hl 0 rfl) ?_
    refine ma_opC dX2_worked_240 S hE hM ?_
    refine lv_iload_n hx hb dX2_worked_243 rfl (lv_at hl 2 rfl) ?_
    obtain ⟨v244, e244, h⟩ := g_bd h
    refine m_ald 39 dX2_worked_244 (by decide) rfl S hE hM e244 ?_
    refine lv_iadd hx hb dX2_worked_245 ?_
    refine lv_iload_n hx hb dX2_worked_246 rfl (lv_at hl 3 rfl) ?_
    obtain ⟨M247, e247, h⟩ := g_bd h
    refine m_ast 72 dX2_worked_247 (by decide) rfl S hE hM hS e247 (fun H locs hM hS => ?_)
    refine lv_aload_n hx hb dX2_worked_248 rfl (lv_at hl 0 rfl) ?_
    refine lv_iload_n hx hb dX2_worked_249 rfl (lv_at hl 1 rfl) ?_
    refine lv_iload_n hx hb dX2_worked_250 rfl (lv_at hl 3 rfl) ?_
    refine lv_iconst (v := 1) hx hb dX2_worked_251 (by decide) ?_
    refine lv_icmp_ge (tgt := 264) hx hb dX2_worked_252 (by decide) (fun c252 => ?_) (fun c252 => ?_)
    · have h := g_it c252 h
      refine lv_iload_n hx hb dX2_worked_264 rfl (lv_at hl 2 rfl) ?_
      refine lv_iconst (v := 1) hx hb dX2_worked_265 (by decide) ?_
      refine lv_iadd hx hb dX2_worked_266 ?_
      exact J267 x1 (x2 + 1) M247 _ _ _ h hM hS (lv_sub hl [0] rfl)
    · have h := g_if c252 h
      refine lv_aload_n hx hb dX2_worked_255 rfl (lv_at hl 0 rfl) ?_
      refine ma_opB dX2_worked_256 S hE hM ?_
      refine lv_iload_n hx hb dX2_worked_259 rfl (lv_at hl 2 rfl) ?_
      obtain ⟨v260, e260, h⟩ := g_bd h
      refine m_ald 38 dX2_worked_260 (by decide) rfl S hE hM e260 ?_
      refine lv_goto (tgt := 267) hx hb dX2_worked_261 (by decide) ?_
      exact J267 x1 v260 M247 _ _ _ h hM hS (lv_sub hl [0] rfl)
  have J91 : ∀ (x1 x2 x3 x4 : Int32) (M : MM) (H : Heap) (locs : List Loc) (ls : Array Slot), mm_worked_J91 x1 x2 x3 x4 M = some M' → gM E M H → va_S (gx_A E) s.heap H locs → lv_has ls 7 [(0, .ref (gx_m E)), (1, .int x1), (2, .int x2), (3, .int x3), (4, .int x4)] → W p l e (gRm 5 0 0) s m args below meth c H locs 0 0 (MQ below (gQ none (gM E M') (gx_A E)) args s 0 0 (gx_A E)) (F0 m 91 ls []) := by
    intro x1 x2 x3 x4 M H locs ls h hM hS hl
    unfold mm_worked_J91 at h
    refine lv_iload hx hb dX2_worked_91 (lv_at hl 4 rfl) ?_
    refine lv_iconst (v := 5) hx hb dX2_worked_93 (by decide) ?_
    refine lv_icmp_gt (tgt := 120) hx hb dX2_worked_94 (by decide) (fun c94 => ?_) (fun c94 => ?_)
    · have h := g_it c94 h
      exact J120 x1 x2 x3 x4 M _ _ _ h hM hS (lv_sub hl [0, 1, 2, 3, 4] rfl)
    · have h := g_if c94 h
      refine lv_iload_n hx hb dX2_worked_97 rfl (lv_at hl 3 rfl) ?_
      refine lv_if_eq (tgt := 120) hx hb dX2_worked_98 (by decide) (fun c98 => ?_) (fun c98 => ?_)
      · have h := g_it c98 h
        exact J120 x1 x2 x3 x4 M _ _ _ h hM hS (lv_sub hl [0, 1, 2, 3, 4] rfl)
      · have h := g_if c98 h
        refine lv_aload_n hx hb dX2_worked_101 rfl (lv_at hl 0 rfl) ?_
        refine ma_wear dX2_worked_102 S hE hM ?_
        refine lv_iload_n hx hb dX2_worked_105 rfl (lv_at hl 1 rfl) ?_
        obtain ⟨v106, e106, h⟩ := g_bd h
        refine m_ald 64 dX2_worked_106 (by decide) rfl S hE hM e106 ?_
        refine lv_sipush (v := 1000) hx hb dX2_worked_107 (by decide) ?_
        refine lv_icmp_le (tgt := 120) hx hb dX2_worked_110 (by decide) (fun c110 => ?_) (fun c110 => ?_)
        · have h := g_it c110 h
          exact J120 x1 x2 x3 x4 M _ _ _ h hM hS (lv_sub hl [0, 1, 2, 3, 4] rfl)
        · have h := g_if c110 h
          refine lv_aload_n hx hb dX2_worked_113 rfl (lv_at hl 0 rfl) ?_
          refine lv_iload_n hx hb dX2_worked_114 rfl (lv_at hl 1 rfl) ?_
          refine lv_iconst (v := 5) hx hb dX2_worked_115 (by decide) ?_
          obtain ⟨M116, e116, h⟩ := g_bd h
          refine m_cV (y := yX2_stalls) (rest := []) dX2_worked_116 q3276 q3278 qs103 q3279 hm_stalls S hE hM hS hl.1 rfl (wm_stalls E l _ _ _ _ e116) rfl (Nat.le_of_ble_eq_true rfl) ⟨Nat.le_of_ble_eq_true rfl, Nat.le_of_ble_eq_true rfl⟩ ⟨Nat.le_refl 0, Nat.le_refl 0⟩ (fun H locs hM hS => ?_)
          exact m_vretW dX2_worked_119 S hr hk hM hS h
  have J84 : ∀ (x1 : Int32) (M : MM) (H : Heap) (locs : List Loc) (ls : Array Slot), mm_worked_J84 x1 M = some M' → gM E M H → va_S (gx_A E) s.heap H locs → lv_has ls 7 [(0, .ref (gx_m E)), (1, .int x1)] → W p l e (gRm 5 0 0) s m args below meth c H locs 0 0 (MQ below (gQ none (gM E M') (gx_A E)) args s 0 0 (gx_A E)) (F0 m 84 ls []) := by
    intro x1 M H locs ls h hM hS hl
    unfold mm_worked_J84 at h
    refine lv_aload_n hx hb dX2_worked_84 rfl (lv_at hl 0 rfl) ?_
    refine lv_iload_n hx hb dX2_worked_85 rfl (lv_at hl 1 rfl) ?_
    refine lv_iconst (v := 2) hx hb dX2_worked_86 (by decide) ?_
    obtain ⟨M87, e87, h⟩ := g_bd h
    refine m_cV (y := yX2_stalls) (rest := []) dX2_worked_87 q3276 q3278 qs103 q3279 hm_stalls S hE hM hS hl.1 rfl (wm_stalls E l _ _ _ _ e87) rfl (Nat.le_of_ble_eq_true rfl) ⟨Nat.le_of_ble_eq_true rfl, Nat.le_of_ble_eq_true rfl⟩ ⟨Nat.le_refl 0, Nat.le_refl 0⟩ (fun H locs hM hS => ?_)
    exact m_vretW dX2_worked_90 S hr hk hM hS h
  have J63 : ∀ (x1 x2 x3 x4 x5 s0 : Int32) (M : MM) (H : Heap) (locs : List Loc) (ls : Array Slot), mm_worked_J63 x1 x2 x3 x4 x5 s0 M = some M' → gM E M H → va_S (gx_A E) s.heap H locs → lv_has ls 7 [(0, .ref (gx_m E)), (1, .int x1), (2, .int x2), (3, .int x3), (4, .int x4), (5, .int x5)] → W p l e (gRm 5 0 0) s m args below meth c H locs 0 0 (MQ below (gQ none (gM E M') (gx_A E)) args s 0 0 (gx_A E)) (F0 m 63 ls [.int s0]) := by
    intro x1 x2 x3 x4 x5 s0 M H locs ls h hM hS hl
    unfold mm_worked_J63 at h
    refine lv_istore (lv' := [(6, .int s0), (0, .ref (gx_m E)), (1, .int x1), (2, .int x2), (3, .int x3), (4, .int x4), (5, .int x5)]) hx hb dX2_worked_63 hl (by decide) rfl (fun ls hl => ?_)
    refine lv_iload hx hb dX2_worked_65 (lv_at hl 5 rfl) ?_
    refine lv_bipush (v := 7) hx hb dX2_worked_67 (by decide) ?_
    refine lv_icmp_gt (tgt := 91) hx hb dX2_worked_69 (by decide) (fun c69 => ?_) (fun c69 => ?_)
    · have h := g_it c69 h
      exact J91 x1 x2 x3 x4 M _ _ _ h hM hS (lv_sub hl [1, 2, 3, 4, 5] rfl)
    · have h := g_if c69 h
      refine lv_iload_n hx hb dX2_worked_72 rfl (lv_at hl 4 rfl) ?_
      refine lv_iload hx hb dX2_worked_73 (lv_at hl 6 rfl) ?_
      refine lv_icmp_lt (tgt := 84) hx hb dX2_worked_75 (by decide) (fun c75 => ?_) (fun c75 => ?_)
      · have h := g_it c75 h
        exact J84 x1 M _ _ _ h hM hS (lv_sub hl [1, 2] rfl)
      · have h := g_if c75 h
        refine lv_iload_n hx hb dX2_worked_78 rfl (lv_at hl 4 rfl) ?_
        refine lv_iload hx hb dX2_worked_79 (lv_at hl 0 rfl) ?_
        refine lv_icmp_le (tgt := 91) hx hb dX2_worked_81 (by decide) (fun c81 => ?_) (fun c81 => ?_)
        · have h := g_it c81 h
          exact J91 x1 x2 x3 x4 M _ _ _ h hM hS (lv_sub hl [1, 2, 3, 4, 5] rfl)
        · have h := g_if c81 h
          exact J84 x1 M _ _ _ h hM hS (lv_sub hl [1, 2] rfl)
  have J47 : ∀ (x1 x2 x3 x4 s0 : Int32) (M : MM) (H : Heap) (locs : List Loc) (ls : Array Slot), mm_worked_J47 x1 x2 x3 x4 s0 M = some M' → gM E M H → va_S (gx_A E) s.heap H locs → lv_has ls 7 [(0, .ref (gx_m E)), (1, .int x1), (2, .int x2), (3, .int x3), (4, .int x4)] → W p l e (gRm 5 0 0) s m args below meth c H locs 0 0 (MQ below (gQ none (gM E M') (gx_A E)) args s 0 0 (gx_A E)) (F0 m 47 ls [.int s0]) := by
    intro x1 x2 x3 x4 s0 M H locs ls h hM hS hl
    unfold mm_worked_J47 at h
    refine lv_istore (lv' := [(5, .int s0), (0, .ref (gx_m E)), (1, .int x1), (2, .int x2), (3, .int x3), (4, .int x4)]) hx hb dX2_worked_47 hl (by decide) rfl (fun ls hl => ?_)
    refine lv_iload hx hb dX2_worked_49 (lv_at hl 5 rfl) ?_
    refine lv_iconst (v := 5) hx hb dX2_worked_51 (by decide) ?_
    refine lv_icmp_ne (tgt := 61) hx hb dX2_worked_52 (by decide) (fun c52 => ?_) (fun c52 => ?_)
    · have h := g_if c52 h
      refine lv_bipush (v := 100) hx hb dX2_worked_61 (by decide) ?_
      exact J63 x1 x2 x3 x4 s0 100 M _ _ _ h hM hS (lv_sub hl [1, 2, 3, 4, 5, 0] rfl)
    · have h := g_it c52 h
      refine lv_sipush (v := 1000) hx hb dX2_worked_55 (by decide) ?_
      refine lv_goto (tgt := 63) hx hb dX2_worked_58 (by decide) ?_
      exact J63 x1 x2 x3 x4 s0 1000 M _ _ _ h hM hS (lv_sub hl [1, 2, 3, 4, 5, 0] rfl)
  unfold mm_worked at h
  refine lv_aload_n hx hb dX2_worked_0 rfl (lv_at hl 0 rfl) ?_
  refine lv_aload_n hx hb dX2_worked_1 rfl (lv_at hl 0 rfl) ?_
  refine ma_opA dX2_worked_2 S hE hM ?_
  refine lv_iload_n hx hb dX2_worked_5 rfl (lv_at hl 2 rfl) ?_
  obtain ⟨v6, e6, h⟩ := g_bd h
  refine m_ald 37 dX2_worked_6 (by decide) rfl S hE hM e6 ?_
  refine lv_iload_n hx hb dX2_worked_7 rfl (lv_at hl 1 rfl) ?_
  obtain ⟨q8, e8, h⟩ := g_bd h
  refine m_cV (y := yX2_value) (rest := []) dX2_worked_8 q3260 q3262 qs99 q3263 hm_value S hE hM hS hl.1 rfl (wm_value E l _ _ _ _ _ e8) rfl (Nat.le_of_ble_eq_true rfl) ⟨Nat.le_of_ble_eq_true rfl, Nat.le_of_ble_eq_true rfl⟩ ⟨Nat.le_refl 0, Nat.le_refl 0⟩ (fun H locs hM hS => ?_)
  refine lv_istore_n (lv' := [(3, .int q8.1), (0, .ref (gx_m E)), (1, .int x1), (2, .int x2)]) hx hb dX2_worked_11 rfl hl (by decide) rfl (fun ls hl => ?_)
  refine lv_aload_n hx hb dX2_worked_12 rfl (lv_at hl 1 rfl) ?_
  refine mg_byZero dX2_worked_13 S hE hM ?_
  refine lv_if_eq (tgt := 27) hx hb dX2_worked_16 (by decide) (fun c16 => ?_) (fun c16 => ?_)
  · have h := g_it c16 h
    refine lv_aload_n hx hb dX2_worked_27 rfl (lv_at hl 1 rfl) ?_
    refine ma_op dX2_worked_28 S hE hM ?_
    refine lv_iload_n hx hb dX2_worked_31 rfl (lv_at hl 3 rfl) ?_
    obtain ⟨v32, e32, h⟩ := g_bd h
    refine m_ald 35 dX2_worked_32 (by decide) rfl S hE hM e32 ?_
    refine lv_istore (lv' := [(4, .int v32), (3, .int q8.1), (0, .ref (gx_m E)), (1, .int x1), (2, .int x2)]) hx hb dX2_worked_33 hl (by decide) rfl (fun ls hl => ?_)
    refine lv_iload hx hb dX2_worked_35 (lv_at hl 0 rfl) ?_
    refine lv_iconst (v := 4) hx hb dX2_worked_37 (by decide) ?_
    refine lv_icmp_ne (tgt := 46) hx hb dX2_worked_38 (by decide) (fun c38 => ?_) (fun c38 => ?_)
    · have h := g_if c38 h
      refine lv_iconst (v := 0) hx hb dX2_worked_46 (by decide) ?_
      exact J47 x1 x2 q8.1 v32 0 q8.2 _ _ _ h hM hS (lv_sub hl [2, 3, 4, 1, 0] rfl)
    · have h := g_it c38 h
      refine lv_bipush (v := (-100)) hx hb dX2_worked_41 (by decide) ?_
      refine lv_goto (tgt := 47) hx hb dX2_worked_43 (by decide) ?_
      exact J47 x1 x2 q8.1 v32 (-100) q8.2 _ _ _ h hM hS (lv_sub hl [2, 3, 4, 1, 0] rfl)
  · have h := g_if c16 h
    refine lv_aload_n hx hb dX2_worked_19 rfl (lv_at hl 1 rfl) ?_
    refine lv_iload_n hx hb dX2_worked_20 rfl (lv_at hl 2 rfl) ?_
    refine lv_bipush (v := 6) hx hb dX2_worked_21 (by decide) ?_
    obtain ⟨M23, e23, h⟩ := g_bd h
    refine m_cV (y := yX2_stalls) (rest := []) dX2_worked_23 q3276 q3278 qs103 q3279 hm_stalls S hE hM hS hl.1 rfl (wm_stalls E l _ _ _ _ e23) rfl (Nat.le_of_ble_eq_true rfl) ⟨Nat.le_of_ble_eq_true rfl, Nat.le_of_ble_eq_true rfl⟩ ⟨Nat.le_refl 0, Nat.le_refl 0⟩ (fun H locs hM hS => ?_)
    exact m_vretW dX2_worked_26 S hr hk hM hS h
theorem hm_does : yX2_does.cls = RX2 ∧ yX2_does.cls ≠ "java/lang/invoke/MethodHandle" ∧ yX2_does.cls ≠ "java/lang/invoke/VarHandle" ∧ (parseMethodDescriptor yX2_does.desc).map (fun d => d.parameters.length) = some 1 := by decide +kernel
set_option maxHeartbeats 4000000 in
set_option maxRecDepth 100000 in
theorem wm_does (E : gX) (l : Launch) (x1 : Int32) (r : Int32) (M M' : MM) (h : mm_does x1 M = some (r, M')) : gMet E l yX2_does cX2_does 5 (some .boolean) 7 0 0 (gx_A E) [.ref (gx_m E), .int x1] (gM E M) (gM E M') (some (.int r)) := by
  refine gMet.of (own := RX2) (by decide +kernel) (Nat.le_of_ble_eq_true rfl) rfl ?_
  intro p e s m args below meth c S hr hk hnm hE hM hS ls hl
  have hl : lv_has ls 5 [(0, .ref (gx_m E)), (1, .int x1)] := hl
  have hx := S.1
  have hb := S.2.1
  have J32 : ∀ (x1 x2 : Int32) (M : MM) (H : Heap) (locs : List Loc) (ls : Array Slot), mm_does_J32 x1 x2 M = some (r, M') → gM E M H → va_S (gx_A E) s.heap H locs → lv_has ls 5 [(0, .ref (gx_m E)), (1, .int x1), (2, .int x2)] → W p l e (gRm 7 0 0) s m args below meth c H locs 0 0 (MQ below (gQ (some (.int r)) (gM E M') (gx_A E)) args s 0 0 (gx_A E)) (F0 m 32 ls []) := by
    intro x1 x2 M H locs ls h hM hS hl
    unfold mm_does_J32 at h
    refine lv_aload_n hx hb dX2_does_32 rfl (lv_at hl 0 rfl) ?_
    refine lv_iload_n hx hb dX2_does_33 rfl (lv_at hl 1 rfl) ?_
    refine lv_iload_n hx hb dX2_does_34 rfl (lv_at hl 2 rfl) ?_
    obtain ⟨q35, e35, h⟩ := g_bd h
    refine m_cV (y := yX2_takes) (rest := []) dX2_does_35 q3256 q3258 qs98 q3259 hm_takes S hE hM hS hl.1 rfl (wm_takes E l _ _ _ _ _ e35) rfl (Nat.le_of_ble_eq_true rfl) ⟨Nat.le_of_ble_eq_true rfl, Nat.le_of_ble_eq_true rfl⟩ ⟨Nat.le_refl 0, Nat.le_refl 0⟩ (fun H locs hM hS => ?_)
    exact m_zretW dX2_does_38 S hr hk hM hS h
  have J185 : ∀ (s1 s2 : Int32) (M : MM) (H : Heap) (locs : List Loc) (ls : Array Slot), mm_does_J185 s1 s2 M = some (r, M') → gM E M H → va_S (gx_A E) s.heap H locs → lv_has ls 5 [(0, .ref (gx_m E))] → W p l e (gRm 7 0 0) s m args below meth c H locs 0 0 (MQ below (gQ (some (.int r)) (gM E M') (gx_A E)) args s 0 0 (gx_A E)) (F0 m 185 ls [.int s2, .int s1, .ref (gx_m E)]) := by
    intro s1 s2 M H locs ls h hM hS hl
    unfold mm_does_J185 at h
    refine lv_iconst (v := 1) hx hb dX2_does_185 (by decide) ?_
    refine lv_iadd hx hb dX2_does_186 ?_
    obtain ⟨M187, e187, h⟩ := g_bd h
    refine m_cV (y := yX2_goTo) (rest := []) dX2_does_187 q3280 q3282 qs104 q3283 hm_goTo S hE hM hS hl.1 rfl (wm_goTo E l _ _ _ _ e187) rfl (Nat.le_of_ble_eq_true rfl) ⟨Nat.le_of_ble_eq_true rfl, Nat.le_of_ble_eq_true rfl⟩ ⟨Nat.le_refl 0, Nat.le_refl 0⟩ (fun H locs hM hS => ?_)
    refine lv_iconst (v := 1) hx hb dX2_does_190 (by decide) ?_
    exact m_zretW dX2_does_191 S hr hk hM hS h
  have J276 : ∀ (s1 s2 : Int32) (M : MM) (H : Heap) (locs : List Loc) (ls : Array Slot), mm_does_J276 s1 s2 M = some (r, M') → gM E M H → va_S (gx_A E) s.heap H locs → lv_has ls 5 [(0, .ref (gx_m E))] → W p l e (gRm 7 0 0) s m args below meth c H locs 0 0 (MQ below (gQ (some (.int r)) (gM E M') (gx_A E)) args s 0 0 (gx_A E)) (F0 m 276 ls [.int s2, .int s1, .ref (gx_m E)]) := by
    intro s1 s2 M H locs ls h hM hS hl
    unfold mm_does_J276 at h
    obtain ⟨M276, e276, h⟩ := g_bd h
    refine m_cV (y := yX2_goTo) (rest := []) dX2_does_276 q3280 q3282 qs104 q3283 hm_goTo S hE hM hS hl.1 rfl (wm_goTo E l _ _ _ _ e276) rfl (Nat.le_of_ble_eq_true rfl) ⟨Nat.le_of_ble_eq_true rfl, Nat.le_of_ble_eq_true rfl⟩ ⟨Nat.le_refl 0, Nat.le_refl 0⟩ (fun H locs hM hS => ?_)
    refine lv_iconst (v := 1) hx hb dX2_does_279 (by decide) ?_
    exact m_zretW dX2_does_280 S hr hk hM hS h
  have J58 : ∀ (x1 x2 x3 : Int32) (M : MM) (H : Heap) (locs : List Loc) (ls : Array Slot), mm_does_J58 x1 x2 x3 M = some (r, M') → gM E M H → va_S (gx_A E) s.heap H locs → lv_has ls 5 [(0, .ref (gx_m E)), (1, .int x1), (2, .int x2), (3, .int x3)] → W p l e (gRm 7 0 0) s m args below meth c H locs 0 0 (MQ below (gQ (some (.int r)) (gM E M') (gx_A E)) args s 0 0 (gx_A E)) (F0 m 58 ls []) := by
    intro x1 x2 x3 M H locs ls h hM hS hl
    unfold mm_does_J58 at h
    refine lv_iload_n hx hb dX2_does_58 rfl (lv_at hl 3 rfl) ?_
    by_cases c59_9 : x3 = 9
    · have h := g_it c59_9 h
      refine lv_lookup (off := 222) (tgt := 281) hx hb dX2_does_59 (by decide) (by rw [c59_9]; rfl) (by decide) ?_
      refine lv_aload_n hx hb dX2_does_281 rfl (lv_at hl 0 rfl) ?_
      refine lv_iload_n hx hb dX2_does_282 rfl (lv_at hl 1 rfl) ?_
      refine lv_iload_n hx hb dX2_does_283 rfl (lv_at hl 2 rfl) ?_
      obtain ⟨M284, e284, h⟩ := g_bd h
      refine m_cV (y := yX2_unload) (rest := []) dX2_does_284 q3304 q3306 qs110 q3307 hm_unload S hE hM hS hl.1 rfl (wm_unload E l _ _ _ _ e284) rfl (Nat.le_of_ble_eq_true rfl) ⟨Nat.le_of_ble_eq_true rfl, Nat.le_of_ble_eq_true rfl⟩ ⟨Nat.le_refl 0, Nat.le_refl 0⟩ (fun H locs hM hS => ?_)
      refine lv_iconst (v := 1) hx hb dX2_does_287 (by decide) ?_
      exact m_zretW dX2_does_288 S hr hk hM hS h
    have h := g_if c59_9 h
    by_cases c59_18 : x3 = 18
    · have h := g_it c59_18 h
      refine lv_lookup (off := 108) (tgt := 167) hx hb dX2_does_59 (by decide) (by rw [c59_18]; rfl) (by decide) ?_
      refine lv_aload_n hx hb dX2_does_167 rfl (lv_at hl 0 rfl) ?_
      refine lv_iload_n hx hb dX2_does_168 rfl (lv_at hl 1 rfl) ?_
      refine lv_iload_n hx hb dX2_does_169 rfl (lv_at hl 3 rfl) ?_
      refine lv_bipush (v := 53) hx hb dX2_does_170 (by decide) ?_
      refine lv_icmp_ne (tgt := 184) hx hb dX2_does_172 (by decide) (fun c172 => ?_) (fun c172 => ?_)
      · have h := g_if c172 h
        refine lv_iload_n hx hb dX2_does_184 rfl (lv_at hl 2 rfl) ?_
        exact J185 x1 x2 M _ _ _ h hM hS (lv_sub hl [0] rfl)
      · have h := g_it c172 h
        refine lv_aload_n hx hb dX2_does_175 rfl (lv_at hl 0 rfl) ?_
        refine ma_opA dX2_does_176 S hE hM ?_
        refine lv_iload_n hx hb dX2_does_179 rfl (lv_at hl 2 rfl) ?_
        obtain ⟨v180, e180, h⟩ := g_bd h
        refine m_ald 37 dX2_does_180 (by decide) rfl S hE hM e180 ?_
        refine lv_goto (tgt := 185) hx hb dX2_does_181 (by decide) ?_
        exact J185 x1 v180 M _ _ _ h hM hS (lv_sub hl [0] rfl)
    have h := g_if c59_18 h
    by_cases c59_19 : x3 = 19
    · have h := g_it c59_19 h
      refine lv_lookup (off := 168) (tgt := 227) hx hb dX2_does_59 (by decide) (by rw [c59_19]; rfl) (by decide) ?_
      refine lv_aload_n hx hb dX2_does_227 rfl (lv_at hl 0 rfl) ?_
      refine lv_aload_n hx hb dX2_does_228 rfl (lv_at hl 0 rfl) ?_
      refine ma_opA dX2_does_229 S hE hM ?_
      refine lv_iload_n hx hb dX2_does_232 rfl (lv_at hl 2 rfl) ?_
      obtain ⟨v233, e233, h⟩ := g_bd h
      refine m_ald 37 dX2_does_233 (by decide) rfl S hE hM e233 ?_
      refine lv_iload_n hx hb dX2_does_234 rfl (lv_at hl 1 rfl) ?_
      obtain ⟨q235, e235, h⟩ := g_bd h
      refine m_cV (y := yX2_isTrue) (rest := []) dX2_does_235 q3296 q3298 qs108 q3299 hm_isTrue S hE hM hS hl.1 rfl (wm_isTrue E l _ _ _ _ _ e235) rfl (Nat.le_of_ble_eq_true rfl) ⟨Nat.le_of_ble_eq_true rfl, Nat.le_of_ble_eq_true rfl⟩ ⟨Nat.le_refl 0, Nat.le_refl 0⟩ (fun H locs hM hS => ?_)
      refine lv_istore (lv' := [(4, .int q235.1), (0, .ref (gx_m E)), (1, .int x1), (2, .int x2), (3, .int x3)]) hx hb dX2_does_238 hl (by decide) rfl (fun ls hl => ?_)
      refine lv_aload_n hx hb dX2_does_240 rfl (lv_at hl 1 rfl) ?_
      refine mg_byZero dX2_does_241 S hE hM ?_
      refine lv_if_eq (tgt := 257) hx hb dX2_does_244 (by decide) (fun c244 => ?_) (fun c244 => ?_)
      · have h := g_it c244 h
        refine lv_aload_n hx hb dX2_does_257 rfl (lv_at hl 1 rfl) ?_
        refine lv_iload_n hx hb dX2_does_258 rfl (lv_at hl 2 rfl) ?_
        refine lv_iload hx hb dX2_does_259 (lv_at hl 0 rfl) ?_
        refine lv_if_eq (tgt := 270) hx hb dX2_does_261 (by decide) (fun c261 => ?_) (fun c261 => ?_)
        · have h := g_it c261 h
          refine lv_aload_n hx hb dX2_does_270 rfl (lv_at hl 1 rfl) ?_
          refine ma_opB dX2_does_271 S hE hM ?_
          refine lv_iload_n hx hb dX2_does_274 rfl (lv_at hl 3 rfl) ?_
          obtain ⟨v275, e275, h⟩ := g_bd h
          refine m_ald 38 dX2_does_275 (by decide) rfl S hE hM e275 ?_
          exact J276 x1 v275 q235.2 _ _ _ h hM hS (lv_sub hl [1] rfl)
        · have h := g_if c261 h
          refine lv_iload_n hx hb dX2_does_264 rfl (lv_at hl 3 rfl) ?_
          refine lv_iconst (v := 1) hx hb dX2_does_265 (by decide) ?_
          refine lv_iadd hx hb dX2_does_266 ?_
          refine lv_goto (tgt := 276) hx hb dX2_does_267 (by decide) ?_
          exact J276 x1 (x2 + 1) q235.2 _ _ _ h hM hS (lv_sub hl [1] rfl)
      · have h := g_if c244 h
        refine lv_aload_n hx hb dX2_does_247 rfl (lv_at hl 1 rfl) ?_
        refine lv_iload_n hx hb dX2_does_248 rfl (lv_at hl 2 rfl) ?_
        refine lv_bipush (v := 6) hx hb dX2_does_249 (by decide) ?_
        obtain ⟨M251, e251, h⟩ := g_bd h
        refine m_cV (y := yX2_stalls) (rest := []) dX2_does_251 q3276 q3278 qs103 q3279 hm_stalls S hE hM hS hl.1 rfl (wm_stalls E l _ _ _ _ e251) rfl (Nat.le_of_ble_eq_true rfl) ⟨Nat.le_of_ble_eq_true rfl, Nat.le_of_ble_eq_true rfl⟩ ⟨Nat.le_refl 0, Nat.le_refl 0⟩ (fun H locs hM hS => ?_)
        refine lv_goto (tgt := 279) hx hb dX2_does_254 (by decide) ?_
        refine lv_iconst (v := 1) hx hb dX2_does_279 (by decide) ?_
        exact m_zretW dX2_does_280 S hr hk hM hS h
    have h := g_if c59_19 h
    by_cases c59_20 : x3 = 20
    · have h := g_it c59_20 h
      refine lv_lookup (off := 133) (tgt := 192) hx hb dX2_does_59 (by decide) (by rw [c59_20]; rfl) (by decide) ?_
      refine lv_aload_n hx hb dX2_does_192 rfl (lv_at hl 0 rfl) ?_
      refine lv_iload_n hx hb dX2_does_193 rfl (lv_at hl 1 rfl) ?_
      refine lv_iload_n hx hb dX2_does_194 rfl (lv_at hl 2 rfl) ?_
      refine lv_iconst (v := 1) hx hb dX2_does_195 (by decide) ?_
      refine lv_iadd hx hb dX2_does_196 ?_
      obtain ⟨M197, e197, h⟩ := g_bd h
      refine m_cV (y := yX2_goTo) (rest := []) dX2_does_197 q3280 q3282 qs104 q3283 hm_goTo S hE hM hS hl.1 rfl (wm_goTo E l _ _ _ _ e197) rfl (Nat.le_of_ble_eq_true rfl) ⟨Nat.le_of_ble_eq_true rfl, Nat.le_of_ble_eq_true rfl⟩ ⟨Nat.le_refl 0, Nat.le_refl 0⟩ (fun H locs hM hS => ?_)
      refine lv_iconst (v := 1) hx hb dX2_does_200 (by decide) ?_
      exact m_zretW dX2_does_201 S hr hk hM hS h
    have h := g_if c59_20 h
    by_cases c59_21 : x3 = 21
    · have h := g_it c59_21 h
      refine lv_lookup (off := 143) (tgt := 202) hx hb dX2_does_59 (by decide) (by rw [c59_21]; rfl) (by decide) ?_
      refine lv_aload_n hx hb dX2_does_202 rfl (lv_at hl 0 rfl) ?_
      refine lv_iload_n hx hb dX2_does_203 rfl (lv_at hl 1 rfl) ?_
      refine lv_aload_n hx hb dX2_does_204 rfl (lv_at hl 0 rfl) ?_
      refine ma_opB dX2_does_205 S hE hM ?_
      refine lv_aload_n hx hb dX2_does_208 rfl (lv_at hl 0 rfl) ?_
      refine ma_opA dX2_does_209 S hE hM ?_
      refine lv_iload_n hx hb dX2_does_212 rfl (lv_at hl 2 rfl) ?_
      obtain ⟨v213, e213, h⟩ := g_bd h
      refine m_ald 37 dX2_does_213 (by decide) rfl S hE hM e213 ?_
      obtain ⟨v214, e214, h⟩ := g_bd h
      refine m_ald 38 dX2_does_214 (by decide) rfl S hE hM e214 ?_
      obtain ⟨M215, e215, h⟩ := g_bd h
      refine m_cV (y := yX2_goTo) (rest := []) dX2_does_215 q3280 q3282 qs104 q3283 hm_goTo S hE hM hS hl.1 rfl (wm_goTo E l _ _ _ _ e215) rfl (Nat.le_of_ble_eq_true rfl) ⟨Nat.le_of_ble_eq_true rfl, Nat.le_of_ble_eq_true rfl⟩ ⟨Nat.le_refl 0, Nat.le_refl 0⟩ (fun H locs hM hS => ?_)
      refine lv_iconst (v := 1) hx hb dX2_does_218 (by decide) ?_
      exact m_zretW dX2_does_219 S hr hk hM hS h
    have h := g_if c59_21 h
    by_cases c59_22 : x3 = 22
    · have h := g_it c59_22 h
      refine lv_lookup (off := 161) (tgt := 220) hx hb dX2_does_59 (by decide) (by rw [c59_22]; rfl) (by decide) ?_
      refine lv_aload_n hx hb dX2_does_220 rfl (lv_at hl 0 rfl) ?_
      refine lv_iload_n hx hb dX2_does_221 rfl (lv_at hl 1 rfl) ?_
      obtain ⟨M222, e222, h⟩ := g_bd h
      refine m_cV (y := yX2_isOver) (rest := []) dX2_does_222 q3248 q3250 qs96 q3251 hm_isOver S hE hM hS hl.1 rfl (wm_isOver E l _ _ _ e222) rfl (Nat.le_of_ble_eq_true rfl) ⟨Nat.le_of_ble_eq_true rfl, Nat.le_of_ble_eq_true rfl⟩ ⟨Nat.le_refl 0, Nat.le_refl 0⟩ (fun H locs hM hS => ?_)
      refine lv_iconst (v := 0) hx hb dX2_does_225 (by decide) ?_
      exact m_zretW dX2_does_226 S hr hk hM hS h
    have h := g_if c59_22 h
    by_cases c59_52 : x3 = 52
    · have h := g_it c59_52 h
      refine lv_lookup (off := 73) (tgt := 132) hx hb dX2_does_59 (by decide) (by rw [c59_52]; rfl) (by decide) ?_
      refine lv_aload_n hx hb dX2_does_132 rfl (lv_at hl 0 rfl) ?_
      refine ma_turns dX2_does_133 S hE hM ?_
      refine lv_bipush (v := 11) hx hb dX2_does_136 (by decide) ?_
      refine lv_iload_n hx hb dX2_does_138 rfl (lv_at hl 1 rfl) ?_
      refine lv_imul hx hb dX2_does_139 ?_
      refine lv_aload_n hx hb dX2_does_140 rfl (lv_at hl 0 rfl) ?_
      refine ma_opC dX2_does_141 S hE hM ?_
      refine lv_iload_n hx hb dX2_does_144 rfl (lv_at hl 2 rfl) ?_
      obtain ⟨v145, e145, h⟩ := g_bd h
      refine m_ald 39 dX2_does_145 (by decide) rfl S hE hM e145 ?_
      refine lv_iadd hx hb dX2_does_146 ?_
      refine lv_dup2_11 hx hb dX2_does_147 rfl rfl ?_
      obtain ⟨v148, e148, h⟩ := g_bd h
      refine m_ald 72 dX2_does_148 (by decide) rfl S hE hM e148 ?_
      refine lv_iconst (v := 1) hx hb dX2_does_149 (by decide) ?_
      refine lv_isub hx hb dX2_does_150 ?_
      obtain ⟨M151, e151, h⟩ := g_bd h
      refine m_ast 72 dX2_does_151 (by decide) rfl S hE hM hS e151 (fun H locs hM hS => ?_)
      refine lv_aload_n hx hb dX2_does_152 rfl (lv_at hl 0 rfl) ?_
      refine lv_iload_n hx hb dX2_does_153 rfl (lv_at hl 1 rfl) ?_
      refine lv_aload_n hx hb dX2_does_154 rfl (lv_at hl 0 rfl) ?_
      refine ma_opA dX2_does_155 S hE hM ?_
      refine lv_iload_n hx hb dX2_does_158 rfl (lv_at hl 2 rfl) ?_
      obtain ⟨v159, e159, h⟩ := g_bd h
      refine m_ald 37 dX2_does_159 (by decide) rfl S hE hM e159 ?_
      refine lv_iconst (v := 1) hx hb dX2_does_160 (by decide) ?_
      refine lv_iadd hx hb dX2_does_161 ?_
      obtain ⟨M162, e162, h⟩ := g_bd h
      refine m_cV (y := yX2_goTo) (rest := []) dX2_does_162 q3280 q3282 qs104 q3283 hm_goTo S hE hM hS hl.1 rfl (wm_goTo E l _ _ _ _ e162) rfl (Nat.le_of_ble_eq_true rfl) ⟨Nat.le_of_ble_eq_true rfl, Nat.le_of_ble_eq_true rfl⟩ ⟨Nat.le_refl 0, Nat.le_refl 0⟩ (fun H locs hM hS => ?_)
      refine lv_iconst (v := 1) hx hb dX2_does_165 (by decide) ?_
      exact m_zretW dX2_does_166 S hr hk hM hS h
    have h := g_if c59_52 h
    by_cases c59_53 : x3 = 53
    · have h := g_it c59_53 h
      refine lv_lookup (off := 108) (tgt := 167) hx hb dX2_does_59 (by decide) (by rw [c59_53]; rfl) (by decide) ?_
      refine lv_aload_n hx hb dX2_does_167 rfl (lv_at hl 0 rfl) ?_
      refine lv_iload_n hx hb dX2_does_168 rfl (lv_at hl 1 rfl) ?_
      refine lv_iload_n hx hb dX2_does_169 rfl (lv_at hl 3 rfl) ?_
      refine lv_bipush (v := 53) hx hb dX2_does_170 (by decide) ?_
      refine lv_icmp_ne (tgt := 184) hx hb dX2_does_172 (by decide) (fun c172 => ?_) (fun c172 => ?_)
      · have h := g_if c172 h
        refine lv_iload_n hx hb dX2_does_184 rfl (lv_at hl 2 rfl) ?_
        exact J185 x1 x2 M _ _ _ h hM hS (lv_sub hl [0] rfl)
      · have h := g_it c172 h
        refine lv_aload_n hx hb dX2_does_175 rfl (lv_at hl 0 rfl) ?_
        refine ma_opA dX2_does_176 S hE hM ?_
        refine lv_iload_n hx hb dX2_does_179 rfl (lv_at hl 2 rfl) ?_
        obtain ⟨v180, e180, h⟩ := g_bd h
        refine m_ald 37 dX2_does_180 (by decide) rfl S hE hM e180 ?_
        refine lv_goto (tgt := 185) hx hb dX2_does_181 (by decide) ?_
        exact J185 x1 v180 M _ _ _ h hM hS (lv_sub hl [0] rfl)
    have h := g_if c59_53 h
    refine lv_lookup (off := 230) (tgt := 289) hx hb dX2_does_59 (by decide) (by show Op.lookupswitch.offset [(9, 222), (18, 108), (19, 168), (20, 133), (21, 143), (22, 161), (52, 73), (53, 108)] 230 _ = _; rw [lv_osw c59_9 (by decide), lv_osw c59_18 (by decide), lv_osw c59_19 (by decide), lv_osw c59_20 (by decide), lv_osw c59_21 (by decide), lv_osw c59_22 (by decide), lv_osw c59_52 (by decide), lv_osw c59_53 (by decide)]; rfl) (by decide) ?_
    refine lv_aload_n hx hb dX2_does_289 rfl (lv_at hl 0 rfl) ?_
    refine lv_iload_n hx hb dX2_does_290 rfl (lv_at hl 1 rfl) ?_
    refine lv_iload_n hx hb dX2_does_291 rfl (lv_at hl 2 rfl) ?_
    obtain ⟨M292, e292, h⟩ := g_bd h
    refine m_cV (y := yX2_worked) (rest := []) dX2_does_292 q3308 q3310 qs111 q3311 hm_worked S hE hM hS hl.1 rfl (wm_worked E l _ _ _ _ e292) rfl (Nat.le_of_ble_eq_true rfl) ⟨Nat.le_of_ble_eq_true rfl, Nat.le_of_ble_eq_true rfl⟩ ⟨Nat.le_refl 0, Nat.le_refl 0⟩ (fun H locs hM hS => ?_)
    refine lv_iconst (v := 1) hx hb dX2_does_295 (by decide) ?_
    exact m_zretW dX2_does_296 S hr hk hM hS h
  unfold mm_does at h
  refine lv_aload_n hx hb dX2_does_0 rfl (lv_at hl 0 rfl) ?_
  refine ma_next dX2_does_1 S hE hM ?_
  refine lv_iload_n hx hb dX2_does_4 rfl (lv_at hl 1 rfl) ?_
  obtain ⟨v5, e5, h⟩ := g_bd h
  refine m_ald 67 dX2_does_5 (by decide) rfl S hE hM e5 ?_
  refine lv_istore_n (lv' := [(2, .int v5), (0, .ref (gx_m E)), (1, .int x1)]) hx hb dX2_does_6 rfl hl (by decide) rfl (fun ls hl => ?_)
  refine lv_aload_n hx hb dX2_does_7 rfl (lv_at hl 1 rfl) ?_
  refine ma_op dX2_does_8 S hE hM ?_
  refine lv_iload_n hx hb dX2_does_11 rfl (lv_at hl 0 rfl) ?_
  obtain ⟨v12, e12, h⟩ := g_bd h
  refine m_ald 35 dX2_does_12 (by decide) rfl S hE hM e12 ?_
  refine lv_istore_n (lv' := [(3, .int v12), (2, .int v5), (0, .ref (gx_m E)), (1, .int x1)]) hx hb dX2_does_13 rfl hl (by decide) rfl (fun ls hl => ?_)
  refine lv_iload_n hx hb dX2_does_14 rfl (lv_at hl 0 rfl) ?_
  refine lv_bipush (v := 8) hx hb dX2_does_15 (by decide) ?_
  refine lv_icmp_eq (tgt := 32) hx hb dX2_does_17 (by decide) (fun c17 => ?_) (fun c17 => ?_)
  · have h := g_it c17 h
    exact J32 x1 v5 M _ _ _ h hM hS (lv_sub hl [2, 3, 1] rfl)
  · have h := g_if c17 h
    refine lv_iload_n hx hb dX2_does_20 rfl (lv_at hl 0 rfl) ?_
    refine lv_bipush (v := 10) hx hb dX2_does_21 (by decide) ?_
    refine lv_icmp_eq (tgt := 32) hx hb dX2_does_23 (by decide) (fun c23 => ?_) (fun c23 => ?_)
    · have h := g_it c23 h
      exact J32 x1 v5 M _ _ _ h hM hS (lv_sub hl [2, 3, 1] rfl)
    · have h := g_if c23 h
      refine lv_iload_n hx hb dX2_does_26 rfl (lv_at hl 0 rfl) ?_
      refine lv_bipush (v := 11) hx hb dX2_does_27 (by decide) ?_
      refine lv_icmp_ne (tgt := 39) hx hb dX2_does_29 (by decide) (fun c29 => ?_) (fun c29 => ?_)
      · have h := g_if c29 h
        refine lv_iload_n hx hb dX2_does_39 rfl (lv_at hl 0 rfl) ?_
        refine lv_bipush (v := 12) hx hb dX2_does_40 (by decide) ?_
        refine lv_icmp_lt (tgt := 58) hx hb dX2_does_42 (by decide) (fun c42 => ?_) (fun c42 => ?_)
        · have h := g_it c42 h
          exact J58 x1 v5 v12 M _ _ _ h hM hS (lv_sub hl [2, 3, 1, 0] rfl)
        · have h := g_if c42 h
          refine lv_iload_n hx hb dX2_does_45 rfl (lv_at hl 0 rfl) ?_
          refine lv_bipush (v := 16) hx hb dX2_does_46 (by decide) ?_
          refine lv_icmp_gt (tgt := 58) hx hb dX2_does_48 (by decide) (fun c48 => ?_) (fun c48 => ?_)
          · have h := g_it c48 h
            exact J58 x1 v5 v12 M _ _ _ h hM hS (lv_sub hl [2, 3, 1, 0] rfl)
          · have h := g_if c48 h
            refine lv_aload_n hx hb dX2_does_51 rfl (lv_at hl 2 rfl) ?_
            refine lv_iload_n hx hb dX2_does_52 rfl (lv_at hl 3 rfl) ?_
            refine lv_iload_n hx hb dX2_does_53 rfl (lv_at hl 1 rfl) ?_
            obtain ⟨q54, e54, h⟩ := g_bd h
            refine m_cV (y := yX2_shares) (rest := []) dX2_does_54 q3292 q3294 qs107 q3295 hm_shares S hE hM hS hl.1 rfl (wm_shares E l _ _ _ _ _ e54) rfl (Nat.le_of_ble_eq_true rfl) ⟨Nat.le_of_ble_eq_true rfl, Nat.le_of_ble_eq_true rfl⟩ ⟨Nat.le_refl 0, Nat.le_refl 0⟩ (fun H locs hM hS => ?_)
            exact m_zretW dX2_does_57 S hr hk hM hS h
      · have h := g_it c29 h
        exact J32 x1 v5 M _ _ _ h hM hS (lv_sub hl [2, 3, 1] rfl)
theorem hm_goesOn : yX2_goesOn.cls = RX2 ∧ yX2_goesOn.cls ≠ "java/lang/invoke/MethodHandle" ∧ yX2_goesOn.cls ≠ "java/lang/invoke/VarHandle" ∧ (parseMethodDescriptor yX2_goesOn.desc).map (fun d => d.parameters.length) = some 1 := by decide +kernel
set_option maxHeartbeats 4000000 in
set_option maxRecDepth 100000 in
theorem wm_goesOn (E : gX) (l : Launch) (x1 : Int32) (M M' : MM) (h : mm_goesOn x1 M = some M') : gMet E l yX2_goesOn cX2_goesOn 4 none 8 0 0 (gx_A E) [.ref (gx_m E), .int x1] (gM E M) (gM E M') none := by
  refine gMet.of (own := RX2) (by decide +kernel) (Nat.le_of_ble_eq_true rfl) rfl ?_
  intro p e s m args below meth c S hr hk hnm hE hM hS ls hl
  have hl : lv_has ls 4 [(0, .ref (gx_m E)), (1, .int x1)] := hl
  have hx := S.1
  have hb := S.2.1
  have L44 : ∀ (n : Nat) (x1 x2 x3 : Int32) (M : MM) (H : Heap) (locs : List Loc) (ls : Array Slot), mm_goesOn_L44 n x1 x2 x3 M = some M' → gM E M H → va_S (gx_A E) s.heap H locs → lv_has ls 4 [(0, .ref (gx_m E)), (1, .int x1), (2, .int x2), (3, .int x3)] → W p l e (gRm 8 0 0) s m args below meth c H locs 0 0 (MQ below (gQ none (gM E M') (gx_A E)) args s 0 0 (gx_A E)) (F0 m 44 ls []) := by
    intro n44
    induction n44 with
    | zero =>
      intro x1 x2 x3 M H locs ls h
      cases h
    | succ n44 ih44 =>
      have J89 : ∀ (x1 x2 s0 : Int32) (M : MM) (H : Heap) (locs : List Loc) (ls : Array Slot), mm_goesOn_J89 (mm_goesOn_L44 n44) x1 x2 s0 M = some M' → gM E M H → va_S (gx_A E) s.heap H locs → lv_has ls 4 [(0, .ref (gx_m E)), (1, .int x1), (2, .int x2)] → W p l e (gRm 8 0 0) s m args below meth c H locs 0 0 (MQ below (gQ none (gM E M') (gx_A E)) args s 0 0 (gx_A E)) (F0 m 89 ls [.int s0]) := by
        intro x1 x2 s0 M H locs ls h hM hS hl
        unfold mm_goesOn_J89 at h
        refine lv_istore_n (lv' := [(3, .int s0), (0, .ref (gx_m E)), (1, .int x1), (2, .int x2)]) hx hb dX2_goesOn_89 rfl hl (by decide) rfl (fun ls hl => ?_)
        refine lv_goto (tgt := 44) hx hb dX2_goesOn_90 (by decide) ?_
        exact ih44 x1 x2 s0 M _ _ _ h hM hS (lv_sub hl [1, 2, 3, 0] rfl)
      have J88 : ∀ (x1 x2 : Int32) (M : MM) (H : Heap) (locs : List Loc) (ls : Array Slot), mm_goesOn_J88 (mm_goesOn_L44 n44) x1 x2 M = some M' → gM E M H → va_S (gx_A E) s.heap H locs → lv_has ls 4 [(0, .ref (gx_m E)), (1, .int x1), (2, .int x2)] → W p l e (gRm 8 0 0) s m args below meth c H locs 0 0 (MQ below (gQ none (gM E M') (gx_A E)) args s 0 0 (gx_A E)) (F0 m 88 ls []) := by
        intro x1 x2 M H locs ls h hM hS hl
        unfold mm_goesOn_J88 at h
        refine lv_iconst (v := 0) hx hb dX2_goesOn_88 (by decide) ?_
        exact J89 x1 x2 0 M _ _ _ h hM hS (lv_sub hl [0, 1, 2] rfl)
      intro x1 x2 x3 M H locs ls h hM hS hl
      have h : mm_goesOn_B44 (mm_goesOn_L44 n44) x1 x2 x3 M = some M' := h
      unfold mm_goesOn_B44 at h
      refine lv_iload_n hx hb dX2_goesOn_44 rfl (lv_at hl 3 rfl) ?_
      refine lv_if_eq (tgt := 93) hx hb dX2_goesOn_45 (by decide) (fun c45 => ?_) (fun c45 => ?_)
      · have h := g_it c45 h
        exact m_vretW dX2_goesOn_93 S hr hk hM hS h
      · have h := g_if c45 h
        refine lv_iload_n hx hb dX2_goesOn_48 rfl (lv_at hl 2 rfl) ?_
        refine lv_bipush (v := 40) hx hb dX2_goesOn_49 (by decide) ?_
        refine lv_icmp_ge (tgt := 93) hx hb dX2_goesOn_51 (by decide) (fun c51 => ?_) (fun c51 => ?_)
        · have h := g_it c51 h
          exact m_vretW dX2_goesOn_93 S hr hk hM hS h
        · have h := g_if c51 h
          refine lv_iinc (k := 2) (v := (x2 + 1)) (lv' := [(2, .int (x2 + 1)), (0, .ref (gx_m E)), (1, .int x1), (3, .int x3)]) hx hb dX2_goesOn_54 hl rfl rfl (by decide) rfl (fun ls hl => ?_)
          refine lv_aload_n hx hb dX2_goesOn_57 rfl (lv_at hl 1 rfl) ?_
          refine ma_counted dX2_goesOn_58 S hE hM ?_
          refine lv_iload_n hx hb dX2_goesOn_61 rfl (lv_at hl 2 rfl) ?_
          refine lv_dup2_11 hx hb dX2_goesOn_62 rfl rfl ?_
          obtain ⟨v63, e63, h⟩ := g_bd h
          refine m_ald 68 dX2_goesOn_63 (by decide) rfl S hE hM e63 ?_
          refine lv_iconst (v := 1) hx hb dX2_goesOn_64 (by decide) ?_
          refine lv_iadd hx hb dX2_goesOn_65 ?_
          obtain ⟨M66, e66, h⟩ := g_bd h
          refine m_ast 68 dX2_goesOn_66 (by decide) rfl S hE hM hS e66 (fun H locs hM hS => ?_)
          refine lv_aload_n hx hb dX2_goesOn_67 rfl (lv_at hl 1 rfl) ?_
          refine lv_iload_n hx hb dX2_goesOn_68 rfl (lv_at hl 2 rfl) ?_
          obtain ⟨q69, e69, h⟩ := g_bd h
          refine m_cV (y := yX2_does) (rest := []) dX2_goesOn_69 q3252 q3254 qs97 q3255 hm_does S hE hM hS hl.1 rfl (wm_does E l _ _ _ _ e69) rfl (Nat.le_of_ble_eq_true rfl) ⟨Nat.le_of_ble_eq_true rfl, Nat.le_of_ble_eq_true rfl⟩ ⟨Nat.le_refl 0, Nat.le_refl 0⟩ (fun H locs hM hS => ?_)
          refine lv_if_eq (tgt := 88) hx hb dX2_goesOn_72 (by decide) (fun c72 => ?_) (fun c72 => ?_)
          · have h := g_it c72 h
            exact J88 x1 (x2 + 1) q69.2 _ _ _ h hM hS (lv_sub hl [1, 2, 0] rfl)
          · have h := g_if c72 h
            refine lv_aload_n hx hb dX2_goesOn_75 rfl (lv_at hl 1 rfl) ?_
            refine ma_state dX2_goesOn_76 S hE hM ?_
            refine lv_iload_n hx hb dX2_goesOn_79 rfl (lv_at hl 2 rfl) ?_
            obtain ⟨v80, e80, h⟩ := g_bd h
            refine m_ald 65 dX2_goesOn_80 (by decide) rfl S hE hM e80 ?_
            refine lv_if_ne (tgt := 88) hx hb dX2_goesOn_81 (by decide) (fun c81 => ?_) (fun c81 => ?_)
            · have h := g_if c81 h
              exact J88 x1 (x2 + 1) q69.2 _ _ _ h hM hS (lv_sub hl [1, 2, 0] rfl)
            · have h := g_it c81 h
              refine lv_iconst (v := 1) hx hb dX2_goesOn_84 (by decide) ?_
              refine lv_goto (tgt := 89) hx hb dX2_goesOn_85 (by decide) ?_
              exact J89 x1 (x2 + 1) 1 q69.2 _ _ _ h hM hS (lv_sub hl [1, 2, 0] rfl)
  have J16 : ∀ (x1 x2 s0 : Int32) (M : MM) (H : Heap) (locs : List Loc) (ls : Array Slot), mm_goesOn_J16 x1 x2 s0 M = some M' → gM E M H → va_S (gx_A E) s.heap H locs → lv_has ls 4 [(0, .ref (gx_m E)), (1, .int x1), (2, .int x2)] → W p l e (gRm 8 0 0) s m args below meth c H locs 0 0 (MQ below (gQ none (gM E M') (gx_A E)) args s 0 0 (gx_A E)) (F0 m 16 ls [.int s0]) := by
    intro x1 x2 s0 M H locs ls h hM hS hl
    unfold mm_goesOn_J16 at h
    refine lv_istore_n (lv' := [(3, .int s0), (0, .ref (gx_m E)), (1, .int x1), (2, .int x2)]) hx hb dX2_goesOn_16 rfl hl (by decide) rfl (fun ls hl => ?_)
    refine lv_iload_n hx hb dX2_goesOn_17 rfl (lv_at hl 0 rfl) ?_
    refine lv_if_eq (tgt := 44) hx hb dX2_goesOn_18 (by decide) (fun c18 => ?_) (fun c18 => ?_)
    · have h := g_it c18 h
      exact L44 gF x1 x2 s0 M _ _ _ h hM hS (lv_sub hl [1, 2, 3, 0] rfl)
    · have h := g_if c18 h
      refine lv_aload_n hx hb dX2_goesOn_21 rfl (lv_at hl 1 rfl) ?_
      refine ma_op dX2_goesOn_22 S hE hM ?_
      refine lv_aload_n hx hb dX2_goesOn_25 rfl (lv_at hl 1 rfl) ?_
      refine ma_next dX2_goesOn_26 S hE hM ?_
      refine lv_iload_n hx hb dX2_goesOn_29 rfl (lv_at hl 2 rfl) ?_
      obtain ⟨v30, e30, h⟩ := g_bd h
      refine m_ald 67 dX2_goesOn_30 (by decide) rfl S hE hM e30 ?_
      obtain ⟨v31, e31, h⟩ := g_bd h
      refine m_ald 35 dX2_goesOn_31 (by decide) rfl S hE hM e31 ?_
      refine lv_bipush (v := 54) hx hb dX2_goesOn_32 (by decide) ?_
      refine lv_icmp_ne (tgt := 44) hx hb dX2_goesOn_34 (by decide) (fun c34 => ?_) (fun c34 => ?_)
      · have h := g_if c34 h
        exact L44 gF x1 x2 s0 M _ _ _ h hM hS (lv_sub hl [1, 2, 3, 0] rfl)
      · have h := g_it c34 h
        refine lv_aload_n hx hb dX2_goesOn_37 rfl (lv_at hl 1 rfl) ?_
        refine lv_iload_n hx hb dX2_goesOn_38 rfl (lv_at hl 2 rfl) ?_
        obtain ⟨M39, e39, h⟩ := g_bd h
        refine m_cV (y := yX2_isOver) (rest := []) dX2_goesOn_39 q3248 q3250 qs96 q3251 hm_isOver S hE hM hS hl.1 rfl (wm_isOver E l _ _ _ e39) rfl (Nat.le_of_ble_eq_true rfl) ⟨Nat.le_of_ble_eq_true rfl, Nat.le_of_ble_eq_true rfl⟩ ⟨Nat.le_refl 0, Nat.le_refl 0⟩ (fun H locs hM hS => ?_)
        refine lv_iconst (v := 0) hx hb dX2_goesOn_42 (by decide) ?_
        refine lv_istore_n (lv' := [(3, .int 0), (0, .ref (gx_m E)), (1, .int x1), (2, .int x2)]) hx hb dX2_goesOn_43 rfl hl (by decide) rfl (fun ls hl => ?_)
        exact L44 gF x1 x2 0 M39 _ _ _ h hM hS (lv_sub hl [1, 2, 3, 0] rfl)
  unfold mm_goesOn at h
  refine lv_iconst (v := 0) hx hb dX2_goesOn_0 (by decide) ?_
  refine lv_istore_n (lv' := [(2, .int 0), (0, .ref (gx_m E)), (1, .int x1)]) hx hb dX2_goesOn_1 rfl hl (by decide) rfl (fun ls hl => ?_)
  refine lv_aload_n hx hb dX2_goesOn_2 rfl (lv_at hl 1 rfl) ?_
  refine ma_state dX2_goesOn_3 S hE hM ?_
  refine lv_iload_n hx hb dX2_goesOn_6 rfl (lv_at hl 2 rfl) ?_
  obtain ⟨v7, e7, h⟩ := g_bd h
  refine m_ald 65 dX2_goesOn_7 (by decide) rfl S hE hM e7 ?_
  refine lv_if_ne (tgt := 15) hx hb dX2_goesOn_8 (by decide) (fun c8 => ?_) (fun c8 => ?_)
  · have h := g_if c8 h
    refine lv_iconst (v := 0) hx hb dX2_goesOn_15 (by decide) ?_
    exact J16 x1 0 0 M _ _ _ h hM hS (lv_sub hl [1, 2, 0] rfl)
  · have h := g_it c8 h
    refine lv_iconst (v := 1) hx hb dX2_goesOn_11 (by decide) ?_
    refine lv_goto (tgt := 16) hx hb dX2_goesOn_12 (by decide) ?_
    exact J16 x1 0 1 M _ _ _ h hM hS (lv_sub hl [1, 2, 0] rfl)
theorem hm_towards : yX2_towards.cls = RX2 ∧ yX2_towards.cls ≠ "java/lang/invoke/MethodHandle" ∧ yX2_towards.cls ≠ "java/lang/invoke/VarHandle" ∧ (parseMethodDescriptor yX2_towards.desc).map (fun d => d.parameters.length) = some 4 := by decide +kernel
set_option maxHeartbeats 4000000 in
set_option maxRecDepth 100000 in
theorem wm_towards (E : gX) (l : Launch) (x0 x1 x2 x3 : Int32) (r : Int32) (M : MM) (h : mm_towards x0 x1 x2 x3 M = some r) : gMet E l yX2_towards cX2_towards 4 (some .int) 1 0 0 (gx_A E) [.int x0, .int x1, .int x2, .int x3] (gM E M) (gM E M) (some (.int r)) := by
  refine gMet.of (own := RX2) (by decide +kernel) (Nat.le_of_ble_eq_true rfl) rfl ?_
  intro p e s m args below meth c S hr hk hnm hE hM hS ls hl
  have hl : lv_has ls 4 [(0, .int x0), (1, .int x1), (2, .int x2), (3, .int x3)] := hl
  have hx := S.1
  have hb := S.2.1
  unfold mm_towards at h
  refine lv_iload_n hx hb dX2_towards_0 rfl (lv_at hl 0 rfl) ?_
  refine lv_iload_n hx hb dX2_towards_1 rfl (lv_at hl 1 rfl) ?_
  refine lv_icmp_ge (tgt := 20) hx hb dX2_towards_2 (by decide) (fun c2 => ?_) (fun c2 => ?_)
  · have h := g_it c2 h
    refine lv_iload_n hx hb dX2_towards_20 rfl (lv_at hl 0 rfl) ?_
    refine lv_iload_n hx hb dX2_towards_21 rfl (lv_at hl 1 rfl) ?_
    refine lv_isub hx hb dX2_towards_22 ?_
    refine lv_iload_n hx hb dX2_towards_23 rfl (lv_at hl 3 rfl) ?_
    refine lv_icmp_le (tgt := 33) hx hb dX2_towards_24 (by decide) (fun c24 => ?_) (fun c24 => ?_)
    · have h := g_it c24 h
      refine lv_iload_n hx hb dX2_towards_33 rfl (lv_at hl 1 rfl) ?_
      exact m_iretR dX2_towards_34 S hr hk hM hS h
    · have h := g_if c24 h
      refine lv_iload_n hx hb dX2_towards_27 rfl (lv_at hl 0 rfl) ?_
      refine lv_iload_n hx hb dX2_towards_28 rfl (lv_at hl 3 rfl) ?_
      refine lv_isub hx hb dX2_towards_29 ?_
      refine lv_goto (tgt := 34) hx hb dX2_towards_30 (by decide) ?_
      exact m_iretR dX2_towards_34 S hr hk hM hS h
  · have h := g_if c2 h
    refine lv_iload_n hx hb dX2_towards_5 rfl (lv_at hl 1 rfl) ?_
    refine lv_iload_n hx hb dX2_towards_6 rfl (lv_at hl 0 rfl) ?_
    refine lv_isub hx hb dX2_towards_7 ?_
    refine lv_iload_n hx hb dX2_towards_8 rfl (lv_at hl 2 rfl) ?_
    refine lv_icmp_le (tgt := 18) hx hb dX2_towards_9 (by decide) (fun c9 => ?_) (fun c9 => ?_)
    · have h := g_it c9 h
      refine lv_iload_n hx hb dX2_towards_18 rfl (lv_at hl 1 rfl) ?_
      exact m_iretR dX2_towards_19 S hr hk hM hS h
    · have h := g_if c9 h
      refine lv_iload_n hx hb dX2_towards_12 rfl (lv_at hl 0 rfl) ?_
      refine lv_iload_n hx hb dX2_towards_13 rfl (lv_at hl 2 rfl) ?_
      refine lv_iadd hx hb dX2_towards_14 ?_
      refine lv_goto (tgt := 19) hx hb dX2_towards_15 (by decide) ?_
      exact m_iretR dX2_towards_19 S hr hk hM hS h
theorem hm_sizeOf : yX2_sizeOf.cls = RX2 ∧ yX2_sizeOf.cls ≠ "java/lang/invoke/MethodHandle" ∧ yX2_sizeOf.cls ≠ "java/lang/invoke/VarHandle" ∧ (parseMethodDescriptor yX2_sizeOf.desc).map (fun d => d.parameters.length) = some 1 := by decide +kernel
set_option maxHeartbeats 4000000 in
set_option maxRecDepth 100000 in
theorem wm_sizeOf (E : gX) (l : Launch) (x0 : Int32) (r : Int32) (M : MM) (h : mm_sizeOf x0 M = some r) : gMet E l yX2_sizeOf cX2_sizeOf 1 (some .int) 1 0 0 (gx_A E) [.int x0] (gM E M) (gM E M) (some (.int r)) := by
  refine gMet.of (own := RX2) (by decide +kernel) (Nat.le_of_ble_eq_true rfl) rfl ?_
  intro p e s m args below meth c S hr hk hnm hE hM hS ls hl
  have hl : lv_has ls 1 [(0, .int x0)] := hl
  have hx := S.1
  have hb := S.2.1
  unfold mm_sizeOf at h
  refine lv_iload_n hx hb dX2_sizeOf_0 rfl (lv_at hl 0 rfl) ?_
  refine lv_if_ge (tgt := 9) hx hb dX2_sizeOf_1 (by decide) (fun c1 => ?_) (fun c1 => ?_)
  · have h := g_it c1 h
    refine lv_iload_n hx hb dX2_sizeOf_9 rfl (lv_at hl 0 rfl) ?_
    exact m_iretR dX2_sizeOf_10 S hr hk hM hS h
  · have h := g_if c1 h
    refine lv_iload_n hx hb dX2_sizeOf_4 rfl (lv_at hl 0 rfl) ?_
    refine lv_ineg hx hb dX2_sizeOf_5 ?_
    refine lv_goto (tgt := 10) hx hb dX2_sizeOf_6 (by decide) ?_
    exact m_iretR dX2_sizeOf_10 S hr hk hM hS h
theorem hm_eases : yX2_eases.cls = RX2 ∧ yX2_eases.cls ≠ "java/lang/invoke/MethodHandle" ∧ yX2_eases.cls ≠ "java/lang/invoke/VarHandle" ∧ (parseMethodDescriptor yX2_eases.desc).map (fun d => d.parameters.length) = some 1 := by decide +kernel
set_option maxHeartbeats 4000000 in
set_option maxRecDepth 100000 in
theorem wm_eases (E : gX) (l : Launch) (x1 : Int32) (M M' : MM) (h : mm_eases x1 M = some M') : gMet E l yX2_eases cX2_eases 5 none 2 0 0 (gx_A E) [.ref (gx_m E), .int x1] (gM E M) (gM E M') none := by
  refine gMet.of (own := RX2) (by decide +kernel) (Nat.le_of_ble_eq_true rfl) rfl ?_
  intro p e s m args below meth c S hr hk hnm hE hM hS ls hl
  have hl : lv_has ls 5 [(0, .ref (gx_m E)), (1, .int x1)] := hl
  have hx := S.1
  have hb := S.2.1
  have J211 : ∀ (x1 x2 : Int32) (M : MM) (H : Heap) (locs : List Loc) (ls : Array Slot), mm_eases_J211 x1 x2 M = some M' → gM E M H → va_S (gx_A E) s.heap H locs → lv_has ls 5 [(0, .ref (gx_m E)), (1, .int x1), (2, .int x2)] → W p l e (gRm 2 0 0) s m args below meth c H locs 0 0 (MQ below (gQ none (gM E M') (gx_A E)) args s 0 0 (gx_A E)) (F0 m 211 ls []) := by
    intro x1 x2 M H locs ls h hM hS hl
    unfold mm_eases_J211 at h
    refine lv_iload_n hx hb dX2_eases_211 rfl (lv_at hl 2 rfl) ?_
    refine lv_iconst (v := 3) hx hb dX2_eases_212 (by decide) ?_
    refine lv_icmp_ne (tgt := 249) hx hb dX2_eases_213 (by decide) (fun c213 => ?_) (fun c213 => ?_)
    · have h := g_if c213 h
      exact m_vretW dX2_eases_249 S hr hk hM hS h
    · have h := g_it c213 h
      refine lv_aload_n hx hb dX2_eases_216 rfl (lv_at hl 0 rfl) ?_
      refine ma_volume dX2_eases_217 S hE hM ?_
      refine lv_iload_n hx hb dX2_eases_220 rfl (lv_at hl 1 rfl) ?_
      obtain ⟨v221, e221, h⟩ := g_bd h
      refine m_ald 63 dX2_eases_221 (by decide) rfl S hE hM e221 ?_
      refine lv_aload_n hx hb dX2_eases_222 rfl (lv_at hl 0 rfl) ?_
      refine ma_speed dX2_eases_223 S hE hM ?_
      refine lv_iload_n hx hb dX2_eases_226 rfl (lv_at hl 1 rfl) ?_
      obtain ⟨v227, e227, h⟩ := g_bd h
      refine m_ald 56 dX2_eases_227 (by decide) rfl S hE hM e227 ?_
      obtain ⟨v228, e228, h⟩ := g_bd h
      refine m_cS (y := yX2_sizeOf) (rest := [.int v221]) dX2_eases_228 q3319 q3320 q3321 hm_sizeOf S hE hM hS hl.1 rfl (wm_sizeOf E l _ _ _ e228) rfl (Nat.le_of_ble_eq_true rfl) ⟨Nat.le_of_ble_eq_true rfl, Nat.le_of_ble_eq_true rfl⟩ ⟨Nat.le_refl 0, Nat.le_refl 0⟩ (fun H locs hM hS => ?_)
      refine lv_icmp_le (tgt := 249) hx hb dX2_eases_231 (by decide) (fun c231 => ?_) (fun c231 => ?_)
      · have h := g_it c231 h
        exact m_vretW dX2_eases_249 S hr hk hM hS h
      · have h := g_if c231 h
        refine lv_aload_n hx hb dX2_eases_234 rfl (lv_at hl 0 rfl) ?_
        refine ma_volume dX2_eases_235 S hE hM ?_
        refine lv_iload_n hx hb dX2_eases_238 rfl (lv_at hl 1 rfl) ?_
        refine lv_aload_n hx hb dX2_eases_239 rfl (lv_at hl 0 rfl) ?_
        refine ma_speed dX2_eases_240 S hE hM ?_
        refine lv_iload_n hx hb dX2_eases_243 rfl (lv_at hl 1 rfl) ?_
        obtain ⟨v244, e244, h⟩ := g_bd h
        refine m_ald 56 dX2_eases_244 (by decide) rfl S hE hM e244 ?_
        obtain ⟨v245, e245, h⟩ := g_bd h
        refine m_cS (y := yX2_sizeOf) (rest := [.int x1, .ref (gx_m E + mOff 63)]) dX2_eases_245 q3319 q3320 q3321 hm_sizeOf S hE hM hS hl.1 rfl (wm_sizeOf E l _ _ _ e245) rfl (Nat.le_of_ble_eq_true rfl) ⟨Nat.le_of_ble_eq_true rfl, Nat.le_of_ble_eq_true rfl⟩ ⟨Nat.le_refl 0, Nat.le_refl 0⟩ (fun H locs hM hS => ?_)
        obtain ⟨M248, e248, h⟩ := g_bd h
        refine m_ast 63 dX2_eases_248 (by decide) rfl S hE hM hS e248 (fun H locs hM hS => ?_)
        exact m_vretW dX2_eases_249 S hr hk hM hS h
  have J171 : ∀ (x1 x2 x3 s0 : Int32) (M : MM) (H : Heap) (locs : List Loc) (ls : Array Slot), mm_eases_J171 x1 x2 x3 s0 M = some M' → gM E M H → va_S (gx_A E) s.heap H locs → lv_has ls 5 [(0, .ref (gx_m E)), (1, .int x1), (2, .int x2), (3, .int x3)] → W p l e (gRm 2 0 0) s m args below meth c H locs 0 0 (MQ below (gQ none (gM E M') (gx_A E)) args s 0 0 (gx_A E)) (F0 m 171 ls [.int s0]) := by
    intro x1 x2 x3 s0 M H locs ls h hM hS hl
    unfold mm_eases_J171 at h
    refine lv_istore (lv' := [(4, .int s0), (0, .ref (gx_m E)), (1, .int x1), (2, .int x2), (3, .int x3)]) hx hb dX2_eases_171 hl (by decide) rfl (fun ls hl => ?_)
    refine lv_aload_n hx hb dX2_eases_173 rfl (lv_at hl 1 rfl) ?_
    refine ma_height dX2_eases_174 S hE hM ?_
    refine lv_iload_n hx hb dX2_eases_177 rfl (lv_at hl 2 rfl) ?_
    refine lv_iload_n hx hb dX2_eases_178 rfl (lv_at hl 4 rfl) ?_
    refine lv_aload_n hx hb dX2_eases_179 rfl (lv_at hl 1 rfl) ?_
    refine ma_lift dX2_eases_180 S hE hM ?_
    refine lv_iload_n hx hb dX2_eases_183 rfl (lv_at hl 2 rfl) ?_
    obtain ⟨v184, e184, h⟩ := g_bd h
    refine m_ald 59 dX2_eases_184 (by decide) rfl S hE hM e184 ?_
    refine lv_aload_n hx hb dX2_eases_185 rfl (lv_at hl 1 rfl) ?_
    refine ma_pace dX2_eases_186 S hE hM ?_
    refine lv_iload_n hx hb dX2_eases_189 rfl (lv_at hl 2 rfl) ?_
    obtain ⟨v190, e190, h⟩ := g_bd h
    refine m_ald 30 dX2_eases_190 (by decide) rfl S hE hM e190 ?_
    refine lv_iload hx hb dX2_eases_191 (lv_at hl 0 rfl) ?_
    obtain ⟨v193, e193, h⟩ := g_bd h
    refine m_cS (y := yX2_towards) (rest := [.int x1, .ref (gx_m E + mOff 58)]) dX2_eases_193 q3316 q3317 q3318 hm_towards S hE hM hS hl.1 rfl (wm_towards E l _ _ _ _ _ _ e193) rfl (Nat.le_of_ble_eq_true rfl) ⟨Nat.le_of_ble_eq_true rfl, Nat.le_of_ble_eq_true rfl⟩ ⟨Nat.le_refl 0, Nat.le_refl 0⟩ (fun H locs hM hS => ?_)
    obtain ⟨M196, e196, h⟩ := g_bd h
    refine m_ast 58 dX2_eases_196 (by decide) rfl S hE hM hS e196 (fun H locs hM hS => ?_)
    refine lv_aload_n hx hb dX2_eases_197 rfl (lv_at hl 1 rfl) ?_
    refine ma_moved dX2_eases_198 S hE hM ?_
    refine lv_iload_n hx hb dX2_eases_201 rfl (lv_at hl 2 rfl) ?_
    refine lv_aload_n hx hb dX2_eases_202 rfl (lv_at hl 1 rfl) ?_
    refine ma_height dX2_eases_203 S hE hM ?_
    refine lv_iload_n hx hb dX2_eases_206 rfl (lv_at hl 2 rfl) ?_
    obtain ⟨v207, e207, h⟩ := g_bd h
    refine m_ald 58 dX2_eases_207 (by decide) rfl S hE hM e207 ?_
    refine lv_iload_n hx hb dX2_eases_208 rfl (lv_at hl 4 rfl) ?_
    refine lv_isub hx hb dX2_eases_209 ?_
    obtain ⟨M210, e210, h⟩ := g_bd h
    refine m_ast 60 dX2_eases_210 (by decide) rfl S hE hM hS e210 (fun H locs hM hS => ?_)
    exact J211 x1 x2 M210 _ _ _ h hM hS (lv_sub hl [1, 2, 3] rfl)
  have J165 : ∀ (x1 x2 x3 : Int32) (M : MM) (H : Heap) (locs : List Loc) (ls : Array Slot), mm_eases_J165 x1 x2 x3 M = some M' → gM E M H → va_S (gx_A E) s.heap H locs → lv_has ls 5 [(0, .ref (gx_m E)), (1, .int x1), (2, .int x2), (3, .int x3)] → W p l e (gRm 2 0 0) s m args below meth c H locs 0 0 (MQ below (gQ none (gM E M') (gx_A E)) args s 0 0 (gx_A E)) (F0 m 165 ls []) := by
    intro x1 x2 x3 M H locs ls h hM hS hl
    unfold mm_eases_J165 at h
    refine lv_aload_n hx hb dX2_eases_165 rfl (lv_at hl 0 rfl) ?_
    refine ma_pace dX2_eases_166 S hE hM ?_
    refine lv_iload_n hx hb dX2_eases_169 rfl (lv_at hl 1 rfl) ?_
    obtain ⟨v170, e170, h⟩ := g_bd h
    refine m_ald 30 dX2_eases_170 (by decide) rfl S hE hM e170 ?_
    exact J171 x1 x2 x3 v170 M _ _ _ h hM hS (lv_sub hl [0, 1, 2, 3] rfl)
  have J117 : ∀ (x1 x2 x3 : Int32) (M : MM) (H : Heap) (locs : List Loc) (ls : Array Slot), mm_eases_J117 x1 x2 x3 M = some M' → gM E M H → va_S (gx_A E) s.heap H locs → lv_has ls 5 [(0, .ref (gx_m E)), (1, .int x1), (2, .int x2), (3, .int x3)] → W p l e (gRm 2 0 0) s m args below meth c H locs 0 0 (MQ below (gQ none (gM E M') (gx_A E)) args s 0 0 (gx_A E)) (F0 m 117 ls []) := by
    intro x1 x2 x3 M H locs ls h hM hS hl
    unfold mm_eases_J117 at h
    refine lv_aload_n hx hb dX2_eases_117 rfl (lv_at hl 0 rfl) ?_
    refine lv_iload_n hx hb dX2_eases_118 rfl (lv_at hl 1 rfl) ?_
    refine lv_iconst (v := 2) hx hb dX2_eases_119 (by decide) ?_
    obtain ⟨v120, e120, h⟩ := g_bd h
    refine m_cV (y := yX2_has) (rest := []) dX2_eases_120 q3212 q3214 qs89 q3215 hm_has S hE hM hS hl.1 rfl (wm_has E l _ _ _ _ e120) rfl (Nat.le_of_ble_eq_true rfl) ⟨Nat.le_of_ble_eq_true rfl, Nat.le_of_ble_eq_true rfl⟩ ⟨Nat.le_refl 0, Nat.le_refl 0⟩ (fun H locs hM hS => ?_)
    refine lv_if_eq (tgt := 211) hx hb dX2_eases_123 (by decide) (fun c123 => ?_) (fun c123 => ?_)
    · have h := g_it c123 h
      exact J211 x1 x2 M _ _ _ h hM hS (lv_sub hl [0, 1, 2] rfl)
    · have h := g_if c123 h
      refine lv_iload_n hx hb dX2_eases_126 rfl (lv_at hl 2 rfl) ?_
      refine lv_iconst (v := 5) hx hb dX2_eases_127 (by decide) ?_
      refine lv_icmp_ne (tgt := 142) hx hb dX2_eases_128 (by decide) (fun c128 => ?_) (fun c128 => ?_)
      · have h := g_if c128 h
        refine lv_iload_n hx hb dX2_eases_142 rfl (lv_at hl 2 rfl) ?_
        refine lv_iconst (v := 2) hx hb dX2_eases_143 (by decide) ?_
        refine lv_icmp_ne (tgt := 165) hx hb dX2_eases_144 (by decide) (fun c144 => ?_) (fun c144 => ?_)
        · have h := g_if c144 h
          exact J165 x1 x2 x3 M _ _ _ h hM hS (lv_sub hl [0, 1, 2, 3] rfl)
        · have h := g_it c144 h
          refine lv_aload_n hx hb dX2_eases_147 rfl (lv_at hl 0 rfl) ?_
          refine ma_speed dX2_eases_148 S hE hM ?_
          refine lv_iload_n hx hb dX2_eases_151 rfl (lv_at hl 1 rfl) ?_
          obtain ⟨v152, e152, h⟩ := g_bd h
          refine m_ald 56 dX2_eases_152 (by decide) rfl S hE hM e152 ?_
          obtain ⟨v153, e153, h⟩ := g_bd h
          refine m_cS (y := yX2_sizeOf) (rest := []) dX2_eases_153 q3319 q3320 q3321 hm_sizeOf S hE hM hS hl.1 rfl (wm_sizeOf E l _ _ _ e153) rfl (Nat.le_of_ble_eq_true rfl) ⟨Nat.le_of_ble_eq_true rfl, Nat.le_of_ble_eq_true rfl⟩ ⟨Nat.le_refl 0, Nat.le_refl 0⟩ (fun H locs hM hS => ?_)
          refine lv_bipush (v := 30) hx hb dX2_eases_156 (by decide) ?_
          refine lv_icmp_le (tgt := 165) hx hb dX2_eases_158 (by decide) (fun c158 => ?_) (fun c158 => ?_)
          · have h := g_it c158 h
            exact J165 x1 x2 x3 M _ _ _ h hM hS (lv_sub hl [0, 1, 2, 3] rfl)
          · have h := g_if c158 h
            refine lv_iconst (v := 0) hx hb dX2_eases_161 (by decide) ?_
            refine lv_goto (tgt := 171) hx hb dX2_eases_162 (by decide) ?_
            exact J171 x1 x2 x3 0 M _ _ _ h hM hS (lv_sub hl [0, 1, 2, 3] rfl)
      · have h := g_it c128 h
        refine lv_iconst (v := 2) hx hb dX2_eases_131 (by decide) ?_
        refine lv_aload_n hx hb dX2_eases_132 rfl (lv_at hl 0 rfl) ?_
        refine ma_pace dX2_eases_133 S hE hM ?_
        refine lv_iload_n hx hb dX2_eases_136 rfl (lv_at hl 1 rfl) ?_
        obtain ⟨v137, e137, h⟩ := g_bd h
        refine m_ald 30 dX2_eases_137 (by decide) rfl S hE hM e137 ?_
        refine lv_imul hx hb dX2_eases_138 ?_
        refine lv_goto (tgt := 171) hx hb dX2_eases_139 (by decide) ?_
        exact J171 x1 x2 x3 (2 * v137) M _ _ _ h hM hS (lv_sub hl [0, 1, 2, 3] rfl)
  have J90 : ∀ (x1 x2 x3 s0 : Int32) (M : MM) (H : Heap) (locs : List Loc) (ls : Array Slot), mm_eases_J90 x1 x2 x3 s0 M = some M' → gM E M H → va_S (gx_A E) s.heap H locs → lv_has ls 5 [(0, .ref (gx_m E)), (1, .int x1), (2, .int x2), (3, .int x3)] → W p l e (gRm 2 0 0) s m args below meth c H locs 0 0 (MQ below (gQ none (gM E M') (gx_A E)) args s 0 0 (gx_A E)) (F0 m 90 ls [.int s0]) := by
    intro x1 x2 x3 s0 M H locs ls h hM hS hl
    unfold mm_eases_J90 at h
    refine lv_istore (lv' := [(4, .int s0), (0, .ref (gx_m E)), (1, .int x1), (2, .int x2), (3, .int x3)]) hx hb dX2_eases_90 hl (by decide) rfl (fun ls hl => ?_)
    refine lv_aload_n hx hb dX2_eases_92 rfl (lv_at hl 1 rfl) ?_
    refine ma_speed dX2_eases_93 S hE hM ?_
    refine lv_iload_n hx hb dX2_eases_96 rfl (lv_at hl 2 rfl) ?_
    refine lv_aload_n hx hb dX2_eases_97 rfl (lv_at hl 1 rfl) ?_
    refine ma_speed dX2_eases_98 S hE hM ?_
    refine lv_iload_n hx hb dX2_eases_101 rfl (lv_at hl 2 rfl) ?_
    obtain ⟨v102, e102, h⟩ := g_bd h
    refine m_ald 56 dX2_eases_102 (by decide) rfl S hE hM e102 ?_
    refine lv_aload_n hx hb dX2_eases_103 rfl (lv_at hl 1 rfl) ?_
    refine ma_goal dX2_eases_104 S hE hM ?_
    refine lv_iload_n hx hb dX2_eases_107 rfl (lv_at hl 2 rfl) ?_
    obtain ⟨v108, e108, h⟩ := g_bd h
    refine m_ald 57 dX2_eases_108 (by decide) rfl S hE hM e108 ?_
    refine lv_iload hx hb dX2_eases_109 (lv_at hl 0 rfl) ?_
    refine lv_iload hx hb dX2_eases_111 (lv_at hl 0 rfl) ?_
    obtain ⟨v113, e113, h⟩ := g_bd h
    refine m_cS (y := yX2_towards) (rest := [.int x1, .ref (gx_m E + mOff 56)]) dX2_eases_113 q3316 q3317 q3318 hm_towards S hE hM hS hl.1 rfl (wm_towards E l _ _ _ _ _ _ e113) rfl (Nat.le_of_ble_eq_true rfl) ⟨Nat.le_of_ble_eq_true rfl, Nat.le_of_ble_eq_true rfl⟩ ⟨Nat.le_refl 0, Nat.le_refl 0⟩ (fun H locs hM hS => ?_)
    obtain ⟨M116, e116, h⟩ := g_bd h
    refine m_ast 56 dX2_eases_116 (by decide) rfl S hE hM hS e116 (fun H locs hM hS => ?_)
    exact J117 x1 x2 x3 M116 _ _ _ h hM hS (lv_sub hl [1, 2, 3, 4] rfl)
  have J76 : ∀ (x1 x2 x3 s0 : Int32) (M : MM) (H : Heap) (locs : List Loc) (ls : Array Slot), mm_eases_J76 x1 x2 x3 s0 M = some M' → gM E M H → va_S (gx_A E) s.heap H locs → lv_has ls 5 [(0, .ref (gx_m E)), (1, .int x1), (2, .int x2), (3, .int x3)] → W p l e (gRm 2 0 0) s m args below meth c H locs 0 0 (MQ below (gQ none (gM E M') (gx_A E)) args s 0 0 (gx_A E)) (F0 m 76 ls [.int s0]) := by
    intro x1 x2 x3 s0 M H locs ls h hM hS hl
    unfold mm_eases_J76 at h
    refine lv_istore (lv' := [(4, .int s0), (0, .ref (gx_m E)), (1, .int x1), (2, .int x2), (3, .int x3)]) hx hb dX2_eases_76 hl (by decide) rfl (fun ls hl => ?_)
    refine lv_iload hx hb dX2_eases_78 (lv_at hl 0 rfl) ?_
    refine lv_iconst (v := 1) hx hb dX2_eases_80 (by decide) ?_
    refine lv_icmp_ge (tgt := 88) hx hb dX2_eases_81 (by decide) (fun c81 => ?_) (fun c81 => ?_)
    · have h := g_it c81 h
      refine lv_iload hx hb dX2_eases_88 (lv_at hl 0 rfl) ?_
      exact J90 x1 x2 x3 s0 M _ _ _ h hM hS (lv_sub hl [1, 2, 3, 4] rfl)
    · have h := g_if c81 h
      refine lv_iconst (v := 1) hx hb dX2_eases_84 (by decide) ?_
      refine lv_goto (tgt := 90) hx hb dX2_eases_85 (by decide) ?_
      exact J90 x1 x2 x3 1 M _ _ _ h hM hS (lv_sub hl [1, 2, 3, 4] rfl)
  have J70 : ∀ (x1 x2 x3 : Int32) (M : MM) (H : Heap) (locs : List Loc) (ls : Array Slot), mm_eases_J70 x1 x2 x3 M = some M' → gM E M H → va_S (gx_A E) s.heap H locs → lv_has ls 5 [(0, .ref (gx_m E)), (1, .int x1), (2, .int x2), (3, .int x3)] → W p l e (gRm 2 0 0) s m args below meth c H locs 0 0 (MQ below (gQ none (gM E M') (gx_A E)) args s 0 0 (gx_A E)) (F0 m 70 ls []) := by
    intro x1 x2 x3 M H locs ls h hM hS hl
    unfold mm_eases_J70 at h
    refine lv_aload_n hx hb dX2_eases_70 rfl (lv_at hl 0 rfl) ?_
    refine ma_accel dX2_eases_71 S hE hM ?_
    refine lv_iload_n hx hb dX2_eases_74 rfl (lv_at hl 1 rfl) ?_
    obtain ⟨v75, e75, h⟩ := g_bd h
    refine m_ald 28 dX2_eases_75 (by decide) rfl S hE hM e75 ?_
    exact J76 x1 x2 x3 v75 M _ _ _ h hM hS (lv_sub hl [0, 1, 2, 3] rfl)
  unfold mm_eases at h
  refine lv_aload_n hx hb dX2_eases_0 rfl (lv_at hl 0 rfl) ?_
  refine ma_kind dX2_eases_1 S hE hM ?_
  refine lv_iload_n hx hb dX2_eases_4 rfl (lv_at hl 1 rfl) ?_
  obtain ⟨v5, e5, h⟩ := g_bd h
  refine m_ald 25 dX2_eases_5 (by decide) rfl S hE hM e5 ?_
  refine lv_istore_n (lv' := [(2, .int v5), (0, .ref (gx_m E)), (1, .int x1)]) hx hb dX2_eases_6 rfl hl (by decide) rfl (fun ls hl => ?_)
  refine lv_aload_n hx hb dX2_eases_7 rfl (lv_at hl 1 rfl) ?_
  refine ma_height dX2_eases_8 S hE hM ?_
  refine lv_iload_n hx hb dX2_eases_11 rfl (lv_at hl 2 rfl) ?_
  obtain ⟨v12, e12, h⟩ := g_bd h
  refine m_ald 58 dX2_eases_12 (by decide) rfl S hE hM e12 ?_
  refine lv_istore_n (lv' := [(3, .int v12), (2, .int v5), (0, .ref (gx_m E)), (1, .int x1)]) hx hb dX2_eases_13 rfl hl (by decide) rfl (fun ls hl => ?_)
  refine lv_iload_n hx hb dX2_eases_14 rfl (lv_at hl 1 rfl) ?_
  refine lv_bipush (v := 8) hx hb dX2_eases_15 (by decide) ?_
  refine lv_icmp_ne (tgt := 40) hx hb dX2_eases_17 (by decide) (fun c17 => ?_) (fun c17 => ?_)
  · have h := g_if c17 h
    refine lv_aload_n hx hb dX2_eases_40 rfl (lv_at hl 2 rfl) ?_
    refine lv_iload_n hx hb dX2_eases_41 rfl (lv_at hl 3 rfl) ?_
    refine lv_iconst (v := 1) hx hb dX2_eases_42 (by decide) ?_
    obtain ⟨v43, e43, h⟩ := g_bd h
    refine m_cV (y := yX2_has) (rest := []) dX2_eases_43 q3212 q3214 qs89 q3215 hm_has S hE hM hS hl.1 rfl (wm_has E l _ _ _ _ e43) rfl (Nat.le_of_ble_eq_true rfl) ⟨Nat.le_of_ble_eq_true rfl, Nat.le_of_ble_eq_true rfl⟩ ⟨Nat.le_refl 0, Nat.le_refl 0⟩ (fun H locs hM hS => ?_)
    refine lv_if_eq (tgt := 117) hx hb dX2_eases_46 (by decide) (fun c46 => ?_) (fun c46 => ?_)
    · have h := g_it c46 h
      exact J117 x1 v5 v12 M _ _ _ h hM hS (lv_sub hl [2, 3, 1, 0] rfl)
    · have h := g_if c46 h
      refine lv_iload_n hx hb dX2_eases_49 rfl (lv_at hl 1 rfl) ?_
      refine lv_bipush (v := 7) hx hb dX2_eases_50 (by decide) ?_
      refine lv_icmp_ne (tgt := 70) hx hb dX2_eases_52 (by decide) (fun c52 => ?_) (fun c52 => ?_)
      · have h := g_if c52 h
        exact J70 x1 v5 v12 M _ _ _ h hM hS (lv_sub hl [2, 3, 1, 0] rfl)
      · have h := g_it c52 h
        refine lv_iload_n hx hb dX2_eases_55 rfl (lv_at hl 0 rfl) ?_
        refine lv_if_le (tgt := 70) hx hb dX2_eases_56 (by decide) (fun c56 => ?_) (fun c56 => ?_)
        · have h := g_it c56 h
          exact J70 x1 v5 v12 M _ _ _ h hM hS (lv_sub hl [2, 3, 1, 0] rfl)
        · have h := g_if c56 h
          refine lv_aload_n hx hb dX2_eases_59 rfl (lv_at hl 2 rfl) ?_
          refine ma_accel dX2_eases_60 S hE hM ?_
          refine lv_iload_n hx hb dX2_eases_63 rfl (lv_at hl 3 rfl) ?_
          obtain ⟨v64, e64, h⟩ := g_bd h
          refine m_ald 28 dX2_eases_64 (by decide) rfl S hE hM e64 ?_
          refine lv_iconst (v := 2) hx hb dX2_eases_65 (by decide) ?_
          refine lv_idiv hx hb dX2_eases_66 (by decide) ?_
          refine lv_goto (tgt := 76) hx hb dX2_eases_67 (by decide) ?_
          exact J76 x1 v5 v12 (v64 / 2) M _ _ _ h hM hS (lv_sub hl [2, 3, 1, 0] rfl)
  · have h := g_it c17 h
    refine lv_aload_n hx hb dX2_eases_20 rfl (lv_at hl 2 rfl) ?_
    refine ma_speed dX2_eases_21 S hE hM ?_
    refine lv_iload_n hx hb dX2_eases_24 rfl (lv_at hl 3 rfl) ?_
    refine lv_aload_n hx hb dX2_eases_25 rfl (lv_at hl 2 rfl) ?_
    refine ma_speed dX2_eases_26 S hE hM ?_
    refine lv_aload_n hx hb dX2_eases_29 rfl (lv_at hl 2 rfl) ?_
    refine ma_leader dX2_eases_30 S hE hM ?_
    refine lv_iload_n hx hb dX2_eases_33 rfl (lv_at hl 3 rfl) ?_
    obtain ⟨v34, e34, h⟩ := g_bd h
    refine m_ald 26 dX2_eases_34 (by decide) rfl S hE hM e34 ?_
    obtain ⟨v35, e35, h⟩ := g_bd h
    refine m_ald 56 dX2_eases_35 (by decide) rfl S hE hM e35 ?_
    obtain ⟨M36, e36, h⟩ := g_bd h
    refine m_ast 56 dX2_eases_36 (by decide) rfl S hE hM hS e36 (fun H locs hM hS => ?_)
    refine lv_goto (tgt := 117) hx hb dX2_eases_37 (by decide) ?_
    exact J117 x1 v5 v12 M36 _ _ _ h hM hS (lv_sub hl [2, 3, 1, 0] rfl)
theorem hm_draw : yX2_draw.cls = RX2 ∧ yX2_draw.cls ≠ "java/lang/invoke/MethodHandle" ∧ yX2_draw.cls ≠ "java/lang/invoke/VarHandle" ∧ (parseMethodDescriptor yX2_draw.desc).map (fun d => d.parameters.length) = some 1 := by decide +kernel
set_option maxHeartbeats 4000000 in
set_option maxRecDepth 100000 in
theorem wm_draw (E : gX) (l : Launch) (x1 : Int32) (r : Int32) (M : MM) (h : mm_draw x1 M = some r) : gMet E l yX2_draw cX2_draw 6 (some .int) 2 0 0 (gx_A E) [.ref (gx_m E), .int x1] (gM E M) (gM E M) (some (.int r)) := by
  refine gMet.of (own := RX2) (by decide +kernel) (Nat.le_of_ble_eq_true rfl) rfl ?_
  intro p e s m args below meth c S hr hk hnm hE hM hS ls hl
  have hl : lv_has ls 6 [(0, .ref (gx_m E)), (1, .int x1)] := hl
  have hx := S.1
  have hb := S.2.1
  have J116 : ∀ (x1 x2 x3 x4 s0 : Int32) (M : MM) (H : Heap) (locs : List Loc) (ls : Array Slot), mm_draw_J116 x1 x2 x3 x4 s0 M = some r → gM E M H → va_S (gx_A E) s.heap H locs → lv_has ls 6 [(0, .ref (gx_m E)), (1, .int x1), (2, .int x2), (3, .int x3), (4, .int x4)] → W p l e (gRm 2 0 0) s m args below meth c H locs 0 0 (MQ below (gQ (some (.int r)) (gM E M) (gx_A E)) args s 0 0 (gx_A E)) (F0 m 116 ls [.int s0]) := by
    intro x1 x2 x3 x4 s0 M H locs ls h hM hS hl
    unfold mm_draw_J116 at h
    refine lv_istore (lv' := [(5, .int s0), (0, .ref (gx_m E)), (1, .int x1), (2, .int x2), (3, .int x3), (4, .int x4)]) hx hb dX2_draw_116 hl (by decide) rfl (fun ls hl => ?_)
    refine lv_aload_n hx hb dX2_draw_118 rfl (lv_at hl 1 rfl) ?_
    refine ma_kind dX2_draw_119 S hE hM ?_
    refine lv_iload_n hx hb dX2_draw_122 rfl (lv_at hl 2 rfl) ?_
    obtain ⟨v123, e123, h⟩ := g_bd h
    refine m_ald 25 dX2_draw_123 (by decide) rfl S hE hM e123 ?_
    by_cases c124_2 : v123 = 2
    · have h := g_it c124_2 h
      refine lv_lookup (off := 36) (tgt := 160) hx hb dX2_draw_124 (by decide) (by rw [c124_2]; rfl) (by decide) ?_
      refine lv_iload_n hx hb dX2_draw_160 rfl (lv_at hl 3 rfl) ?_
      refine lv_iload_n hx hb dX2_draw_161 rfl (lv_at hl 4 rfl) ?_
      refine lv_icmp_le (tgt := 169) hx hb dX2_draw_162 (by decide) (fun c162 => ?_) (fun c162 => ?_)
      · have h := g_it c162 h
        refine lv_iload_n hx hb dX2_draw_169 rfl (lv_at hl 4 rfl) ?_
        exact m_iretR dX2_draw_170 S hr hk hM hS h
      · have h := g_if c162 h
        refine lv_iload_n hx hb dX2_draw_165 rfl (lv_at hl 3 rfl) ?_
        refine lv_goto (tgt := 170) hx hb dX2_draw_166 (by decide) ?_
        exact m_iretR dX2_draw_170 S hr hk hM hS h
    have h := g_if c124_2 h
    by_cases c124_7 : v123 = 7
    · have h := g_it c124_7 h
      refine lv_lookup (off := 47) (tgt := 171) hx hb dX2_draw_124 (by decide) (by rw [c124_7]; rfl) (by decide) ?_
      refine lv_iload_n hx hb dX2_draw_171 rfl (lv_at hl 3 rfl) ?_
      refine lv_iload_n hx hb dX2_draw_172 rfl (lv_at hl 4 rfl) ?_
      refine lv_iadd hx hb dX2_draw_173 ?_
      refine lv_iload hx hb dX2_draw_174 (lv_at hl 5 rfl) ?_
      refine lv_iload hx hb dX2_draw_176 (lv_at hl 0 rfl) ?_
      refine lv_icmp_le (tgt := 186) hx hb dX2_draw_178 (by decide) (fun c178 => ?_) (fun c178 => ?_)
      · have h := g_it c178 h
        refine lv_iload hx hb dX2_draw_186 (lv_at hl 0 rfl) ?_
        refine lv_iadd hx hb dX2_draw_188 ?_
        exact m_iretR dX2_draw_189 S hr hk hM hS h
      · have h := g_if c178 h
        refine lv_iload hx hb dX2_draw_181 (lv_at hl 5 rfl) ?_
        refine lv_goto (tgt := 188) hx hb dX2_draw_183 (by decide) ?_
        refine lv_iadd hx hb dX2_draw_188 ?_
        exact m_iretR dX2_draw_189 S hr hk hM hS h
    have h := g_if c124_7 h
    by_cases c124_8 : v123 = 8
    · have h := g_it c124_8 h
      refine lv_lookup (off := 66) (tgt := 190) hx hb dX2_draw_124 (by decide) (by rw [c124_8]; rfl) (by decide) ?_
      refine lv_iload_n hx hb dX2_draw_190 rfl (lv_at hl 3 rfl) ?_
      refine lv_iconst (v := 2) hx hb dX2_draw_191 (by decide) ?_
      refine lv_idiv hx hb dX2_draw_192 (by decide) ?_
      exact m_iretR dX2_draw_193 S hr hk hM hS h
    have h := g_if c124_8 h
    refine lv_lookup (off := 70) (tgt := 194) hx hb dX2_draw_124 (by decide) (by show Op.lookupswitch.offset [(2, 36), (7, 47), (8, 66)] 70 _ = _; rw [lv_osw c124_2 (by decide), lv_osw c124_7 (by decide), lv_osw c124_8 (by decide)]; rfl) (by decide) ?_
    refine lv_iload_n hx hb dX2_draw_194 rfl (lv_at hl 3 rfl) ?_
    refine lv_iload_n hx hb dX2_draw_195 rfl (lv_at hl 4 rfl) ?_
    refine lv_iadd hx hb dX2_draw_196 ?_
    refine lv_iload hx hb dX2_draw_197 (lv_at hl 5 rfl) ?_
    refine lv_iadd hx hb dX2_draw_199 ?_
    refine lv_iload hx hb dX2_draw_200 (lv_at hl 0 rfl) ?_
    refine lv_iadd hx hb dX2_draw_202 ?_
    exact m_iretR dX2_draw_203 S hr hk hM hS h
  have J92 : ∀ (x1 x2 x3 s0 : Int32) (M : MM) (H : Heap) (locs : List Loc) (ls : Array Slot), mm_draw_J92 x1 x2 x3 s0 M = some r → gM E M H → va_S (gx_A E) s.heap H locs → lv_has ls 6 [(0, .ref (gx_m E)), (1, .int x1), (2, .int x2), (3, .int x3)] → W p l e (gRm 2 0 0) s m args below meth c H locs 0 0 (MQ below (gQ (some (.int r)) (gM E M) (gx_A E)) args s 0 0 (gx_A E)) (F0 m 92 ls [.int s0]) := by
    intro x1 x2 x3 s0 M H locs ls h hM hS hl
    unfold mm_draw_J92 at h
    refine lv_istore (lv' := [(4, .int s0), (0, .ref (gx_m E)), (1, .int x1), (2, .int x2), (3, .int x3)]) hx hb dX2_draw_92 hl (by decide) rfl (fun ls hl => ?_)
    refine lv_aload_n hx hb dX2_draw_94 rfl (lv_at hl 1 rfl) ?_
    refine lv_iload_n hx hb dX2_draw_95 rfl (lv_at hl 2 rfl) ?_
    refine lv_bipush (v := 16) hx hb dX2_draw_96 (by decide) ?_
    obtain ⟨v98, e98, h⟩ := g_bd h
    refine m_cV (y := yX2_has) (rest := []) dX2_draw_98 q3212 q3214 qs89 q3215 hm_has S hE hM hS hl.1 rfl (wm_has E l _ _ _ _ e98) rfl (Nat.le_of_ble_eq_true rfl) ⟨Nat.le_of_ble_eq_true rfl, Nat.le_of_ble_eq_true rfl⟩ ⟨Nat.le_refl 0, Nat.le_refl 0⟩ (fun H locs hM hS => ?_)
    refine lv_if_eq (tgt := 115) hx hb dX2_draw_101 (by decide) (fun c101 => ?_) (fun c101 => ?_)
    · have h := g_it c101 h
      refine lv_iconst (v := 0) hx hb dX2_draw_115 (by decide) ?_
      exact J116 x1 x2 x3 s0 0 M _ _ _ h hM hS (lv_sub hl [1, 2, 3, 4, 0] rfl)
    · have h := g_if c101 h
      refine lv_aload_n hx hb dX2_draw_104 rfl (lv_at hl 1 rfl) ?_
      refine ma_volume dX2_draw_105 S hE hM ?_
      refine lv_iload_n hx hb dX2_draw_108 rfl (lv_at hl 2 rfl) ?_
      obtain ⟨v109, e109, h⟩ := g_bd h
      refine m_ald 63 dX2_draw_109 (by decide) rfl S hE hM e109 ?_
      refine lv_iconst (v := 2) hx hb dX2_draw_110 (by decide) ?_
      refine lv_idiv hx hb dX2_draw_111 (by decide) ?_
      refine lv_goto (tgt := 116) hx hb dX2_draw_112 (by decide) ?_
      exact J116 x1 x2 x3 s0 (v109 / 2) M _ _ _ h hM hS (lv_sub hl [1, 2, 3, 4, 0] rfl)
  have J61 : ∀ (x1 x2 s0 : Int32) (M : MM) (H : Heap) (locs : List Loc) (ls : Array Slot), mm_draw_J61 x1 x2 s0 M = some r → gM E M H → va_S (gx_A E) s.heap H locs → lv_has ls 6 [(0, .ref (gx_m E)), (1, .int x1), (2, .int x2)] → W p l e (gRm 2 0 0) s m args below meth c H locs 0 0 (MQ below (gQ (some (.int r)) (gM E M) (gx_A E)) args s 0 0 (gx_A E)) (F0 m 61 ls [.int s0]) := by
    intro x1 x2 s0 M H locs ls h hM hS hl
    unfold mm_draw_J61 at h
    refine lv_istore_n (lv' := [(3, .int s0), (0, .ref (gx_m E)), (1, .int x1), (2, .int x2)]) hx hb dX2_draw_61 rfl hl (by decide) rfl (fun ls hl => ?_)
    refine lv_aload_n hx hb dX2_draw_62 rfl (lv_at hl 1 rfl) ?_
    refine lv_iload_n hx hb dX2_draw_63 rfl (lv_at hl 2 rfl) ?_
    refine lv_bipush (v := 8) hx hb dX2_draw_64 (by decide) ?_
    obtain ⟨v66, e66, h⟩ := g_bd h
    refine m_cV (y := yX2_has) (rest := []) dX2_draw_66 q3212 q3214 qs89 q3215 hm_has S hE hM hS hl.1 rfl (wm_has E l _ _ _ _ e66) rfl (Nat.le_of_ble_eq_true rfl) ⟨Nat.le_of_ble_eq_true rfl, Nat.le_of_ble_eq_true rfl⟩ ⟨Nat.le_refl 0, Nat.le_refl 0⟩ (fun H locs hM hS => ?_)
    refine lv_if_eq (tgt := 91) hx hb dX2_draw_69 (by decide) (fun c69 => ?_) (fun c69 => ?_)
    · have h := g_it c69 h
      refine lv_iconst (v := 0) hx hb dX2_draw_91 (by decide) ?_
      exact J92 x1 x2 s0 0 M _ _ _ h hM hS (lv_sub hl [1, 2, 3, 0] rfl)
    · have h := g_if c69 h
      refine lv_aload_n hx hb dX2_draw_72 rfl (lv_at hl 1 rfl) ?_
      refine ma_glow dX2_draw_73 S hE hM ?_
      refine lv_iload_n hx hb dX2_draw_76 rfl (lv_at hl 2 rfl) ?_
      obtain ⟨v77, e77, h⟩ := g_bd h
      refine m_ald 62 dX2_draw_77 (by decide) rfl S hE hM e77 ?_
      refine lv_aload_n hx hb dX2_draw_78 rfl (lv_at hl 1 rfl) ?_
      refine ma_watts dX2_draw_79 S hE hM ?_
      refine lv_iload_n hx hb dX2_draw_82 rfl (lv_at hl 2 rfl) ?_
      obtain ⟨v83, e83, h⟩ := g_bd h
      refine m_ald 32 dX2_draw_83 (by decide) rfl S hE hM e83 ?_
      refine lv_imul hx hb dX2_draw_84 ?_
      refine lv_bipush (v := 100) hx hb dX2_draw_85 (by decide) ?_
      refine lv_idiv hx hb dX2_draw_87 (by decide) ?_
      refine lv_goto (tgt := 92) hx hb dX2_draw_88 (by decide) ?_
      exact J92 x1 x2 s0 ((v77 * v83) / 100) M _ _ _ h hM hS (lv_sub hl [1, 2, 3, 0] rfl)
  have J60 : ∀ (x1 x2 : Int32) (M : MM) (H : Heap) (locs : List Loc) (ls : Array Slot), mm_draw_J60 x1 x2 M = some r → gM E M H → va_S (gx_A E) s.heap H locs → lv_has ls 6 [(0, .ref (gx_m E)), (1, .int x1), (2, .int x2)] → W p l e (gRm 2 0 0) s m args below meth c H locs 0 0 (MQ below (gQ (some (.int r)) (gM E M) (gx_A E)) args s 0 0 (gx_A E)) (F0 m 60 ls []) := by
    intro x1 x2 M H locs ls h hM hS hl
    unfold mm_draw_J60 at h
    refine lv_iconst (v := 0) hx hb dX2_draw_60 (by decide) ?_
    exact J61 x1 x2 0 M _ _ _ h hM hS (lv_sub hl [0, 1, 2] rfl)
  have J32 : ∀ (x1 s0 : Int32) (M : MM) (H : Heap) (locs : List Loc) (ls : Array Slot), mm_draw_J32 x1 s0 M = some r → gM E M H → va_S (gx_A E) s.heap H locs → lv_has ls 6 [(0, .ref (gx_m E)), (1, .int x1)] → W p l e (gRm 2 0 0) s m args below meth c H locs 0 0 (MQ below (gQ (some (.int r)) (gM E M) (gx_A E)) args s 0 0 (gx_A E)) (F0 m 32 ls [.int s0]) := by
    intro x1 s0 M H locs ls h hM hS hl
    unfold mm_draw_J32 at h
    refine lv_istore_n (lv' := [(2, .int s0), (0, .ref (gx_m E)), (1, .int x1)]) hx hb dX2_draw_32 rfl hl (by decide) rfl (fun ls hl => ?_)
    refine lv_aload_n hx hb dX2_draw_33 rfl (lv_at hl 1 rfl) ?_
    refine lv_iload_n hx hb dX2_draw_34 rfl (lv_at hl 2 rfl) ?_
    refine lv_iconst (v := 2) hx hb dX2_draw_35 (by decide) ?_
    obtain ⟨v36, e36, h⟩ := g_bd h
    refine m_cV (y := yX2_has) (rest := []) dX2_draw_36 q3212 q3214 qs89 q3215 hm_has S hE hM hS hl.1 rfl (wm_has E l _ _ _ _ e36) rfl (Nat.le_of_ble_eq_true rfl) ⟨Nat.le_of_ble_eq_true rfl, Nat.le_of_ble_eq_true rfl⟩ ⟨Nat.le_refl 0, Nat.le_refl 0⟩ (fun H locs hM hS => ?_)
    refine lv_if_eq (tgt := 60) hx hb dX2_draw_39 (by decide) (fun c39 => ?_) (fun c39 => ?_)
    · have h := g_it c39 h
      exact J60 x1 s0 M _ _ _ h hM hS (lv_sub hl [1, 2, 0] rfl)
    · have h := g_if c39 h
      refine lv_aload_n hx hb dX2_draw_42 rfl (lv_at hl 1 rfl) ?_
      refine ma_moved dX2_draw_43 S hE hM ?_
      refine lv_iload_n hx hb dX2_draw_46 rfl (lv_at hl 2 rfl) ?_
      obtain ⟨v47, e47, h⟩ := g_bd h
      refine m_ald 60 dX2_draw_47 (by decide) rfl S hE hM e47 ?_
      refine lv_if_le (tgt := 60) hx hb dX2_draw_48 (by decide) (fun c48 => ?_) (fun c48 => ?_)
      · have h := g_it c48 h
        exact J60 x1 s0 M _ _ _ h hM hS (lv_sub hl [1, 2, 0] rfl)
      · have h := g_if c48 h
        refine lv_aload_n hx hb dX2_draw_51 rfl (lv_at hl 1 rfl) ?_
        refine ma_load dX2_draw_52 S hE hM ?_
        refine lv_iload_n hx hb dX2_draw_55 rfl (lv_at hl 2 rfl) ?_
        obtain ⟨v56, e56, h⟩ := g_bd h
        refine m_ald 29 dX2_draw_56 (by decide) rfl S hE hM e56 ?_
        refine lv_goto (tgt := 61) hx hb dX2_draw_57 (by decide) ?_
        exact J61 x1 s0 v56 M _ _ _ h hM hS (lv_sub hl [1, 2, 0] rfl)
  unfold mm_draw at h
  refine lv_aload_n hx hb dX2_draw_0 rfl (lv_at hl 0 rfl) ?_
  refine lv_iload_n hx hb dX2_draw_1 rfl (lv_at hl 1 rfl) ?_
  refine lv_iconst (v := 1) hx hb dX2_draw_2 (by decide) ?_
  obtain ⟨v3, e3, h⟩ := g_bd h
  refine m_cV (y := yX2_has) (rest := []) dX2_draw_3 q3212 q3214 qs89 q3215 hm_has S hE hM hS hl.1 rfl (wm_has E l _ _ _ _ e3) rfl (Nat.le_of_ble_eq_true rfl) ⟨Nat.le_of_ble_eq_true rfl, Nat.le_of_ble_eq_true rfl⟩ ⟨Nat.le_refl 0, Nat.le_refl 0⟩ (fun H locs hM hS => ?_)
  refine lv_if_eq (tgt := 31) hx hb dX2_draw_6 (by decide) (fun c6 => ?_) (fun c6 => ?_)
  · have h := g_it c6 h
    refine lv_iconst (v := 0) hx hb dX2_draw_31 (by decide) ?_
    exact J32 x1 0 M _ _ _ h hM hS (lv_sub hl [0, 1] rfl)
  · have h := g_if c6 h
    refine lv_aload_n hx hb dX2_draw_9 rfl (lv_at hl 0 rfl) ?_
    refine ma_speed dX2_draw_10 S hE hM ?_
    refine lv_iload_n hx hb dX2_draw_13 rfl (lv_at hl 1 rfl) ?_
    obtain ⟨v14, e14, h⟩ := g_bd h
    refine m_ald 56 dX2_draw_14 (by decide) rfl S hE hM e14 ?_
    refine lv_aload_n hx hb dX2_draw_15 rfl (lv_at hl 0 rfl) ?_
    refine ma_mass dX2_draw_16 S hE hM ?_
    refine lv_iload_n hx hb dX2_draw_19 rfl (lv_at hl 1 rfl) ?_
    obtain ⟨v20, e20, h⟩ := g_bd h
    refine m_ald 27 dX2_draw_20 (by decide) rfl S hE hM e20 ?_
    refine lv_imul hx hb dX2_draw_21 ?_
    obtain ⟨v22, e22, h⟩ := g_bd h
    refine m_cS (y := yX2_sizeOf) (rest := []) dX2_draw_22 q3319 q3320 q3321 hm_sizeOf S hE hM hS hl.1 rfl (wm_sizeOf E l _ _ _ e22) rfl (Nat.le_of_ble_eq_true rfl) ⟨Nat.le_of_ble_eq_true rfl, Nat.le_of_ble_eq_true rfl⟩ ⟨Nat.le_refl 0, Nat.le_refl 0⟩ (fun H locs hM hS => ?_)
    refine lv_bipush (v := 100) hx hb dX2_draw_25 (by decide) ?_
    refine lv_idiv hx hb dX2_draw_27 (by decide) ?_
    refine lv_goto (tgt := 32) hx hb dX2_draw_28 (by decide) ?_
    exact J32 x1 (v22 / 100) M _ _ _ h hM hS (lv_sub hl [0, 1] rfl)
