/-! walks of the model's methods: printed by mgen.py -/
set_option maxRecDepth 100000
theorem hm_ride : yX2_ride.cls = RX2 ∧ yX2_ride.cls ≠ "java/lang/invoke/MethodHandle" ∧ yX2_ride.cls ≠ "java/lang/invoke/VarHandle" ∧ (parseMethodDescriptor yX2_ride.desc).map (fun d => d.parameters.length) = some 0 := by decide +kernel
set_option maxHeartbeats 4000000 in
set_option maxRecDepth 100000 in
theorem wm_ride (E : gX) (l : Launch) (M M' : MM) (h : mm_ride M = some M') : gMet E l yX2_ride cX2_ride 3 none 137 0 0 (gx_A E) [.ref (gx_m E)] (gM E M) (gM E M') none := by
  refine gMet.of (own := RX2) (by decide +kernel) (Nat.le_of_ble_eq_true rfl) rfl ?_
  intro p e s m args below meth c S hr hk hnm hE hM hS ls hl
  have hl : lv_has ls 3 [(0, .ref (gx_m E))] := hl
  have hx := S.1
  have hb := S.2.1
  have J41 : ∀ (M : MM) (H : Heap) (locs : List Loc) (ls : Array Slot), mm_ride_J41 M = some M' → gM E M H → va_S (gx_A E) s.heap H locs → lv_has ls 3 [(0, .ref (gx_m E))] → W p l e (gRm 137 0 0) s m args below meth c H locs 0 0 (MQ below (gQ none (gM E M') (gx_A E)) args s 0 0 (gx_A E)) (F0 m 41 ls []) := by
    intro M H locs ls h hM hS hl
    unfold mm_ride_J41 at h
    refine lv_aload_n hx hb dX2_ride_41 rfl (lv_at hl 0 rfl) ?_
    refine lv_iconst (v := 1) hx hb dX2_ride_42 (by decide) ?_
    refine lv_aload_n hx hb dX2_ride_43 rfl (lv_at hl 0 rfl) ?_
    refine mg_begins dX2_ride_44 S hE hM ?_
    obtain ⟨M47, e47, h⟩ := g_bd h
    refine m_cV (y := yX2_wrong) (rest := []) dX2_ride_47 q3089 q3091 qs63 q3092 hm_wrong S hE hM hS hl.1 rfl (wm_wrong E l _ _ _ _ e47) rfl (Nat.le_of_ble_eq_true rfl) ⟨Nat.le_of_ble_eq_true rfl, Nat.le_of_ble_eq_true rfl⟩ ⟨Nat.le_refl 0, Nat.le_refl 0⟩ (fun H locs hM hS => ?_)
    exact m_vretW dX2_ride_50 S hr hk hM hS h
  have J288 : ∀ (x1 : Int32) (M : MM) (H : Heap) (locs : List Loc) (ls : Array Slot), mm_ride_J288 x1 M = some M' → gM E M H → va_S (gx_A E) s.heap H locs → lv_has ls 3 [(0, .ref (gx_m E)), (1, .int x1)] → W p l e (gRm 137 0 0) s m args below meth c H locs 0 0 (MQ below (gQ none (gM E M') (gx_A E)) args s 0 0 (gx_A E)) (F0 m 288 ls []) := by
    intro x1 M H locs ls h hM hS hl
    unfold mm_ride_J288 at h
    refine lv_aload_n hx hb dX2_ride_288 rfl (lv_at hl 0 rfl) ?_
    refine mg_fault dX2_ride_289 S hE hM ?_
    refine lv_if_eq (tgt := 296) hx hb dX2_ride_292 (by decide) (fun c292 => ?_) (fun c292 => ?_)
    · have h := g_it c292 h
      refine lv_aload_n hx hb dX2_ride_296 rfl (lv_at hl 0 rfl) ?_
      refine lv_dup hx hb dX2_ride_297 rfl ?_
      refine mg_rides dX2_ride_298 S hE hM ?_
      refine lv_iconst (v := 1) hx hb dX2_ride_301 (by decide) ?_
      refine lv_iadd hx hb dX2_ride_302 ?_
      obtain ⟨M303, e303, h⟩ := g_bd h
      refine mp_rides dX2_ride_303 S hE hM hS e303 (fun H locs hM hS => ?_)
      refine lv_aload_n hx hb dX2_ride_306 rfl (lv_at hl 0 rfl) ?_
      refine lv_iload_n hx hb dX2_ride_307 rfl (lv_at hl 1 rfl) ?_
      obtain ⟨M308, e308, h⟩ := g_bd h
      refine mp_reads dX2_ride_308 S hE hM hS e308 (fun H locs hM hS => ?_)
      refine lv_aload_n hx hb dX2_ride_311 rfl (lv_at hl 0 rfl) ?_
      refine lv_iconst (v := 0) hx hb dX2_ride_312 (by decide) ?_
      obtain ⟨M313, e313, h⟩ := g_bd h
      refine mp_steps dX2_ride_313 S hE hM hS e313 (fun H locs hM hS => ?_)
      refine lv_aload_n hx hb dX2_ride_316 rfl (lv_at hl 0 rfl) ?_
      refine lv_iconst (v := (-1)) hx hb dX2_ride_317 (by decide) ?_
      obtain ⟨M318, e318, h⟩ := g_bd h
      refine mp_loop dX2_ride_318 S hE hM hS e318 (fun H locs hM hS => ?_)
      refine lv_aload_n hx hb dX2_ride_321 rfl (lv_at hl 0 rfl) ?_
      refine ma_start dX2_ride_322 S hE hM ?_
      refine lv_iload_n hx hb dX2_ride_325 rfl (lv_at hl 1 rfl) ?_
      refine lv_aload_n hx hb dX2_ride_326 rfl (lv_at hl 0 rfl) ?_
      refine mg_ops dX2_ride_327 S hE hM ?_
      obtain ⟨M330, e330, h⟩ := g_bd h
      refine m_ast 33 dX2_ride_330 (by decide) rfl S hE hM hS e330 (fun H locs hM hS => ?_)
      refine lv_aload_n hx hb dX2_ride_331 rfl (lv_at hl 0 rfl) ?_
      refine lv_iconst (v := 1) hx hb dX2_ride_332 (by decide) ?_
      refine lv_iconst (v := (-1)) hx hb dX2_ride_333 (by decide) ?_
      obtain ⟨q334, e334, h⟩ := g_bd h
      refine m_cV (y := yX2_block) (rest := []) dX2_ride_334 q3117 q3119 qs70 q3120 hm_block S hE hM hS hl.1 rfl (wm_block E l 60 _ _ _ _ _ e334) rfl (Nat.le_of_ble_eq_true rfl) ⟨Nat.le_of_ble_eq_true rfl, Nat.le_of_ble_eq_true rfl⟩ ⟨Nat.le_refl 0, Nat.le_refl 0⟩ (fun H locs hM hS => ?_)
      refine lv_if_eq (tgt := 355) hx hb dX2_ride_337 (by decide) (fun c337 => ?_) (fun c337 => ?_)
      · have h := g_it c337 h
        exact m_vretW dX2_ride_355 S hr hk hM hS h
      · have h := g_if c337 h
        refine lv_aload_n hx hb dX2_ride_340 rfl (lv_at hl 0 rfl) ?_
        refine lv_bipush (v := 54) hx hb dX2_ride_341 (by decide) ?_
        refine lv_aload_n hx hb dX2_ride_343 rfl (lv_at hl 0 rfl) ?_
        refine mg_begins dX2_ride_344 S hE hM ?_
        refine lv_iconst (v := 0) hx hb dX2_ride_347 (by decide) ?_
        refine lv_iconst (v := 0) hx hb dX2_ride_348 (by decide) ?_
        refine lv_iconst (v := 0) hx hb dX2_ride_349 (by decide) ?_
        refine lv_iconst (v := (-1)) hx hb dX2_ride_350 (by decide) ?_
        obtain ⟨q351, e351, h⟩ := g_bd h
        refine m_cV (y := yX2_newOp) (rest := []) dX2_ride_351 q3172 q3174 qs83 q3175 hm_newOp S hE hM hS hl.1 rfl (wm_newOp E l _ _ _ _ _ _ _ _ _ e351) rfl (Nat.le_of_ble_eq_true rfl) ⟨Nat.le_of_ble_eq_true rfl, Nat.le_of_ble_eq_true rfl⟩ ⟨Nat.le_refl 0, Nat.le_refl 0⟩ (fun H locs hM hS => ?_)
        refine lv_pop hx hb dX2_ride_354 rfl ?_
        exact m_vretW dX2_ride_355 S hr hk hM hS h
    · have h := g_if c292 h
      exact m_vretW dX2_ride_295 S hr hk hM hS h
  have J257 : ∀ (x1 s1 s2 : Int32) (M : MM) (H : Heap) (locs : List Loc) (ls : Array Slot), mm_ride_J257 x1 s1 s2 M = some M' → gM E M H → va_S (gx_A E) s.heap H locs → lv_has ls 3 [(0, .ref (gx_m E)), (1, .int x1)] → W p l e (gRm 137 0 0) s m args below meth c H locs 0 0 (MQ below (gQ none (gM E M') (gx_A E)) args s 0 0 (gx_A E)) (F0 m 257 ls [.int s2, .int s1, .ref (gx_m E + mOff 32)]) := by
    intro x1 s1 s2 M H locs ls h hM hS hl
    unfold mm_ride_J257 at h
    obtain ⟨M257, e257, h⟩ := g_bd h
    refine m_ast 32 dX2_ride_257 (by decide) rfl S hE hM hS e257 (fun H locs hM hS => ?_)
    refine lv_aload_n hx hb dX2_ride_258 rfl (lv_at hl 0 rfl) ?_
    refine ma_leader dX2_ride_259 S hE hM ?_
    refine lv_iload_n hx hb dX2_ride_262 rfl (lv_at hl 1 rfl) ?_
    refine lv_iconst (v := (-1)) hx hb dX2_ride_263 (by decide) ?_
    obtain ⟨M264, e264, h⟩ := g_bd h
    refine m_ast 26 dX2_ride_264 (by decide) rfl S hE hM hS e264 (fun H locs hM hS => ?_)
    refine lv_aload_n hx hb dX2_ride_265 rfl (lv_at hl 0 rfl) ?_
    refine mg_fault dX2_ride_266 S hE hM ?_
    refine lv_if_ne (tgt := 288) hx hb dX2_ride_269 (by decide) (fun c269 => ?_) (fun c269 => ?_)
    · have h := g_if c269 h
      exact J288 x1 M264 _ _ _ h hM hS (lv_sub hl [0, 1] rfl)
    · have h := g_it c269 h
      refine lv_aload_n hx hb dX2_ride_272 rfl (lv_at hl 0 rfl) ?_
      refine ma_kind dX2_ride_273 S hE hM ?_
      refine lv_iload_n hx hb dX2_ride_276 rfl (lv_at hl 1 rfl) ?_
      obtain ⟨v277, e277, h⟩ := g_bd h
      refine m_ald 25 dX2_ride_277 (by decide) rfl S hE hM e277 ?_
      refine lv_bipush (v := 8) hx hb dX2_ride_278 (by decide) ?_
      refine lv_icmp_ne (tgt := 288) hx hb dX2_ride_280 (by decide) (fun c280 => ?_) (fun c280 => ?_)
      · have h := g_if c280 h
        exact J288 x1 M264 _ _ _ h hM hS (lv_sub hl [0, 1] rfl)
      · have h := g_it c280 h
        refine lv_aload_n hx hb dX2_ride_283 rfl (lv_at hl 0 rfl) ?_
        refine lv_iload_n hx hb dX2_ride_284 rfl (lv_at hl 1 rfl) ?_
        obtain ⟨M285, e285, h⟩ := g_bd h
        refine m_cV (y := yX2_lead) (rest := []) dX2_ride_285 q3109 q3111 qs68 q3112 hm_lead S hE hM hS hl.1 rfl (wm_lead E l _ _ _ e285) rfl (Nat.le_of_ble_eq_true rfl) ⟨Nat.le_of_ble_eq_true rfl, Nat.le_of_ble_eq_true rfl⟩ ⟨Nat.le_refl 0, Nat.le_refl 0⟩ (fun H locs hM hS => ?_)
        exact J288 x1 M285 _ _ _ h hM hS (lv_sub hl [0, 1] rfl)
  have J256 : ∀ (x1 s1 : Int32) (M : MM) (H : Heap) (locs : List Loc) (ls : Array Slot), mm_ride_J256 x1 s1 M = some M' → gM E M H → va_S (gx_A E) s.heap H locs → lv_has ls 3 [(0, .ref (gx_m E)), (1, .int x1)] → W p l e (gRm 137 0 0) s m args below meth c H locs 0 0 (MQ below (gQ none (gM E M') (gx_A E)) args s 0 0 (gx_A E)) (F0 m 256 ls [.int s1, .ref (gx_m E + mOff 32)]) := by
    intro x1 s1 M H locs ls h hM hS hl
    unfold mm_ride_J256 at h
    refine lv_iconst (v := 0) hx hb dX2_ride_256 (by decide) ?_
    exact J257 x1 s1 0 M _ _ _ h hM hS (lv_sub hl [0, 1] rfl)
  have J225 : ∀ (x1 x2 s1 s2 : Int32) (M : MM) (H : Heap) (locs : List Loc) (ls : Array Slot), mm_ride_J225 x1 x2 s1 s2 M = some M' → gM E M H → va_S (gx_A E) s.heap H locs → lv_has ls 3 [(0, .ref (gx_m E)), (1, .int x1), (2, .int x2)] → W p l e (gRm 137 0 0) s m args below meth c H locs 0 0 (MQ below (gQ none (gM E M') (gx_A E)) args s 0 0 (gx_A E)) (F0 m 225 ls [.int s2, .int s1, .ref (gx_m E + mOff 31)]) := by
    intro x1 x2 s1 s2 M H locs ls h hM hS hl
    unfold mm_ride_J225 at h
    obtain ⟨M225, e225, h⟩ := g_bd h
    refine m_ast 31 dX2_ride_225 (by decide) rfl S hE hM hS e225 (fun H locs hM hS => ?_)
    refine lv_aload_n hx hb dX2_ride_226 rfl (lv_at hl 0 rfl) ?_
    refine ma_watts dX2_ride_227 S hE hM ?_
    refine lv_iload_n hx hb dX2_ride_230 rfl (lv_at hl 1 rfl) ?_
    refine lv_aload_n hx hb dX2_ride_231 rfl (lv_at hl 0 rfl) ?_
    refine mg_fault dX2_ride_232 S hE hM ?_
    refine lv_if_ne (tgt := 256) hx hb dX2_ride_235 (by decide) (fun c235 => ?_) (fun c235 => ?_)
    · have h := g_if c235 h
      exact J256 x1 x1 M225 _ _ _ h hM hS (lv_sub hl [0, 1] rfl)
    · have h := g_it c235 h
      refine lv_iload_n hx hb dX2_ride_238 rfl (lv_at hl 2 rfl) ?_
      refine lv_bipush (v := 8) hx hb dX2_ride_239 (by decide) ?_
      refine lv_iand hx hb dX2_ride_241 ?_
      refine lv_if_eq (tgt := 256) hx hb dX2_ride_242 (by decide) (fun c242 => ?_) (fun c242 => ?_)
      · have h := g_it c242 h
        exact J256 x1 x1 M225 _ _ _ h hM hS (lv_sub hl [0, 1] rfl)
      · have h := g_if c242 h
        refine lv_aload_n hx hb dX2_ride_245 rfl (lv_at hl 0 rfl) ?_
        refine lv_iconst (v := 1) hx hb dX2_ride_246 (by decide) ?_
        refine lv_sipush (v := 500) hx hb dX2_ride_247 (by decide) ?_
        obtain ⟨q250, e250, h⟩ := g_bd h
        refine m_cV (y := yX2_numberIn) (rest := [.int x1, .ref (gx_m E + mOff 32)]) dX2_ride_250 q3093 q3095 qs64 q3096 hm_numberIn S hE hM hS hl.1 rfl (wm_numberIn E l _ _ _ _ _ e250) rfl (Nat.le_of_ble_eq_true rfl) ⟨Nat.le_of_ble_eq_true rfl, Nat.le_of_ble_eq_true rfl⟩ ⟨Nat.le_refl 0, Nat.le_refl 0⟩ (fun H locs hM hS => ?_)
        refine lv_goto (tgt := 257) hx hb dX2_ride_253 (by decide) ?_
        exact J257 x1 x1 q250.1 q250.2 _ _ _ h hM hS (lv_sub hl [0, 1] rfl)
  have J224 : ∀ (x1 x2 s1 : Int32) (M : MM) (H : Heap) (locs : List Loc) (ls : Array Slot), mm_ride_J224 x1 x2 s1 M = some M' → gM E M H → va_S (gx_A E) s.heap H locs → lv_has ls 3 [(0, .ref (gx_m E)), (1, .int x1), (2, .int x2)] → W p l e (gRm 137 0 0) s m args below meth c H locs 0 0 (MQ below (gQ none (gM E M') (gx_A E)) args s 0 0 (gx_A E)) (F0 m 224 ls [.int s1, .ref (gx_m E + mOff 31)]) := by
    intro x1 x2 s1 M H locs ls h hM hS hl
    unfold mm_ride_J224 at h
    refine lv_iconst (v := 0) hx hb dX2_ride_224 (by decide) ?_
    exact J225 x1 x2 s1 0 M _ _ _ h hM hS (lv_sub hl [0, 1, 2] rfl)
  have J195 : ∀ (x1 x2 s1 s2 : Int32) (M : MM) (H : Heap) (locs : List Loc) (ls : Array Slot), mm_ride_J195 x1 x2 s1 s2 M = some M' → gM E M H → va_S (gx_A E) s.heap H locs → lv_has ls 3 [(0, .ref (gx_m E)), (1, .int x1), (2, .int x2)] → W p l e (gRm 137 0 0) s m args below meth c H locs 0 0 (MQ below (gQ none (gM E M') (gx_A E)) args s 0 0 (gx_A E)) (F0 m 195 ls [.int s2, .int s1, .ref (gx_m E + mOff 30)]) := by
    intro x1 x2 s1 s2 M H locs ls h hM hS hl
    unfold mm_ride_J195 at h
    obtain ⟨M195, e195, h⟩ := g_bd h
    refine m_ast 30 dX2_ride_195 (by decide) rfl S hE hM hS e195 (fun H locs hM hS => ?_)
    refine lv_aload_n hx hb dX2_ride_196 rfl (lv_at hl 0 rfl) ?_
    refine ma_places dX2_ride_197 S hE hM ?_
    refine lv_iload_n hx hb dX2_ride_200 rfl (lv_at hl 1 rfl) ?_
    refine lv_aload_n hx hb dX2_ride_201 rfl (lv_at hl 0 rfl) ?_
    refine mg_fault dX2_ride_202 S hE hM ?_
    refine lv_if_ne (tgt := 224) hx hb dX2_ride_205 (by decide) (fun c205 => ?_) (fun c205 => ?_)
    · have h := g_if c205 h
      exact J224 x1 x2 x1 M195 _ _ _ h hM hS (lv_sub hl [0, 1, 2] rfl)
    · have h := g_it c205 h
      refine lv_iload_n hx hb dX2_ride_208 rfl (lv_at hl 2 rfl) ?_
      refine lv_iconst (v := 4) hx hb dX2_ride_209 (by decide) ?_
      refine lv_iand hx hb dX2_ride_210 ?_
      refine lv_if_eq (tgt := 224) hx hb dX2_ride_211 (by decide) (fun c211 => ?_) (fun c211 => ?_)
      · have h := g_it c211 h
        exact J224 x1 x2 x1 M195 _ _ _ h hM hS (lv_sub hl [0, 1, 2] rfl)
      · have h := g_if c211 h
        refine lv_aload_n hx hb dX2_ride_214 rfl (lv_at hl 0 rfl) ?_
        refine lv_iconst (v := 1) hx hb dX2_ride_215 (by decide) ?_
        refine lv_bipush (v := 60) hx hb dX2_ride_216 (by decide) ?_
        obtain ⟨q218, e218, h⟩ := g_bd h
        refine m_cV (y := yX2_numberIn) (rest := [.int x1, .ref (gx_m E + mOff 31)]) dX2_ride_218 q3093 q3095 qs64 q3096 hm_numberIn S hE hM hS hl.1 rfl (wm_numberIn E l _ _ _ _ _ e218) rfl (Nat.le_of_ble_eq_true rfl) ⟨Nat.le_of_ble_eq_true rfl, Nat.le_of_ble_eq_true rfl⟩ ⟨Nat.le_refl 0, Nat.le_refl 0⟩ (fun H locs hM hS => ?_)
        refine lv_goto (tgt := 225) hx hb dX2_ride_221 (by decide) ?_
        exact J225 x1 x2 x1 q218.1 q218.2 _ _ _ h hM hS (lv_sub hl [0, 1, 2] rfl)
  have J194 : ∀ (x1 x2 s1 : Int32) (M : MM) (H : Heap) (locs : List Loc) (ls : Array Slot), mm_ride_J194 x1 x2 s1 M = some M' → gM E M H → va_S (gx_A E) s.heap H locs → lv_has ls 3 [(0, .ref (gx_m E)), (1, .int x1), (2, .int x2)] → W p l e (gRm 137 0 0) s m args below meth c H locs 0 0 (MQ below (gQ none (gM E M') (gx_A E)) args s 0 0 (gx_A E)) (F0 m 194 ls [.int s1, .ref (gx_m E + mOff 30)]) := by
    intro x1 x2 s1 M H locs ls h hM hS hl
    unfold mm_ride_J194 at h
    refine lv_iconst (v := 0) hx hb dX2_ride_194 (by decide) ?_
    exact J195 x1 x2 s1 0 M _ _ _ h hM hS (lv_sub hl [0, 1, 2] rfl)
  have J164 : ∀ (x1 x2 s1 s2 : Int32) (M : MM) (H : Heap) (locs : List Loc) (ls : Array Slot), mm_ride_J164 x1 x2 s1 s2 M = some M' → gM E M H → va_S (gx_A E) s.heap H locs → lv_has ls 3 [(0, .ref (gx_m E)), (1, .int x1), (2, .int x2)] → W p l e (gRm 137 0 0) s m args below meth c H locs 0 0 (MQ below (gQ none (gM E M') (gx_A E)) args s 0 0 (gx_A E)) (F0 m 164 ls [.int s2, .int s1, .ref (gx_m E + mOff 29)]) := by
    intro x1 x2 s1 s2 M H locs ls h hM hS hl
    unfold mm_ride_J164 at h
    obtain ⟨M164, e164, h⟩ := g_bd h
    refine m_ast 29 dX2_ride_164 (by decide) rfl S hE hM hS e164 (fun H locs hM hS => ?_)
    refine lv_aload_n hx hb dX2_ride_165 rfl (lv_at hl 0 rfl) ?_
    refine ma_pace dX2_ride_166 S hE hM ?_
    refine lv_iload_n hx hb dX2_ride_169 rfl (lv_at hl 1 rfl) ?_
    refine lv_aload_n hx hb dX2_ride_170 rfl (lv_at hl 0 rfl) ?_
    refine mg_fault dX2_ride_171 S hE hM ?_
    refine lv_if_ne (tgt := 194) hx hb dX2_ride_174 (by decide) (fun c174 => ?_) (fun c174 => ?_)
    · have h := g_if c174 h
      exact J194 x1 x2 x1 M164 _ _ _ h hM hS (lv_sub hl [0, 1, 2] rfl)
    · have h := g_it c174 h
      refine lv_iload_n hx hb dX2_ride_177 rfl (lv_at hl 2 rfl) ?_
      refine lv_iconst (v := 2) hx hb dX2_ride_178 (by decide) ?_
      refine lv_iand hx hb dX2_ride_179 ?_
      refine lv_if_eq (tgt := 194) hx hb dX2_ride_180 (by decide) (fun c180 => ?_) (fun c180 => ?_)
      · have h := g_it c180 h
        exact J194 x1 x2 x1 M164 _ _ _ h hM hS (lv_sub hl [0, 1, 2] rfl)
      · have h := g_if c180 h
        refine lv_aload_n hx hb dX2_ride_183 rfl (lv_at hl 0 rfl) ?_
        refine lv_iconst (v := 1) hx hb dX2_ride_184 (by decide) ?_
        refine lv_sipush (v := 200) hx hb dX2_ride_185 (by decide) ?_
        obtain ⟨q188, e188, h⟩ := g_bd h
        refine m_cV (y := yX2_numberIn) (rest := [.int x1, .ref (gx_m E + mOff 30)]) dX2_ride_188 q3093 q3095 qs64 q3096 hm_numberIn S hE hM hS hl.1 rfl (wm_numberIn E l _ _ _ _ _ e188) rfl (Nat.le_of_ble_eq_true rfl) ⟨Nat.le_of_ble_eq_true rfl, Nat.le_of_ble_eq_true rfl⟩ ⟨Nat.le_refl 0, Nat.le_refl 0⟩ (fun H locs hM hS => ?_)
        refine lv_goto (tgt := 195) hx hb dX2_ride_191 (by decide) ?_
        exact J195 x1 x2 x1 q188.1 q188.2 _ _ _ h hM hS (lv_sub hl [0, 1, 2] rfl)
  have J163 : ∀ (x1 x2 s1 : Int32) (M : MM) (H : Heap) (locs : List Loc) (ls : Array Slot), mm_ride_J163 x1 x2 s1 M = some M' → gM E M H → va_S (gx_A E) s.heap H locs → lv_has ls 3 [(0, .ref (gx_m E)), (1, .int x1), (2, .int x2)] → W p l e (gRm 137 0 0) s m args below meth c H locs 0 0 (MQ below (gQ none (gM E M') (gx_A E)) args s 0 0 (gx_A E)) (F0 m 163 ls [.int s1, .ref (gx_m E + mOff 29)]) := by
    intro x1 x2 s1 M H locs ls h hM hS hl
    unfold mm_ride_J163 at h
    refine lv_iconst (v := 0) hx hb dX2_ride_163 (by decide) ?_
    exact J164 x1 x2 s1 0 M _ _ _ h hM hS (lv_sub hl [0, 1, 2] rfl)
  have J133 : ∀ (x1 x2 s1 s2 : Int32) (M : MM) (H : Heap) (locs : List Loc) (ls : Array Slot), mm_ride_J133 x1 x2 s1 s2 M = some M' → gM E M H → va_S (gx_A E) s.heap H locs → lv_has ls 3 [(0, .ref (gx_m E)), (1, .int x1), (2, .int x2)] → W p l e (gRm 137 0 0) s m args below meth c H locs 0 0 (MQ below (gQ none (gM E M') (gx_A E)) args s 0 0 (gx_A E)) (F0 m 133 ls [.int s2, .int s1, .ref (gx_m E + mOff 28)]) := by
    intro x1 x2 s1 s2 M H locs ls h hM hS hl
    unfold mm_ride_J133 at h
    obtain ⟨M133, e133, h⟩ := g_bd h
    refine m_ast 28 dX2_ride_133 (by decide) rfl S hE hM hS e133 (fun H locs hM hS => ?_)
    refine lv_aload_n hx hb dX2_ride_134 rfl (lv_at hl 0 rfl) ?_
    refine ma_load dX2_ride_135 S hE hM ?_
    refine lv_iload_n hx hb dX2_ride_138 rfl (lv_at hl 1 rfl) ?_
    refine lv_aload_n hx hb dX2_ride_139 rfl (lv_at hl 0 rfl) ?_
    refine mg_fault dX2_ride_140 S hE hM ?_
    refine lv_if_ne (tgt := 163) hx hb dX2_ride_143 (by decide) (fun c143 => ?_) (fun c143 => ?_)
    · have h := g_if c143 h
      exact J163 x1 x2 x1 M133 _ _ _ h hM hS (lv_sub hl [0, 1, 2] rfl)
    · have h := g_it c143 h
      refine lv_iload_n hx hb dX2_ride_146 rfl (lv_at hl 2 rfl) ?_
      refine lv_iconst (v := 2) hx hb dX2_ride_147 (by decide) ?_
      refine lv_iand hx hb dX2_ride_148 ?_
      refine lv_if_eq (tgt := 163) hx hb dX2_ride_149 (by decide) (fun c149 => ?_) (fun c149 => ?_)
      · have h := g_it c149 h
        exact J163 x1 x2 x1 M133 _ _ _ h hM hS (lv_sub hl [0, 1, 2] rfl)
      · have h := g_if c149 h
        refine lv_aload_n hx hb dX2_ride_152 rfl (lv_at hl 0 rfl) ?_
        refine lv_iconst (v := 1) hx hb dX2_ride_153 (by decide) ?_
        refine lv_sipush (v := 500) hx hb dX2_ride_154 (by decide) ?_
        obtain ⟨q157, e157, h⟩ := g_bd h
        refine m_cV (y := yX2_numberIn) (rest := [.int x1, .ref (gx_m E + mOff 29)]) dX2_ride_157 q3093 q3095 qs64 q3096 hm_numberIn S hE hM hS hl.1 rfl (wm_numberIn E l _ _ _ _ _ e157) rfl (Nat.le_of_ble_eq_true rfl) ⟨Nat.le_of_ble_eq_true rfl, Nat.le_of_ble_eq_true rfl⟩ ⟨Nat.le_refl 0, Nat.le_refl 0⟩ (fun H locs hM hS => ?_)
        refine lv_goto (tgt := 164) hx hb dX2_ride_160 (by decide) ?_
        exact J164 x1 x2 x1 q157.1 q157.2 _ _ _ h hM hS (lv_sub hl [0, 1, 2] rfl)
  have J132 : ∀ (x1 x2 s1 : Int32) (M : MM) (H : Heap) (locs : List Loc) (ls : Array Slot), mm_ride_J132 x1 x2 s1 M = some M' → gM E M H → va_S (gx_A E) s.heap H locs → lv_has ls 3 [(0, .ref (gx_m E)), (1, .int x1), (2, .int x2)] → W p l e (gRm 137 0 0) s m args below meth c H locs 0 0 (MQ below (gQ none (gM E M') (gx_A E)) args s 0 0 (gx_A E)) (F0 m 132 ls [.int s1, .ref (gx_m E + mOff 28)]) := by
    intro x1 x2 s1 M H locs ls h hM hS hl
    unfold mm_ride_J132 at h
    refine lv_iconst (v := 0) hx hb dX2_ride_132 (by decide) ?_
    exact J133 x1 x2 s1 0 M _ _ _ h hM hS (lv_sub hl [0, 1, 2] rfl)
  have J103 : ∀ (x1 x2 s1 s2 : Int32) (M : MM) (H : Heap) (locs : List Loc) (ls : Array Slot), mm_ride_J103 x1 x2 s1 s2 M = some M' → gM E M H → va_S (gx_A E) s.heap H locs → lv_has ls 3 [(0, .ref (gx_m E)), (1, .int x1), (2, .int x2)] → W p l e (gRm 137 0 0) s m args below meth c H locs 0 0 (MQ below (gQ none (gM E M') (gx_A E)) args s 0 0 (gx_A E)) (F0 m 103 ls [.int s2, .int s1, .ref (gx_m E + mOff 27)]) := by
    intro x1 x2 s1 s2 M H locs ls h hM hS hl
    unfold mm_ride_J103 at h
    obtain ⟨M103, e103, h⟩ := g_bd h
    refine m_ast 27 dX2_ride_103 (by decide) rfl S hE hM hS e103 (fun H locs hM hS => ?_)
    refine lv_aload_n hx hb dX2_ride_104 rfl (lv_at hl 0 rfl) ?_
    refine ma_accel dX2_ride_105 S hE hM ?_
    refine lv_iload_n hx hb dX2_ride_108 rfl (lv_at hl 1 rfl) ?_
    refine lv_aload_n hx hb dX2_ride_109 rfl (lv_at hl 0 rfl) ?_
    refine mg_fault dX2_ride_110 S hE hM ?_
    refine lv_if_ne (tgt := 132) hx hb dX2_ride_113 (by decide) (fun c113 => ?_) (fun c113 => ?_)
    · have h := g_if c113 h
      exact J132 x1 x2 x1 M103 _ _ _ h hM hS (lv_sub hl [0, 1, 2] rfl)
    · have h := g_it c113 h
      refine lv_iload_n hx hb dX2_ride_116 rfl (lv_at hl 2 rfl) ?_
      refine lv_iconst (v := 1) hx hb dX2_ride_117 (by decide) ?_
      refine lv_iand hx hb dX2_ride_118 ?_
      refine lv_if_eq (tgt := 132) hx hb dX2_ride_119 (by decide) (fun c119 => ?_) (fun c119 => ?_)
      · have h := g_it c119 h
        exact J132 x1 x2 x1 M103 _ _ _ h hM hS (lv_sub hl [0, 1, 2] rfl)
      · have h := g_if c119 h
        refine lv_aload_n hx hb dX2_ride_122 rfl (lv_at hl 0 rfl) ?_
        refine lv_iconst (v := 1) hx hb dX2_ride_123 (by decide) ?_
        refine lv_bipush (v := 50) hx hb dX2_ride_124 (by decide) ?_
        obtain ⟨q126, e126, h⟩ := g_bd h
        refine m_cV (y := yX2_numberIn) (rest := [.int x1, .ref (gx_m E + mOff 28)]) dX2_ride_126 q3093 q3095 qs64 q3096 hm_numberIn S hE hM hS hl.1 rfl (wm_numberIn E l _ _ _ _ _ e126) rfl (Nat.le_of_ble_eq_true rfl) ⟨Nat.le_of_ble_eq_true rfl, Nat.le_of_ble_eq_true rfl⟩ ⟨Nat.le_refl 0, Nat.le_refl 0⟩ (fun H locs hM hS => ?_)
        refine lv_goto (tgt := 133) hx hb dX2_ride_129 (by decide) ?_
        exact J133 x1 x2 x1 q126.1 q126.2 _ _ _ h hM hS (lv_sub hl [0, 1, 2] rfl)
  unfold mm_ride at h
  refine lv_aload_n hx hb dX2_ride_0 rfl (lv_at hl 0 rfl) ?_
  refine mg_rides dX2_ride_1 S hE hM ?_
  refine lv_istore_n (lv' := [(1, .int (M 20 0)), (0, .ref (gx_m E))]) hx hb dX2_ride_4 rfl hl (by decide) rfl (fun ls hl => ?_)
  refine lv_aload_n hx hb dX2_ride_5 rfl (lv_at hl 1 rfl) ?_
  refine lv_iconst (v := 3) hx hb dX2_ride_6 (by decide) ?_
  refine lv_iload_n hx hb dX2_ride_7 rfl (lv_at hl 0 rfl) ?_
  obtain ⟨q8, e8, h⟩ := g_bd h
  refine m_cV (y := yX2_newName) (rest := []) dX2_ride_8 q3097 q3099 qs65 q3100 hm_newName S hE hM hS hl.1 rfl (wm_newName E l _ _ _ _ _ e8) rfl (Nat.le_of_ble_eq_true rfl) ⟨Nat.le_of_ble_eq_true rfl, Nat.le_of_ble_eq_true rfl⟩ ⟨Nat.le_refl 0, Nat.le_refl 0⟩ (fun H locs hM hS => ?_)
  refine lv_if_ne (tgt := 15) hx hb dX2_ride_11 (by decide) (fun c11 => ?_) (fun c11 => ?_)
  · have h := g_if c11 h
    refine lv_aload_n hx hb dX2_ride_15 rfl (lv_at hl 1 rfl) ?_
    refine mg_token dX2_ride_16 S hE hM ?_
    refine lv_iconst (v := 1) hx hb dX2_ride_19 (by decide) ?_
    refine lv_icmp_ne (tgt := 41) hx hb dX2_ride_20 (by decide) (fun c20 => ?_) (fun c20 => ?_)
    · have h := g_if c20 h
      exact J41 q8.2 _ _ _ h hM hS (lv_sub hl [1] rfl)
    · have h := g_it c20 h
      refine lv_aload_n hx hb dX2_ride_23 rfl (lv_at hl 1 rfl) ?_
      refine mg_word dX2_ride_24 S hE hM ?_
      refine lv_bipush (v := 23) hx hb dX2_ride_27 (by decide) ?_
      refine lv_icmp_lt (tgt := 41) hx hb dX2_ride_29 (by decide) (fun c29 => ?_) (fun c29 => ?_)
      · have h := g_it c29 h
        exact J41 q8.2 _ _ _ h hM hS (lv_sub hl [1] rfl)
      · have h := g_if c29 h
        refine lv_aload_n hx hb dX2_ride_32 rfl (lv_at hl 1 rfl) ?_
        refine mg_word dX2_ride_33 S hE hM ?_
        refine lv_bipush (v := 31) hx hb dX2_ride_36 (by decide) ?_
        refine lv_icmp_le (tgt := 51) hx hb dX2_ride_38 (by decide) (fun c38 => ?_) (fun c38 => ?_)
        · have h := g_it c38 h
          refine lv_aload_n hx hb dX2_ride_51 rfl (lv_at hl 1 rfl) ?_
          refine ma_kind dX2_ride_52 S hE hM ?_
          refine lv_iload_n hx hb dX2_ride_55 rfl (lv_at hl 0 rfl) ?_
          refine lv_aload_n hx hb dX2_ride_56 rfl (lv_at hl 1 rfl) ?_
          refine mg_word dX2_ride_57 S hE hM ?_
          refine lv_bipush (v := 23) hx hb dX2_ride_60 (by decide) ?_
          refine lv_isub hx hb dX2_ride_62 ?_
          obtain ⟨M63, e63, h⟩ := g_bd h
          refine m_ast 25 dX2_ride_63 (by decide) rfl S hE hM hS e63 (fun H locs hM hS => ?_)
          refine lv_aload_n hx hb dX2_ride_64 rfl (lv_at hl 1 rfl) ?_
          refine ma_abilities dX2_ride_65 S hE hM ?_
          refine lv_aload_n hx hb dX2_ride_68 rfl (lv_at hl 1 rfl) ?_
          refine ma_kind dX2_ride_69 S hE hM ?_
          refine lv_iload_n hx hb dX2_ride_72 rfl (lv_at hl 0 rfl) ?_
          obtain ⟨v73, e73, h⟩ := g_bd h
          refine m_ald 25 dX2_ride_73 (by decide) rfl S hE hM e73 ?_
          obtain ⟨v74, e74, h⟩ := g_bd h
          refine m_ald 1 dX2_ride_74 (by decide) rfl S hE hM e74 ?_
          refine lv_istore_n (lv' := [(2, .int v74), (1, .int (M 20 0)), (0, .ref (gx_m E))]) hx hb dX2_ride_75 rfl hl (by decide) rfl (fun ls hl => ?_)
          refine lv_aload_n hx hb dX2_ride_76 rfl (lv_at hl 2 rfl) ?_
          obtain ⟨M77, e77, h⟩ := g_bd h
          refine m_cV (y := yX2_cut) (rest := []) dX2_ride_77 q3057 q3059 qs57 q3060 hm_cut S hE hM hS hl.1 rfl (wm_cut E l _ _ e77) rfl (Nat.le_of_ble_eq_true rfl) ⟨Nat.le_of_ble_eq_true rfl, Nat.le_of_ble_eq_true rfl⟩ ⟨Nat.le_refl 0, Nat.le_refl 0⟩ (fun H locs hM hS => ?_)
          refine lv_aload_n hx hb dX2_ride_80 rfl (lv_at hl 2 rfl) ?_
          refine ma_mass dX2_ride_81 S hE hM ?_
          refine lv_iload_n hx hb dX2_ride_84 rfl (lv_at hl 1 rfl) ?_
          refine lv_iload_n hx hb dX2_ride_85 rfl (lv_at hl 0 rfl) ?_
          refine lv_iconst (v := 1) hx hb dX2_ride_86 (by decide) ?_
          refine lv_iand hx hb dX2_ride_87 ?_
          refine lv_if_eq (tgt := 102) hx hb dX2_ride_88 (by decide) (fun c88 => ?_) (fun c88 => ?_)
          · have h := g_it c88 h
            refine lv_iconst (v := 0) hx hb dX2_ride_102 (by decide) ?_
            exact J103 (M 20 0) v74 (M 20 0) 0 M77 _ _ _ h hM hS (lv_sub hl [2, 1, 0] rfl)
          · have h := g_if c88 h
            refine lv_aload_n hx hb dX2_ride_91 rfl (lv_at hl 2 rfl) ?_
            refine lv_iconst (v := 1) hx hb dX2_ride_92 (by decide) ?_
            refine lv_sipush (v := 500) hx hb dX2_ride_93 (by decide) ?_
            obtain ⟨q96, e96, h⟩ := g_bd h
            refine m_cV (y := yX2_numberIn) (rest := [.int (M 20 0), .ref (gx_m E + mOff 27)]) dX2_ride_96 q3093 q3095 qs64 q3096 hm_numberIn S hE hM hS hl.1 rfl (wm_numberIn E l _ _ _ _ _ e96) rfl (Nat.le_of_ble_eq_true rfl) ⟨Nat.le_of_ble_eq_true rfl, Nat.le_of_ble_eq_true rfl⟩ ⟨Nat.le_refl 0, Nat.le_refl 0⟩ (fun H locs hM hS => ?_)
            refine lv_goto (tgt := 103) hx hb dX2_ride_99 (by decide) ?_
            exact J103 (M 20 0) v74 (M 20 0) q96.1 q96.2 _ _ _ h hM hS (lv_sub hl [2, 1, 0] rfl)
        · have h := g_if c38 h
          exact J41 q8.2 _ _ _ h hM hS (lv_sub hl [1] rfl)
  · have h := g_it c11 h
    exact m_vretW dX2_ride_14 S hr hk hM hS h
theorem hm_declaration : yX2_declaration.cls = RX2 ∧ yX2_declaration.cls ≠ "java/lang/invoke/MethodHandle" ∧ yX2_declaration.cls ≠ "java/lang/invoke/VarHandle" ∧ (parseMethodDescriptor yX2_declaration.desc).map (fun d => d.parameters.length) = some 0 := by decide +kernel
set_option maxHeartbeats 4000000 in
set_option maxRecDepth 100000 in
theorem wm_declaration (E : gX) (l : Launch) (M M' : MM) (h : mm_declaration M = some M') : gMet E l yX2_declaration cX2_declaration 3 none 138 0 0 (gx_A E) [.ref (gx_m E)] (gM E M) (gM E M') none := by
  refine gMet.of (own := RX2) (by decide +kernel) (Nat.le_of_ble_eq_true rfl) rfl ?_
  intro p e s m args below meth c S hr hk hnm hE hM hS ls hl
  have hl : lv_has ls 3 [(0, .ref (gx_m E))] := hl
  have hx := S.1
  have hb := S.2.1
  have J28 : ∀ (M : MM) (H : Heap) (locs : List Loc) (ls : Array Slot), mm_declaration_J28 M = some M' → gM E M H → va_S (gx_A E) s.heap H locs → lv_has ls 3 [(0, .ref (gx_m E))] → W p l e (gRm 138 0 0) s m args below meth c H locs 0 0 (MQ below (gQ none (gM E M') (gx_A E)) args s 0 0 (gx_A E)) (F0 m 28 ls []) := by
    intro M H locs ls h hM hS hl
    unfold mm_declaration_J28 at h
    refine lv_aload_n hx hb dX2_declaration_28 rfl (lv_at hl 0 rfl) ?_
    refine lv_iconst (v := 1) hx hb dX2_declaration_29 (by decide) ?_
    refine lv_aload_n hx hb dX2_declaration_30 rfl (lv_at hl 0 rfl) ?_
    refine mg_begins dX2_declaration_31 S hE hM ?_
    obtain ⟨M34, e34, h⟩ := g_bd h
    refine m_cV (y := yX2_wrong) (rest := []) dX2_declaration_34 q3089 q3091 qs63 q3092 hm_wrong S hE hM hS hl.1 rfl (wm_wrong E l _ _ _ _ e34) rfl (Nat.le_of_ble_eq_true rfl) ⟨Nat.le_of_ble_eq_true rfl, Nat.le_of_ble_eq_true rfl⟩ ⟨Nat.le_refl 0, Nat.le_refl 0⟩ (fun H locs hM hS => ?_)
    exact m_vretW dX2_declaration_37 S hr hk hM hS h
  have J214 : ∀ (M : MM) (H : Heap) (locs : List Loc) (ls : Array Slot), mm_declaration_J214 M = some M' → gM E M H → va_S (gx_A E) s.heap H locs → lv_has ls 3 [(0, .ref (gx_m E))] → W p l e (gRm 138 0 0) s m args below meth c H locs 0 0 (MQ below (gQ none (gM E M') (gx_A E)) args s 0 0 (gx_A E)) (F0 m 214 ls []) := by
    intro M H locs ls h hM hS hl
    unfold mm_declaration_J214 at h
    refine lv_aload_n hx hb dX2_declaration_214 rfl (lv_at hl 0 rfl) ?_
    refine mg_fault dX2_declaration_215 S hE hM ?_
    refine lv_if_ne (tgt := 228) hx hb dX2_declaration_218 (by decide) (fun c218 => ?_) (fun c218 => ?_)
    · have h := g_if c218 h
      exact m_vretW dX2_declaration_228 S hr hk hM hS h
    · have h := g_it c218 h
      refine lv_aload_n hx hb dX2_declaration_221 rfl (lv_at hl 0 rfl) ?_
      refine lv_bipush (v := 59) hx hb dX2_declaration_222 (by decide) ?_
      obtain ⟨q224, e224, h⟩ := g_bd h
      refine m_cV (y := yX2_need) (rest := []) dX2_declaration_224 q3160 q3162 qs80 q3163 hm_need S hE hM hS hl.1 rfl (wm_need E l _ _ _ _ e224) rfl (Nat.le_of_ble_eq_true rfl) ⟨Nat.le_of_ble_eq_true rfl, Nat.le_of_ble_eq_true rfl⟩ ⟨Nat.le_refl 0, Nat.le_refl 0⟩ (fun H locs hM hS => ?_)
      refine lv_pop hx hb dX2_declaration_227 rfl ?_
      exact m_vretW dX2_declaration_228 S hr hk hM hS h
  have J103 : ∀ (x2 : Int32) (M : MM) (H : Heap) (locs : List Loc) (ls : Array Slot), mm_declaration_J103 x2 M = some M' → gM E M H → va_S (gx_A E) s.heap H locs → lv_has ls 3 [(0, .ref (gx_m E)), (2, .int x2)] → W p l e (gRm 138 0 0) s m args below meth c H locs 0 0 (MQ below (gQ none (gM E M') (gx_A E)) args s 0 0 (gx_A E)) (F0 m 103 ls []) := by
    intro x2 M H locs ls h hM hS hl
    unfold mm_declaration_J103 at h
    refine lv_aload_n hx hb dX2_declaration_103 rfl (lv_at hl 0 rfl) ?_
    obtain ⟨M104, e104, h⟩ := g_bd h
    refine m_cV (y := yX2_cut) (rest := []) dX2_declaration_104 q3057 q3059 qs57 q3060 hm_cut S hE hM hS hl.1 rfl (wm_cut E l _ _ e104) rfl (Nat.le_of_ble_eq_true rfl) ⟨Nat.le_of_ble_eq_true rfl, Nat.le_of_ble_eq_true rfl⟩ ⟨Nat.le_refl 0, Nat.le_refl 0⟩ (fun H locs hM hS => ?_)
    refine lv_iload_n hx hb dX2_declaration_107 rfl (lv_at hl 1 rfl) ?_
    refine lv_if_ne (tgt := 131) hx hb dX2_declaration_108 (by decide) (fun c108 => ?_) (fun c108 => ?_)
    · have h := g_if c108 h
      refine lv_iload_n hx hb dX2_declaration_131 rfl (lv_at hl 1 rfl) ?_
      refine lv_iconst (v := 1) hx hb dX2_declaration_132 (by decide) ?_
      refine lv_icmp_ne (tgt := 178) hx hb dX2_declaration_133 (by decide) (fun c133 => ?_) (fun c133 => ?_)
      · have h := g_if c133 h
        refine lv_iload_n hx hb dX2_declaration_178 rfl (lv_at hl 1 rfl) ?_
        refine lv_iconst (v := 2) hx hb dX2_declaration_179 (by decide) ?_
        refine lv_icmp_ne (tgt := 209) hx hb dX2_declaration_180 (by decide) (fun c180 => ?_) (fun c180 => ?_)
        · have h := g_if c180 h
          refine lv_aload_n hx hb dX2_declaration_209 rfl (lv_at hl 0 rfl) ?_
          obtain ⟨M210, e210, h⟩ := g_bd h
          refine m_cV (y := yX2_ride) (rest := []) dX2_declaration_210 q3105 q3107 qs67 q3108 hm_ride S hE hM hS hl.1 rfl (wm_ride E l _ _ e210) rfl (Nat.le_of_ble_eq_true rfl) ⟨Nat.le_of_ble_eq_true rfl, Nat.le_of_ble_eq_true rfl⟩ ⟨Nat.le_refl 0, Nat.le_refl 0⟩ (fun H locs hM hS => ?_)
          exact m_vretW dX2_declaration_213 S hr hk hM hS h
        · have h := g_it c180 h
          refine lv_aload_n hx hb dX2_declaration_183 rfl (lv_at hl 0 rfl) ?_
          refine lv_iconst (v := 2) hx hb dX2_declaration_184 (by decide) ?_
          refine lv_aload_n hx hb dX2_declaration_185 rfl (lv_at hl 0 rfl) ?_
          refine mg_flags dX2_declaration_186 S hE hM ?_
          obtain ⟨q189, e189, h⟩ := g_bd h
          refine m_cV (y := yX2_newName) (rest := []) dX2_declaration_189 q3097 q3099 qs65 q3100 hm_newName S hE hM hS hl.1 rfl (wm_newName E l _ _ _ _ _ e189) rfl (Nat.le_of_ble_eq_true rfl) ⟨Nat.le_of_ble_eq_true rfl, Nat.le_of_ble_eq_true rfl⟩ ⟨Nat.le_refl 0, Nat.le_refl 0⟩ (fun H locs hM hS => ?_)
          refine lv_if_ne (tgt := 196) hx hb dX2_declaration_192 (by decide) (fun c192 => ?_) (fun c192 => ?_)
          · have h := g_if c192 h
            refine lv_aload_n hx hb dX2_declaration_196 rfl (lv_at hl 0 rfl) ?_
            refine lv_dup hx hb dX2_declaration_197 rfl ?_
            refine mg_flags dX2_declaration_198 S hE hM ?_
            refine lv_iconst (v := 1) hx hb dX2_declaration_201 (by decide) ?_
            refine lv_iadd hx hb dX2_declaration_202 ?_
            obtain ⟨M203, e203, h⟩ := g_bd h
            refine mp_flags dX2_declaration_203 S hE hM hS e203 (fun H locs hM hS => ?_)
            refine lv_goto (tgt := 214) hx hb dX2_declaration_206 (by decide) ?_
            exact J214 M203 _ _ _ h hM hS (lv_sub hl [0] rfl)
          · have h := g_it c192 h
            exact m_vretW dX2_declaration_195 S hr hk hM hS h
      · have h := g_it c133 h
        refine lv_aload_n hx hb dX2_declaration_136 rfl (lv_at hl 0 rfl) ?_
        refine lv_iconst (v := 1) hx hb dX2_declaration_137 (by decide) ?_
        refine lv_aload_n hx hb dX2_declaration_138 rfl (lv_at hl 0 rfl) ?_
        refine mg_staff dX2_declaration_139 S hE hM ?_
        obtain ⟨q142, e142, h⟩ := g_bd h
        refine m_cV (y := yX2_newName) (rest := []) dX2_declaration_142 q3097 q3099 qs65 q3100 hm_newName S hE hM hS hl.1 rfl (wm_newName E l _ _ _ _ _ e142) rfl (Nat.le_of_ble_eq_true rfl) ⟨Nat.le_of_ble_eq_true rfl, Nat.le_of_ble_eq_true rfl⟩ ⟨Nat.le_refl 0, Nat.le_refl 0⟩ (fun H locs hM hS => ?_)
        refine lv_if_ne (tgt := 149) hx hb dX2_declaration_145 (by decide) (fun c145 => ?_) (fun c145 => ?_)
        · have h := g_if c145 h
          refine lv_aload_n hx hb dX2_declaration_149 rfl (lv_at hl 0 rfl) ?_
          refine ma_staffAll dX2_declaration_150 S hE hM ?_
          refine lv_aload_n hx hb dX2_declaration_153 rfl (lv_at hl 0 rfl) ?_
          refine mg_staff dX2_declaration_154 S hE hM ?_
          refine lv_aload_n hx hb dX2_declaration_157 rfl (lv_at hl 0 rfl) ?_
          refine lv_iconst (v := 1) hx hb dX2_declaration_158 (by decide) ?_
          refine lv_bipush (v := 9) hx hb dX2_declaration_159 (by decide) ?_
          obtain ⟨q161, e161, h⟩ := g_bd h
          refine m_cV (y := yX2_numberIn) (rest := [.int (q142.2 21 0), .ref (gx_m E + mOff 34)]) dX2_declaration_161 q3093 q3095 qs64 q3096 hm_numberIn S hE hM hS hl.1 rfl (wm_numberIn E l _ _ _ _ _ e161) rfl (Nat.le_of_ble_eq_true rfl) ⟨Nat.le_of_ble_eq_true rfl, Nat.le_of_ble_eq_true rfl⟩ ⟨Nat.le_refl 0, Nat.le_refl 0⟩ (fun H locs hM hS => ?_)
          obtain ⟨M164, e164, h⟩ := g_bd h
          refine m_ast 34 dX2_declaration_164 (by decide) rfl S hE hM hS e164 (fun H locs hM hS => ?_)
          refine lv_aload_n hx hb dX2_declaration_165 rfl (lv_at hl 0 rfl) ?_
          refine lv_dup hx hb dX2_declaration_166 rfl ?_
          refine mg_staff dX2_declaration_167 S hE hM ?_
          refine lv_iconst (v := 1) hx hb dX2_declaration_170 (by decide) ?_
          refine lv_iadd hx hb dX2_declaration_171 ?_
          obtain ⟨M172, e172, h⟩ := g_bd h
          refine mp_staff dX2_declaration_172 S hE hM hS e172 (fun H locs hM hS => ?_)
          refine lv_goto (tgt := 214) hx hb dX2_declaration_175 (by decide) ?_
          exact J214 M172 _ _ _ h hM hS (lv_sub hl [0] rfl)
        · have h := g_it c145 h
          exact m_vretW dX2_declaration_148 S hr hk hM hS h
    · have h := g_it c108 h
      refine lv_aload_n hx hb dX2_declaration_111 rfl (lv_at hl 0 rfl) ?_
      refine lv_aload_n hx hb dX2_declaration_112 rfl (lv_at hl 0 rfl) ?_
      refine lv_iconst (v := 1) hx hb dX2_declaration_113 (by decide) ?_
      refine lv_sipush (v := 9999) hx hb dX2_declaration_114 (by decide) ?_
      obtain ⟨q117, e117, h⟩ := g_bd h
      refine m_cV (y := yX2_numberIn) (rest := [.ref (gx_m E)]) dX2_declaration_117 q3093 q3095 qs64 q3096 hm_numberIn S hE hM hS hl.1 rfl (wm_numberIn E l _ _ _ _ _ e117) rfl (Nat.le_of_ble_eq_true rfl) ⟨Nat.le_of_ble_eq_true rfl, Nat.le_of_ble_eq_true rfl⟩ ⟨Nat.le_refl 0, Nat.le_refl 0⟩ (fun H locs hM hS => ?_)
      obtain ⟨M120, e120, h⟩ := g_bd h
      refine mp_power dX2_declaration_120 S hE hM hS e120 (fun H locs hM hS => ?_)
      refine lv_aload_n hx hb dX2_declaration_123 rfl (lv_at hl 0 rfl) ?_
      refine lv_iconst (v := 1) hx hb dX2_declaration_124 (by decide) ?_
      obtain ⟨M125, e125, h⟩ := g_bd h
      refine mp_hasPower dX2_declaration_125 S hE hM hS e125 (fun H locs hM hS => ?_)
      refine lv_goto (tgt := 214) hx hb dX2_declaration_128 (by decide) ?_
      exact J214 M125 _ _ _ h hM hS (lv_sub hl [0] rfl)
  have J96 : ∀ (x1 : Int32) (M : MM) (H : Heap) (locs : List Loc) (ls : Array Slot), mm_declaration_J96 x1 M = some M' → gM E M H → va_S (gx_A E) s.heap H locs → lv_has ls 3 [(0, .ref (gx_m E)), (1, .int x1)] → W p l e (gRm 138 0 0) s m args below meth c H locs 0 0 (MQ below (gQ none (gM E M') (gx_A E)) args s 0 0 (gx_A E)) (F0 m 96 ls []) := by
    intro x1 M H locs ls h hM hS hl
    unfold mm_declaration_J96 at h
    refine lv_aload_n hx hb dX2_declaration_96 rfl (lv_at hl 0 rfl) ?_
    refine lv_iconst (v := 4) hx hb dX2_declaration_97 (by decide) ?_
    refine lv_iload_n hx hb dX2_declaration_98 rfl (lv_at hl 1 rfl) ?_
    obtain ⟨M99, e99, h⟩ := g_bd h
    refine m_cV (y := yX2_wrong) (rest := []) dX2_declaration_99 q3089 q3091 qs63 q3092 hm_wrong S hE hM hS hl.1 rfl (wm_wrong E l _ _ _ _ e99) rfl (Nat.le_of_ble_eq_true rfl) ⟨Nat.le_of_ble_eq_true rfl, Nat.le_of_ble_eq_true rfl⟩ ⟨Nat.le_refl 0, Nat.le_refl 0⟩ (fun H locs hM hS => ?_)
    exact m_vretW dX2_declaration_102 S hr hk hM hS h
  have J82 : ∀ (x1 x2 : Int32) (M : MM) (H : Heap) (locs : List Loc) (ls : Array Slot), mm_declaration_J82 x1 x2 M = some M' → gM E M H → va_S (gx_A E) s.heap H locs → lv_has ls 3 [(0, .ref (gx_m E)), (1, .int x1), (2, .int x2)] → W p l e (gRm 138 0 0) s m args below meth c H locs 0 0 (MQ below (gQ none (gM E M') (gx_A E)) args s 0 0 (gx_A E)) (F0 m 82 ls []) := by
    intro x1 x2 M H locs ls h hM hS hl
    unfold mm_declaration_J82 at h
    refine lv_iload_n hx hb dX2_declaration_82 rfl (lv_at hl 2 rfl) ?_
    refine lv_iconst (v := 3) hx hb dX2_declaration_83 (by decide) ?_
    refine lv_icmp_ne (tgt := 103) hx hb dX2_declaration_84 (by decide) (fun c84 => ?_) (fun c84 => ?_)
    · have h := g_if c84 h
      exact J103 x2 M _ _ _ h hM hS (lv_sub hl [0, 2] rfl)
    · have h := g_it c84 h
      refine lv_aload_n hx hb dX2_declaration_87 rfl (lv_at hl 0 rfl) ?_
      refine mg_rides dX2_declaration_88 S hE hM ?_
      refine lv_bipush (v := 12) hx hb dX2_declaration_91 (by decide) ?_
      refine lv_icmp_ne (tgt := 103) hx hb dX2_declaration_93 (by decide) (fun c93 => ?_) (fun c93 => ?_)
      · have h := g_if c93 h
        exact J103 x2 M _ _ _ h hM hS (lv_sub hl [0, 2] rfl)
      · have h := g_it c93 h
        exact J96 x1 M _ _ _ h hM hS (lv_sub hl [0, 1] rfl)
  have J68 : ∀ (x1 x2 : Int32) (M : MM) (H : Heap) (locs : List Loc) (ls : Array Slot), mm_declaration_J68 x1 x2 M = some M' → gM E M H → va_S (gx_A E) s.heap H locs → lv_has ls 3 [(0, .ref (gx_m E)), (1, .int x1), (2, .int x2)] → W p l e (gRm 138 0 0) s m args below meth c H locs 0 0 (MQ below (gQ none (gM E M') (gx_A E)) args s 0 0 (gx_A E)) (F0 m 68 ls []) := by
    intro x1 x2 M H locs ls h hM hS hl
    unfold mm_declaration_J68 at h
    refine lv_iload_n hx hb dX2_declaration_68 rfl (lv_at hl 2 rfl) ?_
    refine lv_iconst (v := 2) hx hb dX2_declaration_69 (by decide) ?_
    refine lv_icmp_ne (tgt := 82) hx hb dX2_declaration_70 (by decide) (fun c70 => ?_) (fun c70 => ?_)
    · have h := g_if c70 h
      exact J82 x1 x2 M _ _ _ h hM hS (lv_sub hl [0, 1, 2] rfl)
    · have h := g_it c70 h
      refine lv_aload_n hx hb dX2_declaration_73 rfl (lv_at hl 0 rfl) ?_
      refine mg_flags dX2_declaration_74 S hE hM ?_
      refine lv_bipush (v := 8) hx hb dX2_declaration_77 (by decide) ?_
      refine lv_icmp_eq (tgt := 96) hx hb dX2_declaration_79 (by decide) (fun c79 => ?_) (fun c79 => ?_)
      · have h := g_it c79 h
        exact J96 x1 M _ _ _ h hM hS (lv_sub hl [0, 1] rfl)
      · have h := g_if c79 h
        exact J82 x1 x2 M _ _ _ h hM hS (lv_sub hl [0, 1, 2] rfl)
  have J54 : ∀ (x1 x2 : Int32) (M : MM) (H : Heap) (locs : List Loc) (ls : Array Slot), mm_declaration_J54 x1 x2 M = some M' → gM E M H → va_S (gx_A E) s.heap H locs → lv_has ls 3 [(0, .ref (gx_m E)), (1, .int x1), (2, .int x2)] → W p l e (gRm 138 0 0) s m args below meth c H locs 0 0 (MQ below (gQ none (gM E M') (gx_A E)) args s 0 0 (gx_A E)) (F0 m 54 ls []) := by
    intro x1 x2 M H locs ls h hM hS hl
    unfold mm_declaration_J54 at h
    refine lv_iload_n hx hb dX2_declaration_54 rfl (lv_at hl 2 rfl) ?_
    refine lv_iconst (v := 1) hx hb dX2_declaration_55 (by decide) ?_
    refine lv_icmp_ne (tgt := 68) hx hb dX2_declaration_56 (by decide) (fun c56 => ?_) (fun c56 => ?_)
    · have h := g_if c56 h
      exact J68 x1 x2 M _ _ _ h hM hS (lv_sub hl [0, 1, 2] rfl)
    · have h := g_it c56 h
      refine lv_aload_n hx hb dX2_declaration_59 rfl (lv_at hl 0 rfl) ?_
      refine mg_staff dX2_declaration_60 S hE hM ?_
      refine lv_bipush (v := 6) hx hb dX2_declaration_63 (by decide) ?_
      refine lv_icmp_eq (tgt := 96) hx hb dX2_declaration_65 (by decide) (fun c65 => ?_) (fun c65 => ?_)
      · have h := g_it c65 h
        exact J96 x1 M _ _ _ h hM hS (lv_sub hl [0, 1] rfl)
      · have h := g_if c65 h
        exact J68 x1 x2 M _ _ _ h hM hS (lv_sub hl [0, 1, 2] rfl)
  unfold mm_declaration at h
  refine lv_aload_n hx hb dX2_declaration_0 rfl (lv_at hl 0 rfl) ?_
  refine mg_begins dX2_declaration_1 S hE hM ?_
  refine lv_istore_n (lv' := [(1, .int (M 8 0)), (0, .ref (gx_m E))]) hx hb dX2_declaration_4 rfl hl (by decide) rfl (fun ls hl => ?_)
  refine lv_aload_n hx hb dX2_declaration_5 rfl (lv_at hl 1 rfl) ?_
  refine mg_token dX2_declaration_6 S hE hM ?_
  refine lv_iconst (v := 1) hx hb dX2_declaration_9 (by decide) ?_
  refine lv_icmp_ne (tgt := 28) hx hb dX2_declaration_10 (by decide) (fun c10 => ?_) (fun c10 => ?_)
  · have h := g_if c10 h
    exact J28 M _ _ _ h hM hS (lv_sub hl [1] rfl)
  · have h := g_it c10 h
    refine lv_aload_n hx hb dX2_declaration_13 rfl (lv_at hl 1 rfl) ?_
    refine mg_word dX2_declaration_14 S hE hM ?_
    refine lv_if_lt (tgt := 28) hx hb dX2_declaration_17 (by decide) (fun c17 => ?_) (fun c17 => ?_)
    · have h := g_it c17 h
      exact J28 M _ _ _ h hM hS (lv_sub hl [1] rfl)
    · have h := g_if c17 h
      refine lv_aload_n hx hb dX2_declaration_20 rfl (lv_at hl 1 rfl) ?_
      refine mg_word dX2_declaration_21 S hE hM ?_
      refine lv_iconst (v := 3) hx hb dX2_declaration_24 (by decide) ?_
      refine lv_icmp_le (tgt := 38) hx hb dX2_declaration_25 (by decide) (fun c25 => ?_) (fun c25 => ?_)
      · have h := g_it c25 h
        refine lv_aload_n hx hb dX2_declaration_38 rfl (lv_at hl 1 rfl) ?_
        refine mg_word dX2_declaration_39 S hE hM ?_
        refine lv_istore_n (lv' := [(2, .int (M 11 0)), (1, .int (M 8 0)), (0, .ref (gx_m E))]) hx hb dX2_declaration_42 rfl hl (by decide) rfl (fun ls hl => ?_)
        refine lv_iload_n hx hb dX2_declaration_43 rfl (lv_at hl 0 rfl) ?_
        refine lv_if_ne (tgt := 54) hx hb dX2_declaration_44 (by decide) (fun c44 => ?_) (fun c44 => ?_)
        · have h := g_if c44 h
          exact J54 (M 8 0) (M 11 0) M _ _ _ h hM hS (lv_sub hl [2, 1, 0] rfl)
        · have h := g_it c44 h
          refine lv_aload_n hx hb dX2_declaration_47 rfl (lv_at hl 2 rfl) ?_
          refine mg_hasPower dX2_declaration_48 S hE hM ?_
          refine lv_if_ne (tgt := 96) hx hb dX2_declaration_51 (by decide) (fun c51 => ?_) (fun c51 => ?_)
          · have h := g_if c51 h
            exact J96 (M 8 0) M _ _ _ h hM hS (lv_sub hl [2, 1] rfl)
          · have h := g_it c51 h
            exact J54 (M 8 0) (M 11 0) M _ _ _ h hM hS (lv_sub hl [2, 1, 0] rfl)
      · have h := g_if c25 h
        exact J28 M _ _ _ h hM hS (lv_sub hl [1] rfl)
theorem hm_fair : yX2_fair.cls = RX2 ∧ yX2_fair.cls ≠ "java/lang/invoke/MethodHandle" ∧ yX2_fair.cls ≠ "java/lang/invoke/VarHandle" ∧ (parseMethodDescriptor yX2_fair.desc).map (fun d => d.parameters.length) = some 0 := by decide +kernel
set_option maxHeartbeats 4000000 in
set_option maxRecDepth 100000 in
theorem wm_fair (E : gX) (l : Launch) (M M' : MM) (h : mm_fair M = some M') : gMet E l yX2_fair cX2_fair 3 none 139 0 0 (gx_A E) [.ref (gx_m E)] (gM E M) (gM E M') none := by
  refine gMet.of (own := RX2) (by decide +kernel) (Nat.le_of_ble_eq_true rfl) rfl ?_
  intro p e s m args below meth c S hr hk hnm hE hM hS ls hl
  have hl : lv_has ls 3 [(0, .ref (gx_m E))] := hl
  have hx := S.1
  have hb := S.2.1
  have L50 : ∀ (n : Nat) (x1 : Int32) (M : MM) (H : Heap) (locs : List Loc) (ls : Array Slot), mm_fair_L50 n x1 M = some M' → gM E M H → va_S (gx_A E) s.heap H locs → lv_has ls 3 [(0, .ref (gx_m E)), (1, .int x1)] → W p l e (gRm 139 0 0) s m args below meth c H locs 0 0 (MQ below (gQ none (gM E M') (gx_A E)) args s 0 0 (gx_A E)) (F0 m 50 ls []) := by
    intro n50
    induction n50 with
    | zero =>
      intro x1 M H locs ls h
      cases h
    | succ n50 ih50 =>
      have J146 : ∀ (x1 : Int32) (M : MM) (H : Heap) (locs : List Loc) (ls : Array Slot), mm_fair_J146 (mm_fair_L50 n50) x1 M = some M' → gM E M H → va_S (gx_A E) s.heap H locs → lv_has ls 3 [(0, .ref (gx_m E)), (1, .int x1)] → W p l e (gRm 139 0 0) s m args below meth c H locs 0 0 (MQ below (gQ none (gM E M') (gx_A E)) args s 0 0 (gx_A E)) (F0 m 146 ls []) := by
        intro x1 M H locs ls h hM hS hl
        unfold mm_fair_J146 at h
        refine lv_iinc (k := 1) (v := (x1 + 1)) (lv' := [(1, .int (x1 + 1)), (0, .ref (gx_m E))]) hx hb dX2_fair_146 hl rfl rfl (by decide) rfl (fun ls hl => ?_)
        refine lv_goto (tgt := 50) hx hb dX2_fair_149 (by decide) ?_
        exact ih50 (x1 + 1) M _ _ _ h hM hS (lv_sub hl [1, 0] rfl)
      have J117 : ∀ (x1 : Int32) (M : MM) (H : Heap) (locs : List Loc) (ls : Array Slot), mm_fair_J117 (mm_fair_L50 n50) x1 M = some M' → gM E M H → va_S (gx_A E) s.heap H locs → lv_has ls 3 [(0, .ref (gx_m E)), (1, .int x1)] → W p l e (gRm 139 0 0) s m args below meth c H locs 0 0 (MQ below (gQ none (gM E M') (gx_A E)) args s 0 0 (gx_A E)) (F0 m 117 ls []) := by
        intro x1 M H locs ls h hM hS hl
        unfold mm_fair_J117 at h
        refine lv_aload_n hx hb dX2_fair_117 rfl (lv_at hl 0 rfl) ?_
        refine lv_iconst (v := 3) hx hb dX2_fair_118 (by decide) ?_
        refine lv_aload_n hx hb dX2_fair_119 rfl (lv_at hl 0 rfl) ?_
        refine ma_codeA dX2_fair_120 S hE hM ?_
        refine lv_iload_n hx hb dX2_fair_123 rfl (lv_at hl 1 rfl) ?_
        obtain ⟨v124, e124, h⟩ := g_bd h
        refine m_ald 43 dX2_fair_124 (by decide) rfl S hE hM e124 ?_
        refine lv_bipush (v := 16) hx hb dX2_fair_125 (by decide) ?_
        refine lv_idiv hx hb dX2_fair_127 (by decide) ?_
        obtain ⟨M128, e128, h⟩ := g_bd h
        refine m_cV (y := yX2_wrong) (rest := []) dX2_fair_128 q3089 q3091 qs63 q3092 hm_wrong S hE hM hS hl.1 rfl (wm_wrong E l _ _ _ _ e128) rfl (Nat.le_of_ble_eq_true rfl) ⟨Nat.le_of_ble_eq_true rfl, Nat.le_of_ble_eq_true rfl⟩ ⟨Nat.le_refl 0, Nat.le_refl 0⟩ (fun H locs hM hS => ?_)
        refine lv_goto (tgt := 146) hx hb dX2_fair_131 (by decide) ?_
        exact J146 x1 M128 _ _ _ h hM hS (lv_sub hl [0, 1] rfl)
      intro x1 M H locs ls h hM hS hl
      have h : mm_fair_B50 (mm_fair_L50 n50) x1 M = some M' := h
      unfold mm_fair_B50 at h
      refine lv_iload_n hx hb dX2_fair_50 rfl (lv_at hl 1 rfl) ?_
      refine lv_aload_n hx hb dX2_fair_51 rfl (lv_at hl 0 rfl) ?_
      refine mg_codes dX2_fair_52 S hE hM ?_
      refine lv_icmp_ge (tgt := 152) hx hb dX2_fair_55 (by decide) (fun c55 => ?_) (fun c55 => ?_)
      · have h := g_it c55 h
        exact m_vretW dX2_fair_152 S hr hk hM hS h
      · have h := g_if c55 h
        refine lv_aload_n hx hb dX2_fair_58 rfl (lv_at hl 0 rfl) ?_
        refine mg_fault dX2_fair_59 S hE hM ?_
        refine lv_if_ne (tgt := 152) hx hb dX2_fair_62 (by decide) (fun c62 => ?_) (fun c62 => ?_)
        · have h := g_if c62 h
          exact m_vretW dX2_fair_152 S hr hk hM hS h
        · have h := g_it c62 h
          refine lv_aload_n hx hb dX2_fair_65 rfl (lv_at hl 0 rfl) ?_
          refine ma_code dX2_fair_66 S hE hM ?_
          refine lv_iload_n hx hb dX2_fair_69 rfl (lv_at hl 1 rfl) ?_
          obtain ⟨v70, e70, h⟩ := g_bd h
          refine m_ald 42 dX2_fair_70 (by decide) rfl S hE hM e70 ?_
          refine lv_bipush (v := 7) hx hb dX2_fair_71 (by decide) ?_
          refine lv_icmp_eq (tgt := 79) hx hb dX2_fair_73 (by decide) (fun c73 => ?_) (fun c73 => ?_)
          · have h := g_it c73 h
            refine lv_aload_n hx hb dX2_fair_79 rfl (lv_at hl 0 rfl) ?_
            refine lv_aload_n hx hb dX2_fair_80 rfl (lv_at hl 0 rfl) ?_
            refine ma_codeA dX2_fair_81 S hE hM ?_
            refine lv_iload_n hx hb dX2_fair_84 rfl (lv_at hl 1 rfl) ?_
            obtain ⟨v85, e85, h⟩ := g_bd h
            refine m_ald 43 dX2_fair_85 (by decide) rfl S hE hM e85 ?_
            refine lv_bipush (v := 16) hx hb dX2_fair_86 (by decide) ?_
            refine lv_idiv hx hb dX2_fair_88 (by decide) ?_
            refine lv_aload_n hx hb dX2_fair_89 rfl (lv_at hl 0 rfl) ?_
            refine ma_codeA dX2_fair_90 S hE hM ?_
            refine lv_iload_n hx hb dX2_fair_93 rfl (lv_at hl 1 rfl) ?_
            obtain ⟨v94, e94, h⟩ := g_bd h
            refine m_ald 43 dX2_fair_94 (by decide) rfl S hE hM e94 ?_
            refine lv_bipush (v := 16) hx hb dX2_fair_95 (by decide) ?_
            refine lv_irem hx hb dX2_fair_97 (by decide) ?_
            obtain ⟨v98, e98, h⟩ := g_bd h
            refine m_cV (y := yX2_known) (rest := []) dX2_fair_98 q3101 q3103 qs66 q3104 hm_known S hE hM hS hl.1 rfl (wm_known E l _ _ _ _ e98) rfl (Nat.le_of_ble_eq_true rfl) ⟨Nat.le_of_ble_eq_true rfl, Nat.le_of_ble_eq_true rfl⟩ ⟨Nat.le_refl 0, Nat.le_refl 0⟩ (fun H locs hM hS => ?_)
            refine lv_istore_n (lv' := [(2, .int v98), (0, .ref (gx_m E)), (1, .int x1)]) hx hb dX2_fair_101 rfl hl (by decide) rfl (fun ls hl => ?_)
            refine lv_iload_n hx hb dX2_fair_102 rfl (lv_at hl 0 rfl) ?_
            refine lv_iconst (v := (-1)) hx hb dX2_fair_103 (by decide) ?_
            refine lv_icmp_eq (tgt := 117) hx hb dX2_fair_104 (by decide) (fun c104 => ?_) (fun c104 => ?_)
            · have h := g_it c104 h
              exact J117 x1 M _ _ _ h hM hS (lv_sub hl [1, 2] rfl)
            · have h := g_if c104 h
              refine lv_aload_n hx hb dX2_fair_107 rfl (lv_at hl 1 rfl) ?_
              refine ma_nameSort dX2_fair_108 S hE hM ?_
              refine lv_iload_n hx hb dX2_fair_111 rfl (lv_at hl 0 rfl) ?_
              obtain ⟨v112, e112, h⟩ := g_bd h
              refine m_ald 14 dX2_fair_112 (by decide) rfl S hE hM e112 ?_
              refine lv_iconst (v := 3) hx hb dX2_fair_113 (by decide) ?_
              refine lv_icmp_eq (tgt := 134) hx hb dX2_fair_114 (by decide) (fun c114 => ?_) (fun c114 => ?_)
              · have h := g_it c114 h
                refine lv_aload_n hx hb dX2_fair_134 rfl (lv_at hl 1 rfl) ?_
                refine ma_codeA dX2_fair_135 S hE hM ?_
                refine lv_iload_n hx hb dX2_fair_138 rfl (lv_at hl 2 rfl) ?_
                refine lv_aload_n hx hb dX2_fair_139 rfl (lv_at hl 1 rfl) ?_
                refine ma_nameOf dX2_fair_140 S hE hM ?_
                refine lv_iload_n hx hb dX2_fair_143 rfl (lv_at hl 0 rfl) ?_
                obtain ⟨v144, e144, h⟩ := g_bd h
                refine m_ald 15 dX2_fair_144 (by decide) rfl S hE hM e144 ?_
                obtain ⟨M145, e145, h⟩ := g_bd h
                refine m_ast 43 dX2_fair_145 (by decide) rfl S hE hM hS e145 (fun H locs hM hS => ?_)
                exact J146 x1 M145 _ _ _ h hM hS (lv_sub hl [1, 2] rfl)
              · have h := g_if c114 h
                exact J117 x1 M _ _ _ h hM hS (lv_sub hl [1, 2] rfl)
          · have h := g_if c73 h
            refine lv_goto (tgt := 146) hx hb dX2_fair_76 (by decide) ?_
            exact J146 x1 M _ _ _ h hM hS (lv_sub hl [0, 1] rfl)
  have J48 : ∀ (M : MM) (H : Heap) (locs : List Loc) (ls : Array Slot), mm_fair_J48 M = some M' → gM E M H → va_S (gx_A E) s.heap H locs → lv_has ls 3 [(0, .ref (gx_m E))] → W p l e (gRm 139 0 0) s m args below meth c H locs 0 0 (MQ below (gQ none (gM E M') (gx_A E)) args s 0 0 (gx_A E)) (F0 m 48 ls []) := by
    intro M H locs ls h hM hS hl
    unfold mm_fair_J48 at h
    refine lv_iconst (v := 0) hx hb dX2_fair_48 (by decide) ?_
    refine lv_istore_n (lv' := [(1, .int 0), (0, .ref (gx_m E))]) hx hb dX2_fair_49 rfl hl (by decide) rfl (fun ls hl => ?_)
    exact L50 gF 0 M _ _ _ h hM hS (lv_sub hl [1, 0] rfl)
  have J25 : ∀ (M : MM) (H : Heap) (locs : List Loc) (ls : Array Slot), mm_fair_J25 M = some M' → gM E M H → va_S (gx_A E) s.heap H locs → lv_has ls 3 [(0, .ref (gx_m E))] → W p l e (gRm 139 0 0) s m args below meth c H locs 0 0 (MQ below (gQ none (gM E M') (gx_A E)) args s 0 0 (gx_A E)) (F0 m 25 ls []) := by
    intro M H locs ls h hM hS hl
    unfold mm_fair_J25 at h
    refine lv_aload_n hx hb dX2_fair_25 rfl (lv_at hl 0 rfl) ?_
    refine mg_fault dX2_fair_26 S hE hM ?_
    refine lv_if_ne (tgt := 48) hx hb dX2_fair_29 (by decide) (fun c29 => ?_) (fun c29 => ?_)
    · have h := g_if c29 h
      exact J48 M _ _ _ h hM hS (lv_sub hl [0] rfl)
    · have h := g_it c29 h
      refine lv_aload_n hx hb dX2_fair_32 rfl (lv_at hl 0 rfl) ?_
      refine mg_rides dX2_fair_33 S hE hM ?_
      refine lv_if_ne (tgt := 48) hx hb dX2_fair_36 (by decide) (fun c36 => ?_) (fun c36 => ?_)
      · have h := g_if c36 h
        exact J48 M _ _ _ h hM hS (lv_sub hl [0] rfl)
      · have h := g_it c36 h
        refine lv_aload_n hx hb dX2_fair_39 rfl (lv_at hl 0 rfl) ?_
        refine lv_iconst (v := 1) hx hb dX2_fair_40 (by decide) ?_
        refine lv_aload_n hx hb dX2_fair_41 rfl (lv_at hl 0 rfl) ?_
        refine mg_size dX2_fair_42 S hE hM ?_
        obtain ⟨M45, e45, h⟩ := g_bd h
        refine m_cV (y := yX2_wrong) (rest := []) dX2_fair_45 q3089 q3091 qs63 q3092 hm_wrong S hE hM hS hl.1 rfl (wm_wrong E l _ _ _ _ e45) rfl (Nat.le_of_ble_eq_true rfl) ⟨Nat.le_of_ble_eq_true rfl, Nat.le_of_ble_eq_true rfl⟩ ⟨Nat.le_refl 0, Nat.le_refl 0⟩ (fun H locs hM hS => ?_)
        exact J48 M45 _ _ _ h hM hS (lv_sub hl [0] rfl)
  have L4 : ∀ (n : Nat) (M : MM) (H : Heap) (locs : List Loc) (ls : Array Slot), mm_fair_L4 n M = some M' → gM E M H → va_S (gx_A E) s.heap H locs → lv_has ls 3 [(0, .ref (gx_m E))] → W p l e (gRm 139 0 0) s m args below meth c H locs 0 0 (MQ below (gQ none (gM E M') (gx_A E)) args s 0 0 (gx_A E)) (F0 m 4 ls []) := by
    intro n4
    induction n4 with
    | zero =>
      intro M H locs ls h
      cases h
    | succ n4 ih4 =>
      intro M H locs ls h hM hS hl
      have h : mm_fair_B4 (mm_fair_L4 n4) M = some M' := h
      unfold mm_fair_B4 at h
      refine lv_aload_n hx hb dX2_fair_4 rfl (lv_at hl 0 rfl) ?_
      refine mg_fault dX2_fair_5 S hE hM ?_
      refine lv_if_ne (tgt := 25) hx hb dX2_fair_8 (by decide) (fun c8 => ?_) (fun c8 => ?_)
      · have h := g_if c8 h
        exact J25 M _ _ _ h hM hS (lv_sub hl [0] rfl)
      · have h := g_it c8 h
        refine lv_aload_n hx hb dX2_fair_11 rfl (lv_at hl 0 rfl) ?_
        refine mg_token dX2_fair_12 S hE hM ?_
        refine lv_if_eq (tgt := 25) hx hb dX2_fair_15 (by decide) (fun c15 => ?_) (fun c15 => ?_)
        · have h := g_it c15 h
          exact J25 M _ _ _ h hM hS (lv_sub hl [0] rfl)
        · have h := g_if c15 h
          refine lv_aload_n hx hb dX2_fair_18 rfl (lv_at hl 0 rfl) ?_
          obtain ⟨M19, e19, h⟩ := g_bd h
          refine m_cV (y := yX2_declaration) (rest := []) dX2_fair_19 q3085 q3087 qs62 q3088 hm_declaration S hE hM hS hl.1 rfl (wm_declaration E l _ _ e19) rfl (Nat.le_of_ble_eq_true rfl) ⟨Nat.le_of_ble_eq_true rfl, Nat.le_of_ble_eq_true rfl⟩ ⟨Nat.le_refl 0, Nat.le_refl 0⟩ (fun H locs hM hS => ?_)
          refine lv_goto (tgt := 4) hx hb dX2_fair_22 (by decide) ?_
          exact ih4 M19 _ _ _ h hM hS (lv_sub hl [0] rfl)
  unfold mm_fair at h
  refine lv_aload_n hx hb dX2_fair_0 rfl (lv_at hl 0 rfl) ?_
  obtain ⟨M1, e1, h⟩ := g_bd h
  refine m_cV (y := yX2_cut) (rest := []) dX2_fair_1 q3057 q3059 qs57 q3060 hm_cut S hE hM hS hl.1 rfl (wm_cut E l _ _ e1) rfl (Nat.le_of_ble_eq_true rfl) ⟨Nat.le_of_ble_eq_true rfl, Nat.le_of_ble_eq_true rfl⟩ ⟨Nat.le_refl 0, Nat.le_refl 0⟩ (fun H locs hM hS => ?_)
  exact L4 gF M1 _ _ _ h hM hS (lv_sub hl [0] rfl)
theorem hm_begin : yX2_begin.cls = RX2 ∧ yX2_begin.cls ≠ "java/lang/invoke/MethodHandle" ∧ yX2_begin.cls ≠ "java/lang/invoke/VarHandle" ∧ (parseMethodDescriptor yX2_begin.desc).map (fun d => d.parameters.length) = some 0 := by decide +kernel
set_option maxHeartbeats 4000000 in
set_option maxRecDepth 100000 in
theorem wm_begin (E : gX) (l : Launch) (M M' : MM) (h : mm_begin M = some M') : gMet E l yX2_begin cX2_begin 2 none 1 0 0 (gx_A E) [.ref (gx_m E)] (gM E M) (gM E M') none := by
  refine gMet.of (own := RX2) (by decide +kernel) (Nat.le_of_ble_eq_true rfl) rfl ?_
  intro p e s m args below meth c S hr hk hnm hE hM hS ls hl
  have hl : lv_has ls 2 [(0, .ref (gx_m E))] := hl
  have hx := S.1
  have hb := S.2.1
  have L201 : ∀ (n : Nat) (x1 : Int32) (M : MM) (H : Heap) (locs : List Loc) (ls : Array Slot), mm_begin_L201 n x1 M = some M' → gM E M H → va_S (gx_A E) s.heap H locs → lv_has ls 2 [(0, .ref (gx_m E)), (1, .int x1)] → W p l e (gRm 1 0 0) s m args below meth c H locs 0 0 (MQ below (gQ none (gM E M') (gx_A E)) args s 0 0 (gx_A E)) (F0 m 201 ls []) := by
    intro n201
    induction n201 with
    | zero =>
      intro x1 M H locs ls h
      cases h
    | succ n201 ih201 =>
      intro x1 M H locs ls h hM hS hl
      have h : mm_begin_B201 (mm_begin_L201 n201) x1 M = some M' := h
      unfold mm_begin_B201 at h
      refine lv_iload_n hx hb dX2_begin_201 rfl (lv_at hl 1 rfl) ?_
      refine lv_bipush (v := 8) hx hb dX2_begin_202 (by decide) ?_
      refine lv_icmp_ge (tgt := 220) hx hb dX2_begin_204 (by decide) (fun c204 => ?_) (fun c204 => ?_)
      · have h := g_it c204 h
        refine lv_aload_n hx hb dX2_begin_220 rfl (lv_at hl 0 rfl) ?_
        refine lv_iconst (v := 0) hx hb dX2_begin_221 (by decide) ?_
        obtain ⟨M222, e222, h⟩ := g_bd h
        refine mp_clock dX2_begin_222 S hE hM hS e222 (fun H locs hM hS => ?_)
        refine lv_aload_n hx hb dX2_begin_225 rfl (lv_at hl 0 rfl) ?_
        refine lv_iconst (v := 0) hx hb dX2_begin_226 (by decide) ?_
        obtain ⟨M227, e227, h⟩ := g_bd h
        refine mp_wind dX2_begin_227 S hE hM hS e227 (fun H locs hM hS => ?_)
        refine lv_aload_n hx hb dX2_begin_230 rfl (lv_at hl 0 rfl) ?_
        refine lv_iconst (v := 0) hx hb dX2_begin_231 (by decide) ?_
        obtain ⟨M232, e232, h⟩ := g_bd h
        refine mp_served dX2_begin_232 S hE hM hS e232 (fun H locs hM hS => ?_)
        refine lv_aload_n hx hb dX2_begin_235 rfl (lv_at hl 0 rfl) ?_
        refine lv_iconst (v := 0) hx hb dX2_begin_236 (by decide) ?_
        obtain ⟨M237, e237, h⟩ := g_bd h
        refine mp_gone dX2_begin_237 S hE hM hS e237 (fun H locs hM hS => ?_)
        refine lv_aload_n hx hb dX2_begin_240 rfl (lv_at hl 0 rfl) ?_
        refine lv_iconst (v := 0) hx hb dX2_begin_241 (by decide) ?_
        obtain ⟨M242, e242, h⟩ := g_bd h
        refine mp_waited dX2_begin_242 S hE hM hS e242 (fun H locs hM hS => ?_)
        refine lv_aload_n hx hb dX2_begin_245 rfl (lv_at hl 0 rfl) ?_
        refine lv_iconst (v := 0) hx hb dX2_begin_246 (by decide) ?_
        obtain ⟨M247, e247, h⟩ := g_bd h
        refine mp_logged dX2_begin_247 S hE hM hS e247 (fun H locs hM hS => ?_)
        exact m_vretW dX2_begin_250 S hr hk hM hS h
      · have h := g_if c204 h
        refine lv_aload_n hx hb dX2_begin_207 rfl (lv_at hl 0 rfl) ?_
        refine ma_isUp dX2_begin_208 S hE hM ?_
        refine lv_iload_n hx hb dX2_begin_211 rfl (lv_at hl 1 rfl) ?_
        refine lv_iconst (v := 0) hx hb dX2_begin_212 (by decide) ?_
        obtain ⟨M213, e213, h⟩ := g_bd h
        refine m_zst 75 dX2_begin_213 (by decide) rfl S hE hM hS e213 (fun H locs hM hS => ?_)
        refine lv_iinc (k := 1) (v := (x1 + 1)) (lv' := [(1, .int (x1 + 1)), (0, .ref (gx_m E))]) hx hb dX2_begin_214 hl rfl rfl (by decide) rfl (fun ls hl => ?_)
        refine lv_goto (tgt := 201) hx hb dX2_begin_217 (by decide) ?_
        exact ih201 (x1 + 1) M213 _ _ _ h hM hS (lv_sub hl [1, 0] rfl)
  have L175 : ∀ (n : Nat) (x1 : Int32) (M : MM) (H : Heap) (locs : List Loc) (ls : Array Slot), mm_begin_L175 n x1 M = some M' → gM E M H → va_S (gx_A E) s.heap H locs → lv_has ls 2 [(0, .ref (gx_m E)), (1, .int x1)] → W p l e (gRm 1 0 0) s m args below meth c H locs 0 0 (MQ below (gQ none (gM E M') (gx_A E)) args s 0 0 (gx_A E)) (F0 m 175 ls []) := by
    intro n175
    induction n175 with
    | zero =>
      intro x1 M H locs ls h
      cases h
    | succ n175 ih175 =>
      intro x1 M H locs ls h hM hS hl
      have h : mm_begin_B175 (mm_begin_L175 n175) x1 M = some M' := h
      unfold mm_begin_B175 at h
      refine lv_iload_n hx hb dX2_begin_175 rfl (lv_at hl 1 rfl) ?_
      refine lv_bipush (v := 6) hx hb dX2_begin_176 (by decide) ?_
      refine lv_icmp_ge (tgt := 199) hx hb dX2_begin_178 (by decide) (fun c178 => ?_) (fun c178 => ?_)
      · have h := g_it c178 h
        refine lv_iconst (v := 0) hx hb dX2_begin_199 (by decide) ?_
        refine lv_istore_n (lv' := [(1, .int 0), (0, .ref (gx_m E))]) hx hb dX2_begin_200 rfl hl (by decide) rfl (fun ls hl => ?_)
        exact L201 gF 0 M _ _ _ h hM hS (lv_sub hl [1, 0] rfl)
      · have h := g_if c178 h
        refine lv_aload_n hx hb dX2_begin_181 rfl (lv_at hl 0 rfl) ?_
        refine ma_idle dX2_begin_182 S hE hM ?_
        refine lv_iload_n hx hb dX2_begin_185 rfl (lv_at hl 1 rfl) ?_
        refine lv_aload_n hx hb dX2_begin_186 rfl (lv_at hl 0 rfl) ?_
        refine ma_staffAll dX2_begin_187 S hE hM ?_
        refine lv_iload_n hx hb dX2_begin_190 rfl (lv_at hl 1 rfl) ?_
        obtain ⟨v191, e191, h⟩ := g_bd h
        refine m_ald 34 dX2_begin_191 (by decide) rfl S hE hM e191 ?_
        obtain ⟨M192, e192, h⟩ := g_bd h
        refine m_ast 74 dX2_begin_192 (by decide) rfl S hE hM hS e192 (fun H locs hM hS => ?_)
        refine lv_iinc (k := 1) (v := (x1 + 1)) (lv' := [(1, .int (x1 + 1)), (0, .ref (gx_m E))]) hx hb dX2_begin_193 hl rfl rfl (by decide) rfl (fun ls hl => ?_)
        refine lv_goto (tgt := 175) hx hb dX2_begin_196 (by decide) ?_
        exact ih175 (x1 + 1) M192 _ _ _ h hM hS (lv_sub hl [1, 0] rfl)
  have L154 : ∀ (n : Nat) (x1 : Int32) (M : MM) (H : Heap) (locs : List Loc) (ls : Array Slot), mm_begin_L154 n x1 M = some M' → gM E M H → va_S (gx_A E) s.heap H locs → lv_has ls 2 [(0, .ref (gx_m E)), (1, .int x1)] → W p l e (gRm 1 0 0) s m args below meth c H locs 0 0 (MQ below (gQ none (gM E M') (gx_A E)) args s 0 0 (gx_A E)) (F0 m 154 ls []) := by
    intro n154
    induction n154 with
    | zero =>
      intro x1 M H locs ls h
      cases h
    | succ n154 ih154 =>
      intro x1 M H locs ls h hM hS hl
      have h : mm_begin_B154 (mm_begin_L154 n154) x1 M = some M' := h
      unfold mm_begin_B154 at h
      refine lv_iload_n hx hb dX2_begin_154 rfl (lv_at hl 1 rfl) ?_
      refine lv_bipush (v := 72) hx hb dX2_begin_155 (by decide) ?_
      refine lv_icmp_ge (tgt := 173) hx hb dX2_begin_157 (by decide) (fun c157 => ?_) (fun c157 => ?_)
      · have h := g_it c157 h
        refine lv_iconst (v := 0) hx hb dX2_begin_173 (by decide) ?_
        refine lv_istore_n (lv' := [(1, .int 0), (0, .ref (gx_m E))]) hx hb dX2_begin_174 rfl hl (by decide) rfl (fun ls hl => ?_)
        exact L175 gF 0 M _ _ _ h hM hS (lv_sub hl [1, 0] rfl)
      · have h := g_if c157 h
        refine lv_aload_n hx hb dX2_begin_160 rfl (lv_at hl 0 rfl) ?_
        refine ma_holds dX2_begin_161 S hE hM ?_
        refine lv_iload_n hx hb dX2_begin_164 rfl (lv_at hl 1 rfl) ?_
        refine lv_iconst (v := 0) hx hb dX2_begin_165 (by decide) ?_
        obtain ⟨M166, e166, h⟩ := g_bd h
        refine m_ast 73 dX2_begin_166 (by decide) rfl S hE hM hS e166 (fun H locs hM hS => ?_)
        refine lv_iinc (k := 1) (v := (x1 + 1)) (lv' := [(1, .int (x1 + 1)), (0, .ref (gx_m E))]) hx hb dX2_begin_167 hl rfl rfl (by decide) rfl (fun ls hl => ?_)
        refine lv_goto (tgt := 154) hx hb dX2_begin_170 (by decide) ?_
        exact ih154 (x1 + 1) M166 _ _ _ h hM hS (lv_sub hl [1, 0] rfl)
  have L133 : ∀ (n : Nat) (x1 : Int32) (M : MM) (H : Heap) (locs : List Loc) (ls : Array Slot), mm_begin_L133 n x1 M = some M' → gM E M H → va_S (gx_A E) s.heap H locs → lv_has ls 2 [(0, .ref (gx_m E)), (1, .int x1)] → W p l e (gRm 1 0 0) s m args below meth c H locs 0 0 (MQ below (gQ none (gM E M') (gx_A E)) args s 0 0 (gx_A E)) (F0 m 133 ls []) := by
    intro n133
    induction n133 with
    | zero =>
      intro x1 M H locs ls h
      cases h
    | succ n133 ih133 =>
      intro x1 M H locs ls h hM hS hl
      have h : mm_begin_B133 (mm_begin_L133 n133) x1 M = some M' := h
      unfold mm_begin_B133 at h
      refine lv_iload_n hx hb dX2_begin_133 rfl (lv_at hl 1 rfl) ?_
      refine lv_bipush (v := 48) hx hb dX2_begin_134 (by decide) ?_
      refine lv_icmp_ge (tgt := 152) hx hb dX2_begin_136 (by decide) (fun c136 => ?_) (fun c136 => ?_)
      · have h := g_it c136 h
        refine lv_iconst (v := 0) hx hb dX2_begin_152 (by decide) ?_
        refine lv_istore_n (lv' := [(1, .int 0), (0, .ref (gx_m E))]) hx hb dX2_begin_153 rfl hl (by decide) rfl (fun ls hl => ?_)
        exact L154 gF 0 M _ _ _ h hM hS (lv_sub hl [1, 0] rfl)
      · have h := g_if c136 h
        refine lv_aload_n hx hb dX2_begin_139 rfl (lv_at hl 0 rfl) ?_
        refine ma_register dX2_begin_140 S hE hM ?_
        refine lv_iload_n hx hb dX2_begin_143 rfl (lv_at hl 1 rfl) ?_
        refine lv_iconst (v := 0) hx hb dX2_begin_144 (by decide) ?_
        obtain ⟨M145, e145, h⟩ := g_bd h
        refine m_ast 71 dX2_begin_145 (by decide) rfl S hE hM hS e145 (fun H locs hM hS => ?_)
        refine lv_iinc (k := 1) (v := (x1 + 1)) (lv' := [(1, .int (x1 + 1)), (0, .ref (gx_m E))]) hx hb dX2_begin_146 hl rfl rfl (by decide) rfl (fun ls hl => ?_)
        refine lv_goto (tgt := 133) hx hb dX2_begin_149 (by decide) ?_
        exact ih133 (x1 + 1) M145 _ _ _ h hM hS (lv_sub hl [1, 0] rfl)
  have L2 : ∀ (n : Nat) (x1 : Int32) (M : MM) (H : Heap) (locs : List Loc) (ls : Array Slot), mm_begin_L2 n x1 M = some M' → gM E M H → va_S (gx_A E) s.heap H locs → lv_has ls 2 [(0, .ref (gx_m E)), (1, .int x1)] → W p l e (gRm 1 0 0) s m args below meth c H locs 0 0 (MQ below (gQ none (gM E M') (gx_A E)) args s 0 0 (gx_A E)) (F0 m 2 ls []) := by
    intro n2
    induction n2 with
    | zero =>
      intro x1 M H locs ls h
      cases h
    | succ n2 ih2 =>
      intro x1 M H locs ls h hM hS hl
      have h : mm_begin_B2 (mm_begin_L2 n2) x1 M = some M' := h
      unfold mm_begin_B2 at h
      refine lv_iload_n hx hb dX2_begin_2 rfl (lv_at hl 1 rfl) ?_
      refine lv_bipush (v := 12) hx hb dX2_begin_3 (by decide) ?_
      refine lv_icmp_ge (tgt := 131) hx hb dX2_begin_5 (by decide) (fun c5 => ?_) (fun c5 => ?_)
      · have h := g_it c5 h
        refine lv_iconst (v := 0) hx hb dX2_begin_131 (by decide) ?_
        refine lv_istore_n (lv' := [(1, .int 0), (0, .ref (gx_m E))]) hx hb dX2_begin_132 rfl hl (by decide) rfl (fun ls hl => ?_)
        exact L133 gF 0 M _ _ _ h hM hS (lv_sub hl [1, 0] rfl)
      · have h := g_if c5 h
        refine lv_aload_n hx hb dX2_begin_8 rfl (lv_at hl 0 rfl) ?_
        refine ma_speed dX2_begin_9 S hE hM ?_
        refine lv_iload_n hx hb dX2_begin_12 rfl (lv_at hl 1 rfl) ?_
        refine lv_iconst (v := 0) hx hb dX2_begin_13 (by decide) ?_
        obtain ⟨M14, e14, h⟩ := g_bd h
        refine m_ast 56 dX2_begin_14 (by decide) rfl S hE hM hS e14 (fun H locs hM hS => ?_)
        refine lv_aload_n hx hb dX2_begin_15 rfl (lv_at hl 0 rfl) ?_
        refine ma_goal dX2_begin_16 S hE hM ?_
        refine lv_iload_n hx hb dX2_begin_19 rfl (lv_at hl 1 rfl) ?_
        refine lv_iconst (v := 0) hx hb dX2_begin_20 (by decide) ?_
        obtain ⟨M21, e21, h⟩ := g_bd h
        refine m_ast 57 dX2_begin_21 (by decide) rfl S hE hM hS e21 (fun H locs hM hS => ?_)
        refine lv_aload_n hx hb dX2_begin_22 rfl (lv_at hl 0 rfl) ?_
        refine ma_height dX2_begin_23 S hE hM ?_
        refine lv_iload_n hx hb dX2_begin_26 rfl (lv_at hl 1 rfl) ?_
        refine lv_iconst (v := 0) hx hb dX2_begin_27 (by decide) ?_
        obtain ⟨M28, e28, h⟩ := g_bd h
        refine m_ast 58 dX2_begin_28 (by decide) rfl S hE hM hS e28 (fun H locs hM hS => ?_)
        refine lv_aload_n hx hb dX2_begin_29 rfl (lv_at hl 0 rfl) ?_
        refine ma_lift dX2_begin_30 S hE hM ?_
        refine lv_iload_n hx hb dX2_begin_33 rfl (lv_at hl 1 rfl) ?_
        refine lv_iconst (v := 0) hx hb dX2_begin_34 (by decide) ?_
        obtain ⟨M35, e35, h⟩ := g_bd h
        refine m_ast 59 dX2_begin_35 (by decide) rfl S hE hM hS e35 (fun H locs hM hS => ?_)
        refine lv_aload_n hx hb dX2_begin_36 rfl (lv_at hl 0 rfl) ?_
        refine ma_moved dX2_begin_37 S hE hM ?_
        refine lv_iload_n hx hb dX2_begin_40 rfl (lv_at hl 1 rfl) ?_
        refine lv_iconst (v := 0) hx hb dX2_begin_41 (by decide) ?_
        obtain ⟨M42, e42, h⟩ := g_bd h
        refine m_ast 60 dX2_begin_42 (by decide) rfl S hE hM hS e42 (fun H locs hM hS => ?_)
        refine lv_aload_n hx hb dX2_begin_43 rfl (lv_at hl 0 rfl) ?_
        refine ma_aboard dX2_begin_44 S hE hM ?_
        refine lv_iload_n hx hb dX2_begin_47 rfl (lv_at hl 1 rfl) ?_
        refine lv_iconst (v := 0) hx hb dX2_begin_48 (by decide) ?_
        obtain ⟨M49, e49, h⟩ := g_bd h
        refine m_ast 61 dX2_begin_49 (by decide) rfl S hE hM hS e49 (fun H locs hM hS => ?_)
        refine lv_aload_n hx hb dX2_begin_50 rfl (lv_at hl 0 rfl) ?_
        refine ma_glow dX2_begin_51 S hE hM ?_
        refine lv_iload_n hx hb dX2_begin_54 rfl (lv_at hl 1 rfl) ?_
        refine lv_iconst (v := 0) hx hb dX2_begin_55 (by decide) ?_
        obtain ⟨M56, e56, h⟩ := g_bd h
        refine m_ast 62 dX2_begin_56 (by decide) rfl S hE hM hS e56 (fun H locs hM hS => ?_)
        refine lv_aload_n hx hb dX2_begin_57 rfl (lv_at hl 0 rfl) ?_
        refine ma_volume dX2_begin_58 S hE hM ?_
        refine lv_iload_n hx hb dX2_begin_61 rfl (lv_at hl 1 rfl) ?_
        refine lv_iconst (v := 0) hx hb dX2_begin_62 (by decide) ?_
        obtain ⟨M63, e63, h⟩ := g_bd h
        refine m_ast 63 dX2_begin_63 (by decide) rfl S hE hM hS e63 (fun H locs hM hS => ?_)
        refine lv_aload_n hx hb dX2_begin_64 rfl (lv_at hl 0 rfl) ?_
        refine ma_wear dX2_begin_65 S hE hM ?_
        refine lv_iload_n hx hb dX2_begin_68 rfl (lv_at hl 1 rfl) ?_
        refine lv_iconst (v := 0) hx hb dX2_begin_69 (by decide) ?_
        obtain ⟨M70, e70, h⟩ := g_bd h
        refine m_ast 64 dX2_begin_70 (by decide) rfl S hE hM hS e70 (fun H locs hM hS => ?_)
        refine lv_aload_n hx hb dX2_begin_71 rfl (lv_at hl 0 rfl) ?_
        refine ma_state dX2_begin_72 S hE hM ?_
        refine lv_iload_n hx hb dX2_begin_75 rfl (lv_at hl 1 rfl) ?_
        refine lv_iconst (v := 0) hx hb dX2_begin_76 (by decide) ?_
        obtain ⟨M77, e77, h⟩ := g_bd h
        refine m_ast 65 dX2_begin_77 (by decide) rfl S hE hM hS e77 (fun H locs hM hS => ?_)
        refine lv_aload_n hx hb dX2_begin_78 rfl (lv_at hl 0 rfl) ?_
        refine ma_why dX2_begin_79 S hE hM ?_
        refine lv_iload_n hx hb dX2_begin_82 rfl (lv_at hl 1 rfl) ?_
        refine lv_iconst (v := 0) hx hb dX2_begin_83 (by decide) ?_
        obtain ⟨M84, e84, h⟩ := g_bd h
        refine m_ast 66 dX2_begin_84 (by decide) rfl S hE hM hS e84 (fun H locs hM hS => ?_)
        refine lv_aload_n hx hb dX2_begin_85 rfl (lv_at hl 0 rfl) ?_
        refine ma_next dX2_begin_86 S hE hM ?_
        refine lv_iload_n hx hb dX2_begin_89 rfl (lv_at hl 1 rfl) ?_
        refine lv_aload_n hx hb dX2_begin_90 rfl (lv_at hl 0 rfl) ?_
        refine ma_start dX2_begin_91 S hE hM ?_
        refine lv_iload_n hx hb dX2_begin_94 rfl (lv_at hl 1 rfl) ?_
        obtain ⟨v95, e95, h⟩ := g_bd h
        refine m_ald 33 dX2_begin_95 (by decide) rfl S hE hM e95 ?_
        obtain ⟨M96, e96, h⟩ := g_bd h
        refine m_ast 67 dX2_begin_96 (by decide) rfl S hE hM hS e96 (fun H locs hM hS => ?_)
        refine lv_aload_n hx hb dX2_begin_97 rfl (lv_at hl 0 rfl) ?_
        refine ma_counted dX2_begin_98 S hE hM ?_
        refine lv_iload_n hx hb dX2_begin_101 rfl (lv_at hl 1 rfl) ?_
        refine lv_iconst (v := 0) hx hb dX2_begin_102 (by decide) ?_
        obtain ⟨M103, e103, h⟩ := g_bd h
        refine m_ast 68 dX2_begin_103 (by decide) rfl S hE hM hS e103 (fun H locs hM hS => ?_)
        refine lv_aload_n hx hb dX2_begin_104 rfl (lv_at hl 0 rfl) ?_
        refine ma_left dX2_begin_105 S hE hM ?_
        refine lv_iload_n hx hb dX2_begin_108 rfl (lv_at hl 1 rfl) ?_
        refine lv_iconst (v := 0) hx hb dX2_begin_109 (by decide) ?_
        obtain ⟨M110, e110, h⟩ := g_bd h
        refine m_ast 69 dX2_begin_110 (by decide) rfl S hE hM hS e110 (fun H locs hM hS => ?_)
        refine lv_aload_n hx hb dX2_begin_111 rfl (lv_at hl 0 rfl) ?_
        refine ma_begun dX2_begin_112 S hE hM ?_
        refine lv_iload_n hx hb dX2_begin_115 rfl (lv_at hl 1 rfl) ?_
        refine lv_iconst (v := 0) hx hb dX2_begin_116 (by decide) ?_
        obtain ⟨M117, e117, h⟩ := g_bd h
        refine m_ast 70 dX2_begin_117 (by decide) rfl S hE hM hS e117 (fun H locs hM hS => ?_)
        refine lv_aload_n hx hb dX2_begin_118 rfl (lv_at hl 0 rfl) ?_
        refine ma_groups dX2_begin_119 S hE hM ?_
        refine lv_iload_n hx hb dX2_begin_122 rfl (lv_at hl 1 rfl) ?_
        refine lv_iconst (v := 0) hx hb dX2_begin_123 (by decide) ?_
        obtain ⟨M124, e124, h⟩ := g_bd h
        refine m_ast 76 dX2_begin_124 (by decide) rfl S hE hM hS e124 (fun H locs hM hS => ?_)
        refine lv_iinc (k := 1) (v := (x1 + 1)) (lv' := [(1, .int (x1 + 1)), (0, .ref (gx_m E))]) hx hb dX2_begin_125 hl rfl rfl (by decide) rfl (fun ls hl => ?_)
        refine lv_goto (tgt := 2) hx hb dX2_begin_128 (by decide) ?_
        exact ih2 (x1 + 1) M124 _ _ _ h hM hS (lv_sub hl [1, 0] rfl)
  unfold mm_begin at h
  refine lv_iconst (v := 0) hx hb dX2_begin_0 (by decide) ?_
  refine lv_istore_n (lv' := [(1, .int 0), (0, .ref (gx_m E))]) hx hb dX2_begin_1 rfl hl (by decide) rfl (fun ls hl => ?_)
  exact L2 gF 0 M _ _ _ h hM hS (lv_sub hl [1, 0] rfl)
theorem hm_read : yX2_read.cls = RX2 ∧ yX2_read.cls ≠ "java/lang/invoke/MethodHandle" ∧ yX2_read.cls ≠ "java/lang/invoke/VarHandle" ∧ (parseMethodDescriptor yX2_read.desc).map (fun d => d.parameters.length) = some 1 := by decide +kernel
set_option maxHeartbeats 4000000 in
set_option maxRecDepth 100000 in
theorem wm_read (E : gX) (l : Launch) (x1 : Int32) (r : Int32) (M M' : MM) (h : mm_read x1 M = some (r, M')) : gMet E l yX2_read cX2_read 3 (some .int) 140 0 0 (gx_A E) [.ref (gx_m E), .int x1] (gM E M) (gM E M') (some (.int r)) := by
  refine gMet.of (own := RX2) (by decide +kernel) (Nat.le_of_ble_eq_true rfl) rfl ?_
  intro p e s m args below meth c S hr hk hnm hE hM hS ls hl
  have hl : lv_has ls 3 [(0, .ref (gx_m E)), (1, .int x1)] := hl
  have hx := S.1
  have hb := S.2.1
  have J144 : ∀ (s1 : Int32) (M : MM) (H : Heap) (locs : List Loc) (ls : Array Slot), mm_read_J144 s1 M = some (r, M') → gM E M H → va_S (gx_A E) s.heap H locs → lv_has ls 3 [(0, .ref (gx_m E))] → W p l e (gRm 140 0 0) s m args below meth c H locs 0 0 (MQ below (gQ (some (.int r)) (gM E M') (gx_A E)) args s 0 0 (gx_A E)) (F0 m 144 ls [.int s1, .ref (gx_m E)]) := by
    intro s1 M H locs ls h hM hS hl
    unfold mm_read_J144 at h
    obtain ⟨M144, e144, h⟩ := g_bd h
    refine mp_isOpen dX2_read_144 S hE hM hS e144 (fun H locs hM hS => ?_)
    refine lv_aload_n hx hb dX2_read_147 rfl (lv_at hl 0 rfl) ?_
    refine mg_isOpen dX2_read_148 S hE hM ?_
    refine lv_if_eq (tgt := 158) hx hb dX2_read_151 (by decide) (fun c151 => ?_) (fun c151 => ?_)
    · have h := g_it c151 h
      refine lv_aload_n hx hb dX2_read_158 rfl (lv_at hl 0 rfl) ?_
      refine mg_fault dX2_read_159 S hE hM ?_
      exact m_iretW dX2_read_162 S hr hk hM hS h
    · have h := g_if c151 h
      refine lv_aload_n hx hb dX2_read_154 rfl (lv_at hl 0 rfl) ?_
      obtain ⟨M155, e155, h⟩ := g_bd h
      refine m_cV (y := yX2_begin) (rest := []) dX2_read_155 q3188 q3190 qs87 q3191 hm_begin S hE hM hS hl.1 rfl (wm_begin E l _ _ e155) rfl (Nat.le_of_ble_eq_true rfl) ⟨Nat.le_of_ble_eq_true rfl, Nat.le_of_ble_eq_true rfl⟩ ⟨Nat.le_refl 0, Nat.le_refl 0⟩ (fun H locs hM hS => ?_)
      refine lv_aload_n hx hb dX2_read_158 rfl (lv_at hl 0 rfl) ?_
      refine mg_fault dX2_read_159 S hE hM ?_
      exact m_iretW dX2_read_162 S hr hk hM hS h
  have L32 : ∀ (n : Nat) (x1 x2 : Int32) (M : MM) (H : Heap) (locs : List Loc) (ls : Array Slot), mm_read_L32 n x1 x2 M = some (r, M') → gM E M H → va_S (gx_A E) s.heap H locs → lv_has ls 3 [(0, .ref (gx_m E)), (1, .int x1), (2, .int x2)] → W p l e (gRm 140 0 0) s m args below meth c H locs 0 0 (MQ below (gQ (some (.int r)) (gM E M') (gx_A E)) args s 0 0 (gx_A E)) (F0 m 32 ls []) := by
    intro n32
    induction n32 with
    | zero =>
      intro x1 x2 M H locs ls h
      cases h
    | succ n32 ih32 =>
      intro x1 x2 M H locs ls h hM hS hl
      have h : mm_read_B32 (mm_read_L32 n32) x1 x2 M = some (r, M') := h
      unfold mm_read_B32 at h
      refine lv_iload_n hx hb dX2_read_32 rfl (lv_at hl 2 rfl) ?_
      refine lv_iload_n hx hb dX2_read_33 rfl (lv_at hl 1 rfl) ?_
      refine lv_icmp_ge (tgt := 55) hx hb dX2_read_34 (by decide) (fun c34 => ?_) (fun c34 => ?_)
      · have h := g_it c34 h
        refine lv_aload_n hx hb dX2_read_55 rfl (lv_at hl 0 rfl) ?_
        refine lv_iload_n hx hb dX2_read_56 rfl (lv_at hl 1 rfl) ?_
        obtain ⟨M57, e57, h⟩ := g_bd h
        refine mp_size dX2_read_57 S hE hM hS e57 (fun H locs hM hS => ?_)
        refine lv_aload_n hx hb dX2_read_60 rfl (lv_at hl 0 rfl) ?_
        refine lv_iconst (v := 0) hx hb dX2_read_61 (by decide) ?_
        obtain ⟨M62, e62, h⟩ := g_bd h
        refine mp_taped dX2_read_62 S hE hM hS e62 (fun H locs hM hS => ?_)
        refine lv_aload_n hx hb dX2_read_65 rfl (lv_at hl 0 rfl) ?_
        refine lv_iconst (v := 0) hx hb dX2_read_66 (by decide) ?_
        obtain ⟨M67, e67, h⟩ := g_bd h
        refine mp_at dX2_read_67 S hE hM hS e67 (fun H locs hM hS => ?_)
        refine lv_aload_n hx hb dX2_read_70 rfl (lv_at hl 0 rfl) ?_
        refine lv_iconst (v := 0) hx hb dX2_read_71 (by decide) ?_
        obtain ⟨M72, e72, h⟩ := g_bd h
        refine mp_fault dX2_read_72 S hE hM hS e72 (fun H locs hM hS => ?_)
        refine lv_aload_n hx hb dX2_read_75 rfl (lv_at hl 0 rfl) ?_
        refine lv_iconst (v := (-1)) hx hb dX2_read_76 (by decide) ?_
        obtain ⟨M77, e77, h⟩ := g_bd h
        refine mp_faultPlace dX2_read_77 S hE hM hS e77 (fun H locs hM hS => ?_)
        refine lv_aload_n hx hb dX2_read_80 rfl (lv_at hl 0 rfl) ?_
        refine lv_iconst (v := 0) hx hb dX2_read_81 (by decide) ?_
        obtain ⟨M82, e82, h⟩ := g_bd h
        refine mp_names dX2_read_82 S hE hM hS e82 (fun H locs hM hS => ?_)
        refine lv_aload_n hx hb dX2_read_85 rfl (lv_at hl 0 rfl) ?_
        refine lv_iconst (v := 0) hx hb dX2_read_86 (by decide) ?_
        obtain ⟨M87, e87, h⟩ := g_bd h
        refine mp_rides dX2_read_87 S hE hM hS e87 (fun H locs hM hS => ?_)
        refine lv_aload_n hx hb dX2_read_90 rfl (lv_at hl 0 rfl) ?_
        refine lv_iconst (v := 0) hx hb dX2_read_91 (by decide) ?_
        obtain ⟨M92, e92, h⟩ := g_bd h
        refine mp_staff dX2_read_92 S hE hM hS e92 (fun H locs hM hS => ?_)
        refine lv_aload_n hx hb dX2_read_95 rfl (lv_at hl 0 rfl) ?_
        refine lv_iconst (v := 0) hx hb dX2_read_96 (by decide) ?_
        obtain ⟨M97, e97, h⟩ := g_bd h
        refine mp_flags dX2_read_97 S hE hM hS e97 (fun H locs hM hS => ?_)
        refine lv_aload_n hx hb dX2_read_100 rfl (lv_at hl 0 rfl) ?_
        refine lv_sipush (v := 9999) hx hb dX2_read_101 (by decide) ?_
        obtain ⟨M104, e104, h⟩ := g_bd h
        refine mp_power dX2_read_104 S hE hM hS e104 (fun H locs hM hS => ?_)
        refine lv_aload_n hx hb dX2_read_107 rfl (lv_at hl 0 rfl) ?_
        refine lv_iconst (v := 0) hx hb dX2_read_108 (by decide) ?_
        obtain ⟨M109, e109, h⟩ := g_bd h
        refine mp_hasPower dX2_read_109 S hE hM hS e109 (fun H locs hM hS => ?_)
        refine lv_aload_n hx hb dX2_read_112 rfl (lv_at hl 0 rfl) ?_
        refine lv_iconst (v := 0) hx hb dX2_read_113 (by decide) ?_
        obtain ⟨M114, e114, h⟩ := g_bd h
        refine mp_ops dX2_read_114 S hE hM hS e114 (fun H locs hM hS => ?_)
        refine lv_aload_n hx hb dX2_read_117 rfl (lv_at hl 0 rfl) ?_
        refine lv_iconst (v := 0) hx hb dX2_read_118 (by decide) ?_
        obtain ⟨M119, e119, h⟩ := g_bd h
        refine mp_codes dX2_read_119 S hE hM hS e119 (fun H locs hM hS => ?_)
        refine lv_aload_n hx hb dX2_read_122 rfl (lv_at hl 0 rfl) ?_
        refine lv_iconst (v := 0) hx hb dX2_read_123 (by decide) ?_
        obtain ⟨M124, e124, h⟩ := g_bd h
        refine mp_asks dX2_read_124 S hE hM hS e124 (fun H locs hM hS => ?_)
        refine lv_aload_n hx hb dX2_read_127 rfl (lv_at hl 0 rfl) ?_
        obtain ⟨M128, e128, h⟩ := g_bd h
        refine m_cV (y := yX2_fair) (rest := []) dX2_read_128 q3053 q3055 qs56 q3056 hm_fair S hE hM hS hl.1 rfl (wm_fair E l _ _ e128) rfl (Nat.le_of_ble_eq_true rfl) ⟨Nat.le_of_ble_eq_true rfl, Nat.le_of_ble_eq_true rfl⟩ ⟨Nat.le_refl 0, Nat.le_refl 0⟩ (fun H locs hM hS => ?_)
        refine lv_aload_n hx hb dX2_read_131 rfl (lv_at hl 0 rfl) ?_
        refine lv_aload_n hx hb dX2_read_132 rfl (lv_at hl 0 rfl) ?_
        refine mg_fault dX2_read_133 S hE hM ?_
        refine lv_if_ne (tgt := 143) hx hb dX2_read_136 (by decide) (fun c136 => ?_) (fun c136 => ?_)
        · have h := g_if c136 h
          refine lv_iconst (v := 0) hx hb dX2_read_143 (by decide) ?_
          exact J144 0 M128 _ _ _ h hM hS (lv_sub hl [0] rfl)
        · have h := g_it c136 h
          refine lv_iconst (v := 1) hx hb dX2_read_139 (by decide) ?_
          refine lv_goto (tgt := 144) hx hb dX2_read_140 (by decide) ?_
          exact J144 1 M128 _ _ _ h hM hS (lv_sub hl [0] rfl)
      · have h := g_if c34 h
        refine lv_aload_n hx hb dX2_read_37 rfl (lv_at hl 0 rfl) ?_
        refine ma_text dX2_read_38 S hE hM ?_
        refine lv_iload_n hx hb dX2_read_41 rfl (lv_at hl 2 rfl) ?_
        refine lv_aload_n hx hb dX2_read_42 rfl (lv_at hl 0 rfl) ?_
        refine ma_tape dX2_read_43 S hE hM ?_
        refine lv_iload_n hx hb dX2_read_46 rfl (lv_at hl 2 rfl) ?_
        obtain ⟨v47, e47, h⟩ := g_bd h
        refine m_ald 2 dX2_read_47 (by decide) rfl S hE hM e47 ?_
        obtain ⟨M48, e48, h⟩ := g_bd h
        refine m_ast 4 dX2_read_48 (by decide) rfl S hE hM hS e48 (fun H locs hM hS => ?_)
        refine lv_iinc (k := 2) (v := (x2 + 1)) (lv' := [(2, .int (x2 + 1)), (0, .ref (gx_m E)), (1, .int x1)]) hx hb dX2_read_49 hl rfl rfl (by decide) rfl (fun ls hl => ?_)
        refine lv_goto (tgt := 32) hx hb dX2_read_52 (by decide) ?_
        exact ih32 x1 (x2 + 1) M48 _ _ _ h hM hS (lv_sub hl [1, 2, 0] rfl)
  have J18 : ∀ (x1 s1 : Int32) (M : MM) (H : Heap) (locs : List Loc) (ls : Array Slot), mm_read_J18 x1 s1 M = some (r, M') → gM E M H → va_S (gx_A E) s.heap H locs → lv_has ls 3 [(0, .ref (gx_m E)), (1, .int x1)] → W p l e (gRm 140 0 0) s m args below meth c H locs 0 0 (MQ below (gQ (some (.int r)) (gM E M') (gx_A E)) args s 0 0 (gx_A E)) (F0 m 18 ls [.int s1, .ref (gx_m E)]) := by
    intro x1 s1 M H locs ls h hM hS hl
    unfold mm_read_J18 at h
    obtain ⟨M18, e18, h⟩ := g_bd h
    refine mp_thrown dX2_read_18 S hE hM hS e18 (fun H locs hM hS => ?_)
    refine lv_aload_n hx hb dX2_read_21 rfl (lv_at hl 0 rfl) ?_
    refine mg_thrown dX2_read_22 S hE hM ?_
    refine lv_if_eq (tgt := 30) hx hb dX2_read_25 (by decide) (fun c25 => ?_) (fun c25 => ?_)
    · have h := g_it c25 h
      refine lv_iconst (v := 0) hx hb dX2_read_30 (by decide) ?_
      refine lv_istore_n (lv' := [(2, .int 0), (0, .ref (gx_m E)), (1, .int x1)]) hx hb dX2_read_31 rfl hl (by decide) rfl (fun ls hl => ?_)
      exact L32 gF x1 0 M18 _ _ _ h hM hS (lv_sub hl [1, 2, 0] rfl)
    · have h := g_if c25 h
      refine lv_iconst (v := 0) hx hb dX2_read_28 (by decide) ?_
      exact m_iretW dX2_read_29 S hr hk hM hS h
  have J13 : ∀ (x1 : Int32) (M : MM) (H : Heap) (locs : List Loc) (ls : Array Slot), mm_read_J13 x1 M = some (r, M') → gM E M H → va_S (gx_A E) s.heap H locs → lv_has ls 3 [(0, .ref (gx_m E)), (1, .int x1)] → W p l e (gRm 140 0 0) s m args below meth c H locs 0 0 (MQ below (gQ (some (.int r)) (gM E M') (gx_A E)) args s 0 0 (gx_A E)) (F0 m 13 ls [.ref (gx_m E)]) := by
    intro x1 M H locs ls h hM hS hl
    unfold mm_read_J13 at h
    refine lv_iconst (v := 1) hx hb dX2_read_13 (by decide) ?_
    refine lv_goto (tgt := 18) hx hb dX2_read_14 (by decide) ?_
    exact J18 x1 1 M _ _ _ h hM hS (lv_sub hl [0, 1] rfl)
  unfold mm_read at h
  refine lv_aload_n hx hb dX2_read_0 rfl (lv_at hl 0 rfl) ?_
  refine lv_iload_n hx hb dX2_read_1 rfl (lv_at hl 1 rfl) ?_
  refine lv_if_lt (tgt := 13) hx hb dX2_read_2 (by decide) (fun c2 => ?_) (fun c2 => ?_)
  · have h := g_it c2 h
    exact J13 x1 M _ _ _ h hM hS (lv_sub hl [0, 1] rfl)
  · have h := g_if c2 h
    refine lv_iload_n hx hb dX2_read_5 rfl (lv_at hl 1 rfl) ?_
    refine lv_aload_n hx hb dX2_read_6 rfl (lv_at hl 0 rfl) ?_
    refine mg_taped dX2_read_7 S hE hM ?_
    refine lv_icmp_le (tgt := 17) hx hb dX2_read_10 (by decide) (fun c10 => ?_) (fun c10 => ?_)
    · have h := g_it c10 h
      refine lv_iconst (v := 0) hx hb dX2_read_17 (by decide) ?_
      exact J18 x1 0 M _ _ _ h hM hS (lv_sub hl [0, 1] rfl)
    · have h := g_if c10 h
      exact J13 x1 M _ _ _ h hM hS (lv_sub hl [0, 1] rfl)
theorem hm_fault : yX2_fault.cls = RX2 ∧ yX2_fault.cls ≠ "java/lang/invoke/MethodHandle" ∧ yX2_fault.cls ≠ "java/lang/invoke/VarHandle" ∧ (parseMethodDescriptor yX2_fault.desc).map (fun d => d.parameters.length) = some 1 := by decide +kernel
set_option maxHeartbeats 4000000 in
set_option maxRecDepth 100000 in
theorem wm_fault (E : gX) (l : Launch) (x1 : Int32) (r : Int32) (M M' : MM) (h : mm_fault x1 M = some (r, M')) : gMet E l yX2_fault cX2_fault 2 (some .int) 1 0 0 (gx_A E) [.ref (gx_m E), .int x1] (gM E M) (gM E M') (some (.int r)) := by
  refine gMet.of (own := RX2) (by decide +kernel) (Nat.le_of_ble_eq_true rfl) rfl ?_
  intro p e s m args below meth c S hr hk hnm hE hM hS ls hl
  have hl : lv_has ls 2 [(0, .ref (gx_m E)), (1, .int x1)] := hl
  have hx := S.1
  have hb := S.2.1
  have J15 : ∀ (x1 s1 : Int32) (M : MM) (H : Heap) (locs : List Loc) (ls : Array Slot), mm_fault_J15 x1 s1 M = some (r, M') → gM E M H → va_S (gx_A E) s.heap H locs → lv_has ls 2 [(0, .ref (gx_m E)), (1, .int x1)] → W p l e (gRm 1 0 0) s m args below meth c H locs 0 0 (MQ below (gQ (some (.int r)) (gM E M') (gx_A E)) args s 0 0 (gx_A E)) (F0 m 15 ls [.int s1, .ref (gx_m E)]) := by
    intro x1 s1 M H locs ls h hM hS hl
    unfold mm_fault_J15 at h
    obtain ⟨M15, e15, h⟩ := g_bd h
    refine mp_thrown dX2_fault_15 S hE hM hS e15 (fun H locs hM hS => ?_)
    refine lv_aload_n hx hb dX2_fault_18 rfl (lv_at hl 0 rfl) ?_
    refine mg_thrown dX2_fault_19 S hE hM ?_
    refine lv_if_eq (tgt := 29) hx hb dX2_fault_22 (by decide) (fun c22 => ?_) (fun c22 => ?_)
    · have h := g_it c22 h
      refine lv_iload_n hx hb dX2_fault_29 rfl (lv_at hl 1 rfl) ?_
      refine lv_if_ne (tgt := 40) hx hb dX2_fault_30 (by decide) (fun c30 => ?_) (fun c30 => ?_)
      · have h := g_if c30 h
        refine lv_aload_n hx hb dX2_fault_40 rfl (lv_at hl 0 rfl) ?_
        refine mg_faultPlace dX2_fault_41 S hE hM ?_
        exact m_iretW dX2_fault_44 S hr hk hM hS h
      · have h := g_it c30 h
        refine lv_aload_n hx hb dX2_fault_33 rfl (lv_at hl 0 rfl) ?_
        refine mg_fault dX2_fault_34 S hE hM ?_
        refine lv_goto (tgt := 44) hx hb dX2_fault_37 (by decide) ?_
        exact m_iretW dX2_fault_44 S hr hk hM hS h
    · have h := g_if c22 h
      refine lv_iconst (v := 0) hx hb dX2_fault_25 (by decide) ?_
      refine lv_goto (tgt := 44) hx hb dX2_fault_26 (by decide) ?_
      exact m_iretW dX2_fault_44 S hr hk hM hS h
  have J10 : ∀ (x1 : Int32) (M : MM) (H : Heap) (locs : List Loc) (ls : Array Slot), mm_fault_J10 x1 M = some (r, M') → gM E M H → va_S (gx_A E) s.heap H locs → lv_has ls 2 [(0, .ref (gx_m E)), (1, .int x1)] → W p l e (gRm 1 0 0) s m args below meth c H locs 0 0 (MQ below (gQ (some (.int r)) (gM E M') (gx_A E)) args s 0 0 (gx_A E)) (F0 m 10 ls [.ref (gx_m E)]) := by
    intro x1 M H locs ls h hM hS hl
    unfold mm_fault_J10 at h
    refine lv_iconst (v := 0) hx hb dX2_fault_10 (by decide) ?_
    refine lv_goto (tgt := 15) hx hb dX2_fault_11 (by decide) ?_
    exact J15 x1 0 M _ _ _ h hM hS (lv_sub hl [0, 1] rfl)
  unfold mm_fault at h
  refine lv_aload_n hx hb dX2_fault_0 rfl (lv_at hl 0 rfl) ?_
  refine lv_iload_n hx hb dX2_fault_1 rfl (lv_at hl 1 rfl) ?_
  refine lv_if_eq (tgt := 10) hx hb dX2_fault_2 (by decide) (fun c2 => ?_) (fun c2 => ?_)
  · have h := g_it c2 h
    exact J10 x1 M _ _ _ h hM hS (lv_sub hl [0, 1] rfl)
  · have h := g_if c2 h
    refine lv_iload_n hx hb dX2_fault_5 rfl (lv_at hl 1 rfl) ?_
    refine lv_iconst (v := 1) hx hb dX2_fault_6 (by decide) ?_
    refine lv_icmp_ne (tgt := 14) hx hb dX2_fault_7 (by decide) (fun c7 => ?_) (fun c7 => ?_)
    · have h := g_if c7 h
      refine lv_iconst (v := 1) hx hb dX2_fault_14 (by decide) ?_
      exact J15 x1 1 M _ _ _ h hM hS (lv_sub hl [0, 1] rfl)
    · have h := g_it c7 h
      exact J10 x1 M _ _ _ h hM hS (lv_sub hl [0, 1] rfl)
theorem hm_count : yX2_count.cls = RX2 ∧ yX2_count.cls ≠ "java/lang/invoke/MethodHandle" ∧ yX2_count.cls ≠ "java/lang/invoke/VarHandle" ∧ (parseMethodDescriptor yX2_count.desc).map (fun d => d.parameters.length) = some 1 := by decide +kernel
set_option maxHeartbeats 4000000 in
set_option maxRecDepth 100000 in
theorem wm_count (E : gX) (l : Launch) (x1 : Int32) (r : Int32) (M M' : MM) (h : mm_count x1 M = some (r, M')) : gMet E l yX2_count cX2_count 2 (some .int) 1 0 0 (gx_A E) [.ref (gx_m E), .int x1] (gM E M) (gM E M') (some (.int r)) := by
  refine gMet.of (own := RX2) (by decide +kernel) (Nat.le_of_ble_eq_true rfl) rfl ?_
  intro p e s m args below meth c S hr hk hnm hE hM hS ls hl
  have hl : lv_has ls 2 [(0, .ref (gx_m E)), (1, .int x1)] := hl
  have hx := S.1
  have hb := S.2.1
  have J15 : ∀ (x1 s1 : Int32) (M : MM) (H : Heap) (locs : List Loc) (ls : Array Slot), mm_count_J15 x1 s1 M = some (r, M') → gM E M H → va_S (gx_A E) s.heap H locs → lv_has ls 2 [(0, .ref (gx_m E)), (1, .int x1)] → W p l e (gRm 1 0 0) s m args below meth c H locs 0 0 (MQ below (gQ (some (.int r)) (gM E M') (gx_A E)) args s 0 0 (gx_A E)) (F0 m 15 ls [.int s1, .ref (gx_m E)]) := by
    intro x1 s1 M H locs ls h hM hS hl
    unfold mm_count_J15 at h
    obtain ⟨M15, e15, h⟩ := g_bd h
    refine mp_thrown dX2_count_15 S hE hM hS e15 (fun H locs hM hS => ?_)
    refine lv_aload_n hx hb dX2_count_18 rfl (lv_at hl 0 rfl) ?_
    refine mg_thrown dX2_count_19 S hE hM ?_
    refine lv_if_eq (tgt := 27) hx hb dX2_count_22 (by decide) (fun c22 => ?_) (fun c22 => ?_)
    · have h := g_it c22 h
      refine lv_iload_n hx hb dX2_count_27 rfl (lv_at hl 1 rfl) ?_
      refine lv_iconst (v := 4) hx hb dX2_count_28 (by decide) ?_
      refine lv_icmp_ne (tgt := 37) hx hb dX2_count_29 (by decide) (fun c29 => ?_) (fun c29 => ?_)
      · have h := g_if c29 h
        refine lv_aload_n hx hb dX2_count_37 rfl (lv_at hl 0 rfl) ?_
        refine mg_isOpen dX2_count_38 S hE hM ?_
        refine lv_if_ne (tgt := 48) hx hb dX2_count_41 (by decide) (fun c41 => ?_) (fun c41 => ?_)
        · have h := g_if c41 h
          refine lv_iload_n hx hb dX2_count_48 rfl (lv_at hl 1 rfl) ?_
          refine lv_if_ne (tgt := 59) hx hb dX2_count_49 (by decide) (fun c49 => ?_) (fun c49 => ?_)
          · have h := g_if c49 h
            refine lv_iload_n hx hb dX2_count_59 rfl (lv_at hl 1 rfl) ?_
            refine lv_iconst (v := 1) hx hb dX2_count_60 (by decide) ?_
            refine lv_icmp_ne (tgt := 71) hx hb dX2_count_61 (by decide) (fun c61 => ?_) (fun c61 => ?_)
            · have h := g_if c61 h
              refine lv_iload_n hx hb dX2_count_71 rfl (lv_at hl 1 rfl) ?_
              refine lv_iconst (v := 2) hx hb dX2_count_72 (by decide) ?_
              refine lv_icmp_ne (tgt := 83) hx hb dX2_count_73 (by decide) (fun c73 => ?_) (fun c73 => ?_)
              · have h := g_if c73 h
                refine lv_aload_n hx hb dX2_count_83 rfl (lv_at hl 0 rfl) ?_
                refine mg_power dX2_count_84 S hE hM ?_
                exact m_iretW dX2_count_87 S hr hk hM hS h
              · have h := g_it c73 h
                refine lv_aload_n hx hb dX2_count_76 rfl (lv_at hl 0 rfl) ?_
                refine mg_flags dX2_count_77 S hE hM ?_
                refine lv_goto (tgt := 87) hx hb dX2_count_80 (by decide) ?_
                exact m_iretW dX2_count_87 S hr hk hM hS h
            · have h := g_it c61 h
              refine lv_aload_n hx hb dX2_count_64 rfl (lv_at hl 0 rfl) ?_
              refine mg_staff dX2_count_65 S hE hM ?_
              refine lv_goto (tgt := 87) hx hb dX2_count_68 (by decide) ?_
              exact m_iretW dX2_count_87 S hr hk hM hS h
          · have h := g_it c49 h
            refine lv_aload_n hx hb dX2_count_52 rfl (lv_at hl 0 rfl) ?_
            refine mg_rides dX2_count_53 S hE hM ?_
            refine lv_goto (tgt := 87) hx hb dX2_count_56 (by decide) ?_
            exact m_iretW dX2_count_87 S hr hk hM hS h
        · have h := g_it c41 h
          refine lv_iconst (v := 0) hx hb dX2_count_44 (by decide) ?_
          refine lv_goto (tgt := 87) hx hb dX2_count_45 (by decide) ?_
          exact m_iretW dX2_count_87 S hr hk hM hS h
      · have h := g_it c29 h
        refine lv_aload_n hx hb dX2_count_32 rfl (lv_at hl 0 rfl) ?_
        refine mg_taped dX2_count_33 S hE hM ?_
        exact m_iretW dX2_count_36 S hr hk hM hS h
    · have h := g_if c22 h
      refine lv_iconst (v := 0) hx hb dX2_count_25 (by decide) ?_
      exact m_iretW dX2_count_26 S hr hk hM hS h
  have J14 : ∀ (x1 : Int32) (M : MM) (H : Heap) (locs : List Loc) (ls : Array Slot), mm_count_J14 x1 M = some (r, M') → gM E M H → va_S (gx_A E) s.heap H locs → lv_has ls 2 [(0, .ref (gx_m E)), (1, .int x1)] → W p l e (gRm 1 0 0) s m args below meth c H locs 0 0 (MQ below (gQ (some (.int r)) (gM E M') (gx_A E)) args s 0 0 (gx_A E)) (F0 m 14 ls [.ref (gx_m E)]) := by
    intro x1 M H locs ls h hM hS hl
    unfold mm_count_J14 at h
    refine lv_iconst (v := 1) hx hb dX2_count_14 (by decide) ?_
    exact J15 x1 1 M _ _ _ h hM hS (lv_sub hl [0, 1] rfl)
  unfold mm_count at h
  refine lv_aload_n hx hb dX2_count_0 rfl (lv_at hl 0 rfl) ?_
  refine lv_iload_n hx hb dX2_count_1 rfl (lv_at hl 1 rfl) ?_
  refine lv_if_lt (tgt := 14) hx hb dX2_count_2 (by decide) (fun c2 => ?_) (fun c2 => ?_)
  · have h := g_it c2 h
    exact J14 x1 M _ _ _ h hM hS (lv_sub hl [0, 1] rfl)
  · have h := g_if c2 h
    refine lv_iload_n hx hb dX2_count_5 rfl (lv_at hl 1 rfl) ?_
    refine lv_iconst (v := 4) hx hb dX2_count_6 (by decide) ?_
    refine lv_icmp_gt (tgt := 14) hx hb dX2_count_7 (by decide) (fun c7 => ?_) (fun c7 => ?_)
    · have h := g_it c7 h
      exact J14 x1 M _ _ _ h hM hS (lv_sub hl [0, 1] rfl)
    · have h := g_if c7 h
      refine lv_iconst (v := 0) hx hb dX2_count_10 (by decide) ?_
      refine lv_goto (tgt := 15) hx hb dX2_count_11 (by decide) ?_
      exact J15 x1 0 M _ _ _ h hM hS (lv_sub hl [0, 1] rfl)
theorem hm_open : yX2_open.cls = RX2 ∧ yX2_open.cls ≠ "java/lang/invoke/MethodHandle" ∧ yX2_open.cls ≠ "java/lang/invoke/VarHandle" ∧ (parseMethodDescriptor yX2_open.desc).map (fun d => d.parameters.length) = some 0 := by decide +kernel
set_option maxHeartbeats 4000000 in
set_option maxRecDepth 100000 in
theorem wm_open (E : gX) (l : Launch) (M M' : MM) (h : mm_open M = some M') : gMet E l yX2_open cX2_open 1 none 2 0 0 (gx_A E) [.ref (gx_m E)] (gM E M) (gM E M') none := by
  refine gMet.of (own := RX2) (by decide +kernel) (Nat.le_of_ble_eq_true rfl) rfl ?_
  intro p e s m args below meth c S hr hk hnm hE hM hS ls hl
  have hl : lv_has ls 1 [(0, .ref (gx_m E))] := hl
  have hx := S.1
  have hb := S.2.1
  have J13 : ∀ (s1 : Int32) (M : MM) (H : Heap) (locs : List Loc) (ls : Array Slot), mm_open_J13 s1 M = some M' → gM E M H → va_S (gx_A E) s.heap H locs → lv_has ls 1 [(0, .ref (gx_m E))] → W p l e (gRm 2 0 0) s m args below meth c H locs 0 0 (MQ below (gQ none (gM E M') (gx_A E)) args s 0 0 (gx_A E)) (F0 m 13 ls [.int s1, .ref (gx_m E)]) := by
    intro s1 M H locs ls h hM hS hl
    unfold mm_open_J13 at h
    obtain ⟨M13, e13, h⟩ := g_bd h
    refine mp_thrown dX2_open_13 S hE hM hS e13 (fun H locs hM hS => ?_)
    refine lv_aload_n hx hb dX2_open_16 rfl (lv_at hl 0 rfl) ?_
    refine mg_thrown dX2_open_17 S hE hM ?_
    refine lv_if_ne (tgt := 27) hx hb dX2_open_20 (by decide) (fun c20 => ?_) (fun c20 => ?_)
    · have h := g_if c20 h
      exact m_vretW dX2_open_27 S hr hk hM hS h
    · have h := g_it c20 h
      refine lv_aload_n hx hb dX2_open_23 rfl (lv_at hl 0 rfl) ?_
      obtain ⟨M24, e24, h⟩ := g_bd h
      refine m_cV (y := yX2_begin) (rest := []) dX2_open_24 q3188 q3190 qs87 q3191 hm_begin S hE hM hS hl.1 rfl (wm_begin E l _ _ e24) rfl (Nat.le_of_ble_eq_true rfl) ⟨Nat.le_of_ble_eq_true rfl, Nat.le_of_ble_eq_true rfl⟩ ⟨Nat.le_refl 0, Nat.le_refl 0⟩ (fun H locs hM hS => ?_)
      exact m_vretW dX2_open_27 S hr hk hM hS h
  unfold mm_open at h
  refine lv_aload_n hx hb dX2_open_0 rfl (lv_at hl 0 rfl) ?_
  refine lv_aload_n hx hb dX2_open_1 rfl (lv_at hl 0 rfl) ?_
  refine mg_isOpen dX2_open_2 S hE hM ?_
  refine lv_if_eq (tgt := 12) hx hb dX2_open_5 (by decide) (fun c5 => ?_) (fun c5 => ?_)
  · have h := g_it c5 h
    refine lv_iconst (v := 1) hx hb dX2_open_12 (by decide) ?_
    exact J13 1 M _ _ _ h hM hS (lv_sub hl [0] rfl)
  · have h := g_if c5 h
    refine lv_iconst (v := 0) hx hb dX2_open_8 (by decide) ?_
    refine lv_goto (tgt := 13) hx hb dX2_open_9 (by decide) ?_
    exact J13 0 M _ _ _ h hM hS (lv_sub hl [0] rfl)
theorem hm_isRide : yX2_isRide.cls = RX2 ∧ yX2_isRide.cls ≠ "java/lang/invoke/MethodHandle" ∧ yX2_isRide.cls ≠ "java/lang/invoke/VarHandle" ∧ (parseMethodDescriptor yX2_isRide.desc).map (fun d => d.parameters.length) = some 1 := by decide +kernel
set_option maxHeartbeats 4000000 in
set_option maxRecDepth 100000 in
theorem wm_isRide (E : gX) (l : Launch) (x1 : Int32) (r : Int32) (M : MM) (h : mm_isRide x1 M = some r) : gMet E l yX2_isRide cX2_isRide 2 (some .boolean) 1 0 0 (gx_A E) [.ref (gx_m E), .int x1] (gM E M) (gM E M) (some (.int r)) := by
  refine gMet.of (own := RX2) (by decide +kernel) (Nat.le_of_ble_eq_true rfl) rfl ?_
  intro p e s m args below meth c S hr hk hnm hE hM hS ls hl
  have hl : lv_has ls 2 [(0, .ref (gx_m E)), (1, .int x1)] := hl
  have hx := S.1
  have hb := S.2.1
  unfold mm_isRide at h
  refine lv_iload_n hx hb dX2_isRide_0 rfl (lv_at hl 1 rfl) ?_
  refine lv_if_lt (tgt := 16) hx hb dX2_isRide_1 (by decide) (fun c1 => ?_) (fun c1 => ?_)
  · have h := g_it c1 h
    refine lv_iconst (v := 0) hx hb dX2_isRide_16 (by decide) ?_
    exact m_zretR dX2_isRide_17 S hr hk hM hS h
  · have h := g_if c1 h
    refine lv_iload_n hx hb dX2_isRide_4 rfl (lv_at hl 1 rfl) ?_
    refine lv_aload_n hx hb dX2_isRide_5 rfl (lv_at hl 0 rfl) ?_
    refine mg_rides dX2_isRide_6 S hE hM ?_
    refine lv_icmp_ge (tgt := 16) hx hb dX2_isRide_9 (by decide) (fun c9 => ?_) (fun c9 => ?_)
    · have h := g_it c9 h
      refine lv_iconst (v := 0) hx hb dX2_isRide_16 (by decide) ?_
      exact m_zretR dX2_isRide_17 S hr hk hM hS h
    · have h := g_if c9 h
      refine lv_iconst (v := 1) hx hb dX2_isRide_12 (by decide) ?_
      refine lv_goto (tgt := 17) hx hb dX2_isRide_13 (by decide) ?_
      exact m_zretR dX2_isRide_17 S hr hk hM hS h
theorem hm_has : yX2_has.cls = RX2 ∧ yX2_has.cls ≠ "java/lang/invoke/MethodHandle" ∧ yX2_has.cls ≠ "java/lang/invoke/VarHandle" ∧ (parseMethodDescriptor yX2_has.desc).map (fun d => d.parameters.length) = some 2 := by decide +kernel
set_option maxHeartbeats 4000000 in
set_option maxRecDepth 100000 in
theorem wm_has (E : gX) (l : Launch) (x1 x2 : Int32) (r : Int32) (M : MM) (h : mm_has x1 x2 M = some r) : gMet E l yX2_has cX2_has 3 (some .boolean) 1 0 0 (gx_A E) [.ref (gx_m E), .int x1, .int x2] (gM E M) (gM E M) (some (.int r)) := by
  refine gMet.of (own := RX2) (by decide +kernel) (Nat.le_of_ble_eq_true rfl) rfl ?_
  intro p e s m args below meth c S hr hk hnm hE hM hS ls hl
  have hl : lv_has ls 3 [(0, .ref (gx_m E)), (1, .int x1), (2, .int x2)] := hl
  have hx := S.1
  have hb := S.2.1
  unfold mm_has at h
  refine lv_aload_n hx hb dX2_has_0 rfl (lv_at hl 0 rfl) ?_
  refine ma_abilities dX2_has_1 S hE hM ?_
  refine lv_aload_n hx hb dX2_has_4 rfl (lv_at hl 0 rfl) ?_
  refine ma_kind dX2_has_5 S hE hM ?_
  refine lv_iload_n hx hb dX2_has_8 rfl (lv_at hl 1 rfl) ?_
  obtain ⟨v9, e9, h⟩ := g_bd h
  refine m_ald 25 dX2_has_9 (by decide) rfl S hE hM e9 ?_
  obtain ⟨v10, e10, h⟩ := g_bd h
  refine m_ald 1 dX2_has_10 (by decide) rfl S hE hM e10 ?_
  refine lv_iload_n hx hb dX2_has_11 rfl (lv_at hl 2 rfl) ?_
  refine lv_iand hx hb dX2_has_12 ?_
  refine lv_if_eq (tgt := 20) hx hb dX2_has_13 (by decide) (fun c13 => ?_) (fun c13 => ?_)
  · have h := g_it c13 h
    refine lv_iconst (v := 0) hx hb dX2_has_20 (by decide) ?_
    exact m_zretR dX2_has_21 S hr hk hM hS h
  · have h := g_if c13 h
    refine lv_iconst (v := 1) hx hb dX2_has_16 (by decide) ?_
    refine lv_goto (tgt := 21) hx hb dX2_has_17 (by decide) ?_
    exact m_zretR dX2_has_21 S hr hk hM hS h
theorem hm_may : yX2_may.cls = RX2 ∧ yX2_may.cls ≠ "java/lang/invoke/MethodHandle" ∧ yX2_may.cls ≠ "java/lang/invoke/VarHandle" ∧ (parseMethodDescriptor yX2_may.desc).map (fun d => d.parameters.length) = some 2 := by decide +kernel
set_option maxHeartbeats 4000000 in
set_option maxRecDepth 100000 in
theorem wm_may (E : gX) (l : Launch) (x1 x2 : Int32) (r : Int32) (M M' : MM) (h : mm_may x1 x2 M = some (r, M')) : gMet E l yX2_may cX2_may 3 (some .boolean) 1 0 0 (gx_A E) [.ref (gx_m E), .int x1, .int x2] (gM E M) (gM E M') (some (.int r)) := by
  refine gMet.of (own := RX2) (by decide +kernel) (Nat.le_of_ble_eq_true rfl) rfl ?_
  intro p e s m args below meth c S hr hk hnm hE hM hS ls hl
  have hl : lv_has ls 3 [(0, .ref (gx_m E)), (1, .int x1), (2, .int x2)] := hl
  have hx := S.1
  have hb := S.2.1
  have J29 : ∀ (s1 : Int32) (M : MM) (H : Heap) (locs : List Loc) (ls : Array Slot), mm_may_J29 s1 M = some (r, M') → gM E M H → va_S (gx_A E) s.heap H locs → lv_has ls 3 [(0, .ref (gx_m E))] → W p l e (gRm 1 0 0) s m args below meth c H locs 0 0 (MQ below (gQ (some (.int r)) (gM E M') (gx_A E)) args s 0 0 (gx_A E)) (F0 m 29 ls [.int s1, .ref (gx_m E)]) := by
    intro s1 M H locs ls h hM hS hl
    unfold mm_may_J29 at h
    obtain ⟨M29, e29, h⟩ := g_bd h
    refine mp_thrown dX2_may_29 S hE hM hS e29 (fun H locs hM hS => ?_)
    refine lv_aload_n hx hb dX2_may_32 rfl (lv_at hl 0 rfl) ?_
    refine mg_thrown dX2_may_33 S hE hM ?_
    refine lv_if_ne (tgt := 43) hx hb dX2_may_36 (by decide) (fun c36 => ?_) (fun c36 => ?_)
    · have h := g_if c36 h
      refine lv_iconst (v := 0) hx hb dX2_may_43 (by decide) ?_
      exact m_zretW dX2_may_44 S hr hk hM hS h
    · have h := g_it c36 h
      refine lv_iconst (v := 1) hx hb dX2_may_39 (by decide) ?_
      refine lv_goto (tgt := 44) hx hb dX2_may_40 (by decide) ?_
      exact m_zretW dX2_may_44 S hr hk hM hS h
  unfold mm_may at h
  refine lv_aload_n hx hb dX2_may_0 rfl (lv_at hl 0 rfl) ?_
  refine lv_aload_n hx hb dX2_may_1 rfl (lv_at hl 0 rfl) ?_
  refine mg_isOpen dX2_may_2 S hE hM ?_
  refine lv_if_ne (tgt := 12) hx hb dX2_may_5 (by decide) (fun c5 => ?_) (fun c5 => ?_)
  · have h := g_if c5 h
    refine lv_iload_n hx hb dX2_may_12 rfl (lv_at hl 1 rfl) ?_
    refine lv_if_ne (tgt := 20) hx hb dX2_may_13 (by decide) (fun c13 => ?_) (fun c13 => ?_)
    · have h := g_if c13 h
      refine lv_iload_n hx hb dX2_may_20 rfl (lv_at hl 2 rfl) ?_
      refine lv_if_ne (tgt := 28) hx hb dX2_may_21 (by decide) (fun c21 => ?_) (fun c21 => ?_)
      · have h := g_if c21 h
        refine lv_iconst (v := 0) hx hb dX2_may_28 (by decide) ?_
        exact J29 0 M _ _ _ h hM hS (lv_sub hl [0] rfl)
      · have h := g_it c21 h
        refine lv_iconst (v := 3) hx hb dX2_may_24 (by decide) ?_
        refine lv_goto (tgt := 29) hx hb dX2_may_25 (by decide) ?_
        exact J29 3 M _ _ _ h hM hS (lv_sub hl [0] rfl)
    · have h := g_it c13 h
      refine lv_iconst (v := 2) hx hb dX2_may_16 (by decide) ?_
      refine lv_goto (tgt := 29) hx hb dX2_may_17 (by decide) ?_
      exact J29 2 M _ _ _ h hM hS (lv_sub hl [0] rfl)
  · have h := g_it c5 h
    refine lv_iconst (v := 1) hx hb dX2_may_8 (by decide) ?_
    refine lv_goto (tgt := 29) hx hb dX2_may_9 (by decide) ?_
    exact J29 1 M _ _ _ h hM hS (lv_sub hl [0] rfl)
theorem hm_queue : yX2_queue.cls = RX2 ∧ yX2_queue.cls ≠ "java/lang/invoke/MethodHandle" ∧ yX2_queue.cls ≠ "java/lang/invoke/VarHandle" ∧ (parseMethodDescriptor yX2_queue.desc).map (fun d => d.parameters.length) = some 1 := by decide +kernel
set_option maxHeartbeats 4000000 in
set_option maxRecDepth 100000 in
theorem wm_queue (E : gX) (l : Launch) (x1 : Int32) (r : Int32) (M : MM) (h : mm_queue x1 M = some r) : gMet E l yX2_queue cX2_queue 4 (some .int) 1 0 0 (gx_A E) [.ref (gx_m E), .int x1] (gM E M) (gM E M) (some (.int r)) := by
  refine gMet.of (own := RX2) (by decide +kernel) (Nat.le_of_ble_eq_true rfl) rfl ?_
  intro p e s m args below meth c S hr hk hnm hE hM hS ls hl
  have hl : lv_has ls 4 [(0, .ref (gx_m E)), (1, .int x1)] := hl
  have hx := S.1
  have hb := S.2.1
  have L4 : ∀ (n : Nat) (x1 x2 x3 : Int32) (M : MM) (H : Heap) (locs : List Loc) (ls : Array Slot), mm_queue_L4 n x1 x2 x3 M = some r → gM E M H → va_S (gx_A E) s.heap H locs → lv_has ls 4 [(0, .ref (gx_m E)), (1, .int x1), (2, .int x2), (3, .int x3)] → W p l e (gRm 1 0 0) s m args below meth c H locs 0 0 (MQ below (gQ (some (.int r)) (gM E M) (gx_A E)) args s 0 0 (gx_A E)) (F0 m 4 ls []) := by
    intro n4
    induction n4 with
    | zero =>
      intro x1 x2 x3 M H locs ls h
      cases h
    | succ n4 ih4 =>
      intro x1 x2 x3 M H locs ls h hM hS hl
      have h : mm_queue_B4 (mm_queue_L4 n4) x1 x2 x3 M = some r := h
      unfold mm_queue_B4 at h
      refine lv_iload_n hx hb dX2_queue_4 rfl (lv_at hl 3 rfl) ?_
      refine lv_aload_n hx hb dX2_queue_5 rfl (lv_at hl 0 rfl) ?_
      refine ma_groups dX2_queue_6 S hE hM ?_
      refine lv_iload_n hx hb dX2_queue_9 rfl (lv_at hl 1 rfl) ?_
      obtain ⟨v10, e10, h⟩ := g_bd h
      refine m_ald 76 dX2_queue_10 (by decide) rfl S hE hM e10 ?_
      refine lv_icmp_ge (tgt := 34) hx hb dX2_queue_11 (by decide) (fun c11 => ?_) (fun c11 => ?_)
      · have h := g_it c11 h
        refine lv_iload_n hx hb dX2_queue_34 rfl (lv_at hl 2 rfl) ?_
        exact m_iretR dX2_queue_35 S hr hk hM hS h
      · have h := g_if c11 h
        refine lv_iload_n hx hb dX2_queue_14 rfl (lv_at hl 2 rfl) ?_
        refine lv_aload_n hx hb dX2_queue_15 rfl (lv_at hl 0 rfl) ?_
        refine ma_groupSize dX2_queue_16 S hE hM ?_
        refine lv_bipush (v := 30) hx hb dX2_queue_19 (by decide) ?_
        refine lv_iload_n hx hb dX2_queue_21 rfl (lv_at hl 1 rfl) ?_
        refine lv_imul hx hb dX2_queue_22 ?_
        refine lv_iload_n hx hb dX2_queue_23 rfl (lv_at hl 3 rfl) ?_
        refine lv_iadd hx hb dX2_queue_24 ?_
        obtain ⟨v25, e25, h⟩ := g_bd h
        refine m_ald 77 dX2_queue_25 (by decide) rfl S hE hM e25 ?_
        refine lv_iadd hx hb dX2_queue_26 ?_
        refine lv_istore_n (lv' := [(2, .int (x2 + v25)), (0, .ref (gx_m E)), (1, .int x1), (3, .int x3)]) hx hb dX2_queue_27 rfl hl (by decide) rfl (fun ls hl => ?_)
        refine lv_iinc (k := 3) (v := (x3 + 1)) (lv' := [(3, .int (x3 + 1)), (2, .int (x2 + v25)), (0, .ref (gx_m E)), (1, .int x1)]) hx hb dX2_queue_28 hl rfl rfl (by decide) rfl (fun ls hl => ?_)
        refine lv_goto (tgt := 4) hx hb dX2_queue_31 (by decide) ?_
        exact ih4 x1 (x2 + v25) (x3 + 1) M _ _ _ h hM hS (lv_sub hl [2, 3, 1, 0] rfl)
  unfold mm_queue at h
  refine lv_iconst (v := 0) hx hb dX2_queue_0 (by decide) ?_
  refine lv_istore_n (lv' := [(2, .int 0), (0, .ref (gx_m E)), (1, .int x1)]) hx hb dX2_queue_1 rfl hl (by decide) rfl (fun ls hl => ?_)
  refine lv_iconst (v := 0) hx hb dX2_queue_2 (by decide) ?_
  refine lv_istore_n (lv' := [(3, .int 0), (2, .int 0), (0, .ref (gx_m E)), (1, .int x1)]) hx hb dX2_queue_3 rfl hl (by decide) rfl (fun ls hl => ?_)
  exact L4 gF x1 0 0 M _ _ _ h hM hS (lv_sub hl [2, 3, 1, 0] rfl)
