/-! walks of the component's methods: printed by cgen.py -/
set_option maxRecDepth 100000
theorem hc_X36_heave : cHd yX36_heave 0 := by decide +kernel
set_option maxHeartbeats 4000000 in
set_option maxRecDepth 100000 in
theorem wm_X36_heave (E : gX) (l : Launch) (x0 : Nat) (Gz : GH) (r : Int32) (h : cm_X36_heave x0 Gz = some r) : gMetC E l yX36_heave cX36_heave 1 (some Jvm.ClassFile.FieldType.int) 3 [.ref x0] Gz Gz (some (.int r)) := by
  refine gMetC.of (own := RX36) (by decide +kernel) (Nat.le_of_ble_eq_true rfl) rfl ?_
  intro p e s m args below meth c S hr hk hnm hE hC0 hG hS ls hl
  have hl : lv_has ls 1 [(0, .ref x0)] := hl
  have hx := S.1
  have hb := S.2.1
  unfold cm_X36_heave at h
  refine lv_aload_n hx hb dX36_heave_0 rfl (lv_at hl 0 rfl) ?_
  obtain ⟨v1, e1, h⟩ := g_bd h
  refine wd_Lifts_hoist (rest := []) q2087 dX36_heave_1 S hE hG hS hC0 hl.1 e1 rfl (Nat.le_of_ble_eq_true rfl) (by decide) (fun H locs hG hS => ?_)
  obtain ⟨v6, e6, h⟩ := g_bd h
  refine cg_X36_7 dX36_heave_6 S hE hG e6 ?_
  refine lv_if_le (tgt := 24) hx hb dX36_heave_9 (by decide) (fun c9 => ?_) (fun c9 => ?_)
  · have h := g_it c9 h
    refine lv_iconst (v := 0) hx hb dX36_heave_24 (by decide) ?_
    exact c_iretR dX36_heave_25 S hr hk hC0 hG hS h
  · have h := g_if c9 h
    refine lv_aload_n hx hb dX36_heave_12 rfl (lv_at hl 0 rfl) ?_
    obtain ⟨v13, e13, h⟩ := g_bd h
    refine wd_Lifts_hoist (rest := []) q2087 dX36_heave_13 S hE hG hS hC0 hl.1 e13 rfl (Nat.le_of_ble_eq_true rfl) (by decide) (fun H locs hG hS => ?_)
    obtain ⟨v18, e18, h⟩ := g_bd h
    refine cg_X36_13 dX36_heave_18 S hE hG e18 ?_
    refine lv_goto (tgt := 25) hx hb dX36_heave_21 (by decide) ?_
    exact c_iretR dX36_heave_25 S hr hk hC0 hG hS h
section DSP
variable {p : Program} {l : Launch} {e : Env} {R : Room} {s : State} {m : MethodId} {args : Array Value} {below : List Frame} {meth : Method} {c : Code} {H : Heap} {locs : List Loc} {cells slots : Nat} {Q : State → Prop}
variable {cc : ByteArray} {pc nL lev0 : Nat} {ls : Array Slot} {rest st : List Value} {E : gX} {G Gz G1 : GH}
theorem hx_Lifts_heave : cHd ⟨"FairHouse$Lifts", "heave", "()I"⟩ 0 := by decide +kernel
set_option maxHeartbeats 4000000 in
set_option maxRecDepth 100000 in
theorem wd_Lifts_heave {own : String} {a idx count : Nat} {r : Int32} (w1 : Cond.methodLink own idx ⟨"FairHouse$Lifts", "heave", "()I"⟩ ∈ lw_all) (hdg : decode cc pc = .ok (.invokeinterface idx count, 5)) (S : CallFix p m c cc nL s args lw_all own) (hE : gEnv E s) (hG : gC E G H) (hS : va_S (gx_C E) s.heap H locs) (hC0 : gC E Gz s.heap) (hls : ls.size = nL) (h : cd_Lifts_heave a G = some r) (hst : st = [] ++ .ref a :: rest) (hW : (rest.map fun v => v.category).sum ≤ 8) (hroom : 3 + 1 ≤ lev0)
    (kk : ∀ (H1 : Heap) (locs1 : List Loc), gC E G H1 → va_S (gx_C E) s.heap H1 locs1 → WC E p l e (gRm lev0 (cBx Gz) (cBs Gz)) s m args below meth c H1 locs1 Q (F0 m (pc + 5) ls (.int r :: rest))) : WC E p l e (gRm lev0 (cBx Gz) (cBs Gz)) s m args below meth c H locs Q (F0 m pc ls st) := by
  unfold cd_Lifts_heave at h
  by_cases c18 : cT G a = 18
  · have h := g_it c18 h
    exact c_cD (y := yX36_heave) (As := []) 8 rfl hdg w1 q2380 q3386 q2382 hx_Lifts_heave S hE hG hS hC0 hls rfl (hE.K.1 17 _ rfl).2 (c_recv hE hG (ci := 17) rfl (by decide) c18) (wm_X36_heave E l a G _ h) hst hW ⟨by omega, by omega⟩ (fun H1 locs1 h1 h2 => kk H1 locs1 h1 h2)
  have h := g_if c18 h
  by_cases c20 : cT G a = 20
  · have h := g_it c20 h
    exact c_cD (y := yX36_heave) (As := []) 9 rfl hdg w1 q2380 q3386 q2382 hx_Lifts_heave S hE hG hS hC0 hls rfl (hE.K.1 19 _ rfl).2 (c_recv hE hG (ci := 19) rfl (by decide) c20) (wm_X36_heave E l a G _ h) hst hW ⟨by omega, by omega⟩ (fun H1 locs1 h1 h2 => kk H1 locs1 h1 h2)
  have h := g_if c20 h
  by_cases c25 : cT G a = 25
  · have h := g_it c25 h
    exact c_cD (y := yX36_heave) (As := []) 10 rfl hdg w1 q2380 q3386 q2382 hx_Lifts_heave S hE hG hS hC0 hls rfl (hE.K.1 24 _ rfl).2 (c_recv hE hG (ci := 24) rfl (by decide) c25) (wm_X36_heave E l a G _ h) hst hW ⟨by omega, by omega⟩ (fun H1 locs1 h1 h2 => kk H1 locs1 h1 h2)
  have h := g_if c25 h
  by_cases c27 : cT G a = 27
  · have h := g_it c27 h
    exact c_cD (y := yX36_heave) (As := []) 11 rfl hdg w1 q2380 q3386 q2382 hx_Lifts_heave S hE hG hS hC0 hls rfl (hE.K.1 26 _ rfl).2 (c_recv hE hG (ci := 26) rfl (by decide) c27) (wm_X36_heave E l a G _ h) hst hW ⟨by omega, by omega⟩ (fun H1 locs1 h1 h2 => kk H1 locs1 h1 h2)
  have h := g_if c27 h
  cases h
end DSP
theorem hc_X36_draw : cHd yX36_draw 0 := by decide +kernel
set_option maxHeartbeats 4000000 in
set_option maxRecDepth 100000 in
theorem wm_X36_draw (E : gX) (l : Launch) (x0 : Nat) (Gz : GH) (r : Int32) (h : cm_X36_draw x0 Gz = some r) : gMetC E l yX36_draw cX36_draw 1 (some Jvm.ClassFile.FieldType.int) 4 [.ref x0] Gz Gz (some (.int r)) := by
  refine gMetC.of (own := RX36) (by decide +kernel) (Nat.le_of_ble_eq_true rfl) rfl ?_
  intro p e s m args below meth c S hr hk hnm hE hC0 hG hS ls hl
  have hl : lv_has ls 1 [(0, .ref x0)] := hl
  have hx := S.1
  have hb := S.2.1
  unfold cm_X36_draw at h
  refine lv_aload_n hx hb dX36_draw_0 rfl (lv_at hl 0 rfl) ?_
  obtain ⟨v1, e1, h⟩ := g_bd h
  refine wd_Lifts_heave (rest := []) q2463 dX36_draw_1 S hE hG hS hC0 hl.1 e1 rfl (Nat.le_of_ble_eq_true rfl) (by decide) (fun H locs hG hS => ?_)
  exact c_iretR dX36_draw_6 S hr hk hC0 hG hS h
theorem hc_X13_draw : cHd yX13_draw 0 := by decide +kernel
set_option maxHeartbeats 4000000 in
set_option maxRecDepth 100000 in
theorem wm_X13_draw (E : gX) (l : Launch) (x0 : Nat) (Gz : GH) (r : Int32) (h : cm_X13_draw x0 Gz = some r) : gMetC E l yX13_draw cX13_draw 3 (some Jvm.ClassFile.FieldType.int) 4 [.ref x0] Gz Gz (some (.int r)) := by
  refine gMetC.of (own := RX13) (by decide +kernel) (Nat.le_of_ble_eq_true rfl) rfl ?_
  intro p e s m args below meth c S hr hk hnm hE hC0 hG hS ls hl
  have hl : lv_has ls 3 [(0, .ref x0)] := hl
  have hx := S.1
  have hb := S.2.1
  unfold cm_X13_draw at h
  refine lv_aload_n hx hb dX13_draw_0 rfl (lv_at hl 0 rfl) ?_
  refine lv_astore_n (lv' := [(1, .ref x0), (0, .ref x0)]) hx hb dX13_draw_1 rfl hl (by decide) rfl (fun ls hl => ?_)
  refine lv_aload_n hx hb dX13_draw_2 rfl (lv_at hl 1 rfl) ?_
  refine lv_astore_n (lv' := [(2, .ref x0), (1, .ref x0), (0, .ref x0)]) hx hb dX13_draw_3 rfl hl (by decide) rfl (fun ls hl => ?_)
  refine lv_aload_n hx hb dX13_draw_4 rfl (lv_at hl 1 rfl) ?_
  obtain ⟨v5, e5, h⟩ := g_bd h
  refine wd_Turns_pull (rest := []) q2447 dX13_draw_5 S hE hG hS hC0 hl.1 e5 rfl (Nat.le_of_ble_eq_true rfl) (by decide) (fun H locs hG hS => ?_)
  refine lv_aload_n hx hb dX13_draw_10 rfl (lv_at hl 0 rfl) ?_
  obtain ⟨v11, e11, h⟩ := g_bd h
  refine wd_Lifts_heave (rest := [.int v5]) q2449 dX13_draw_11 S hE hG hS hC0 hl.1 e11 rfl (Nat.le_of_ble_eq_true rfl) (by decide) (fun H locs hG hS => ?_)
  refine c_math_max q2450 dX13_draw_16 S hl.1 hC0 hG hS (by decide) (Nat.le_of_ble_eq_true rfl) ?_
  exact c_iretR dX13_draw_19 S hr hk hC0 hG hS h
theorem hc_X37_hiss : cHd yX37_hiss 0 := by decide +kernel
set_option maxHeartbeats 4000000 in
set_option maxRecDepth 100000 in
theorem wm_X37_hiss (E : gX) (l : Launch) (x0 : Nat) (Gz : GH) (r : Int32) (h : cm_X37_hiss x0 Gz = some r) : gMetC E l yX37_hiss cX37_hiss 1 (some Jvm.ClassFile.FieldType.int) 3 [.ref x0] Gz Gz (some (.int r)) := by
  refine gMetC.of (own := RX37) (by decide +kernel) (Nat.le_of_ble_eq_true rfl) rfl ?_
  intro p e s m args below meth c S hr hk hnm hE hC0 hG hS ls hl
  have hl : lv_has ls 1 [(0, .ref x0)] := hl
  have hx := S.1
  have hb := S.2.1
  unfold cm_X37_hiss at h
  refine lv_aload_n hx hb dX37_hiss_0 rfl (lv_at hl 0 rfl) ?_
  obtain ⟨v1, e1, h⟩ := g_bd h
  refine wd_Sounds_voice (rest := []) q2106 dX37_hiss_1 S hE hG hS hC0 hl.1 e1 rfl (Nat.le_of_ble_eq_true rfl) (by decide) (fun H locs hG hS => ?_)
  obtain ⟨v6, e6, h⟩ := g_bd h
  refine cg_X37_7 dX37_hiss_6 S hE hG e6 ?_
  refine lv_iconst (v := 2) hx hb dX37_hiss_9 (by decide) ?_
  refine lv_idiv hx hb dX37_hiss_10 (by decide) ?_
  exact c_iretR dX37_hiss_11 S hr hk hC0 hG hS h
section DSP
variable {p : Program} {l : Launch} {e : Env} {R : Room} {s : State} {m : MethodId} {args : Array Value} {below : List Frame} {meth : Method} {c : Code} {H : Heap} {locs : List Loc} {cells slots : Nat} {Q : State → Prop}
variable {cc : ByteArray} {pc nL lev0 : Nat} {ls : Array Slot} {rest st : List Value} {E : gX} {G Gz G1 : GH}
theorem hx_Sounds_hiss : cHd ⟨"FairHouse$Sounds", "hiss", "()I"⟩ 0 := by decide +kernel
set_option maxHeartbeats 4000000 in
set_option maxRecDepth 100000 in
theorem wd_Sounds_hiss {own : String} {a idx count : Nat} {r : Int32} (w1 : Cond.methodLink own idx ⟨"FairHouse$Sounds", "hiss", "()I"⟩ ∈ lw_all) (hdg : decode cc pc = .ok (.invokeinterface idx count, 5)) (S : CallFix p m c cc nL s args lw_all own) (hE : gEnv E s) (hG : gC E G H) (hS : va_S (gx_C E) s.heap H locs) (hC0 : gC E Gz s.heap) (hls : ls.size = nL) (h : cd_Sounds_hiss a G = some r) (hst : st = [] ++ .ref a :: rest) (hW : (rest.map fun v => v.category).sum ≤ 8) (hroom : 3 + 1 ≤ lev0)
    (kk : ∀ (H1 : Heap) (locs1 : List Loc), gC E G H1 → va_S (gx_C E) s.heap H1 locs1 → WC E p l e (gRm lev0 (cBx Gz) (cBs Gz)) s m args below meth c H1 locs1 Q (F0 m (pc + 5) ls (.int r :: rest))) : WC E p l e (gRm lev0 (cBx Gz) (cBs Gz)) s m args below meth c H locs Q (F0 m pc ls st) := by
  unfold cd_Sounds_hiss at h
  by_cases c21 : cT G a = 21
  · have h := g_it c21 h
    exact c_cD (y := yX37_hiss) (As := []) 60 rfl hdg w1 q2393 q3387 q2395 hx_Sounds_hiss S hE hG hS hC0 hls rfl (hE.K.1 20 _ rfl).2 (c_recv hE hG (ci := 20) rfl (by decide) c21) (wm_X37_hiss E l a G _ h) hst hW ⟨by omega, by omega⟩ (fun H1 locs1 h1 h2 => kk H1 locs1 h1 h2)
  have h := g_if c21 h
  by_cases c25 : cT G a = 25
  · have h := g_it c25 h
    exact c_cD (y := yX37_hiss) (As := []) 61 rfl hdg w1 q2393 q3387 q2395 hx_Sounds_hiss S hE hG hS hC0 hls rfl (hE.K.1 24 _ rfl).2 (c_recv hE hG (ci := 24) rfl (by decide) c25) (wm_X37_hiss E l a G _ h) hst hW ⟨by omega, by omega⟩ (fun H1 locs1 h1 h2 => kk H1 locs1 h1 h2)
  have h := g_if c25 h
  by_cases c26 : cT G a = 26
  · have h := g_it c26 h
    exact c_cD (y := yX37_hiss) (As := []) 62 rfl hdg w1 q2393 q3387 q2395 hx_Sounds_hiss S hE hG hS hC0 hls rfl (hE.K.1 25 _ rfl).2 (c_recv hE hG (ci := 25) rfl (by decide) c26) (wm_X37_hiss E l a G _ h) hst hW ⟨by omega, by omega⟩ (fun H1 locs1 h1 h2 => kk H1 locs1 h1 h2)
  have h := g_if c26 h
  by_cases c27 : cT G a = 27
  · have h := g_it c27 h
    exact c_cD (y := yX37_hiss) (As := []) 63 rfl hdg w1 q2393 q3387 q2395 hx_Sounds_hiss S hE hG hS hC0 hls rfl (hE.K.1 26 _ rfl).2 (c_recv hE hG (ci := 26) rfl (by decide) c27) (wm_X37_hiss E l a G _ h) hst hW ⟨by omega, by omega⟩ (fun H1 locs1 h1 h2 => kk H1 locs1 h1 h2)
  have h := g_if c27 h
  cases h
end DSP
theorem hc_X14_draw : cHd yX14_draw 0 := by decide +kernel
set_option maxHeartbeats 4000000 in
set_option maxRecDepth 100000 in
theorem wm_X14_draw (E : gX) (l : Launch) (x0 : Nat) (Gz : GH) (r : Int32) (h : cm_X14_draw x0 Gz = some r) : gMetC E l yX14_draw cX14_draw 3 (some Jvm.ClassFile.FieldType.int) 4 [.ref x0] Gz Gz (some (.int r)) := by
  refine gMetC.of (own := RX14) (by decide +kernel) (Nat.le_of_ble_eq_true rfl) rfl ?_
  intro p e s m args below meth c S hr hk hnm hE hC0 hG hS ls hl
  have hl : lv_has ls 3 [(0, .ref x0)] := hl
  have hx := S.1
  have hb := S.2.1
  unfold cm_X14_draw at h
  refine lv_aload_n hx hb dX14_draw_0 rfl (lv_at hl 0 rfl) ?_
  refine lv_astore_n (lv' := [(1, .ref x0), (0, .ref x0)]) hx hb dX14_draw_1 rfl hl (by decide) rfl (fun ls hl => ?_)
  refine lv_aload_n hx hb dX14_draw_2 rfl (lv_at hl 1 rfl) ?_
  refine lv_astore_n (lv' := [(2, .ref x0), (1, .ref x0), (0, .ref x0)]) hx hb dX14_draw_3 rfl hl (by decide) rfl (fun ls hl => ?_)
  refine lv_aload_n hx hb dX14_draw_4 rfl (lv_at hl 1 rfl) ?_
  obtain ⟨v5, e5, h⟩ := g_bd h
  refine wd_Turns_pull (rest := []) q2414 dX14_draw_5 S hE hG hS hC0 hl.1 e5 rfl (Nat.le_of_ble_eq_true rfl) (by decide) (fun H locs hG hS => ?_)
  refine lv_aload_n hx hb dX14_draw_10 rfl (lv_at hl 0 rfl) ?_
  obtain ⟨v11, e11, h⟩ := g_bd h
  refine wd_Sounds_hiss (rest := [.int v5]) q2427 dX14_draw_11 S hE hG hS hC0 hl.1 e11 rfl (Nat.le_of_ble_eq_true rfl) (by decide) (fun H locs hG hS => ?_)
  refine lv_iadd hx hb dX14_draw_16 ?_
  exact c_iretR dX14_draw_17 S hr hk hC0 hG hS h
theorem hc_X38_burn : cHd yX38_burn 0 := by decide +kernel
set_option maxHeartbeats 4000000 in
set_option maxRecDepth 100000 in
theorem wm_X38_burn (E : gX) (l : Launch) (x0 : Nat) (Gz : GH) (r : Int32) (h : cm_X38_burn x0 Gz = some r) : gMetC E l yX38_burn cX38_burn 1 (some Jvm.ClassFile.FieldType.int) 3 [.ref x0] Gz Gz (some (.int r)) := by
  refine gMetC.of (own := RX38) (by decide +kernel) (Nat.le_of_ble_eq_true rfl) rfl ?_
  intro p e s m args below meth c S hr hk hnm hE hC0 hG hS ls hl
  have hl : lv_has ls 1 [(0, .ref x0)] := hl
  have hx := S.1
  have hb := S.2.1
  unfold cm_X38_burn at h
  refine lv_aload_n hx hb dX38_burn_0 rfl (lv_at hl 0 rfl) ?_
  obtain ⟨v1, e1, h⟩ := g_bd h
  refine wd_Lamps_light (rest := []) q2366 dX38_burn_1 S hE hG hS hC0 hl.1 e1 rfl (Nat.le_of_ble_eq_true rfl) (by decide) (fun H locs hG hS => ?_)
  obtain ⟨v6, e6, h⟩ := g_bd h
  refine cg_X38_7 dX38_burn_6 S hE hG e6 ?_
  refine lv_aload_n hx hb dX38_burn_9 rfl (lv_at hl 0 rfl) ?_
  obtain ⟨v10, e10, h⟩ := g_bd h
  refine wd_Lamps_light (rest := [.int v6]) q2366 dX38_burn_10 S hE hG hS hC0 hl.1 e10 rfl (Nat.le_of_ble_eq_true rfl) (by decide) (fun H locs hG hS => ?_)
  obtain ⟨v15, e15, h⟩ := g_bd h
  refine cg_X38_13 dX38_burn_15 S hE hG e15 ?_
  refine lv_imul hx hb dX38_burn_18 ?_
  refine lv_bipush (v := 100) hx hb dX38_burn_19 (by decide) ?_
  refine lv_idiv hx hb dX38_burn_21 (by decide) ?_
  exact c_iretR dX38_burn_22 S hr hk hC0 hG hS h
section DSP
variable {p : Program} {l : Launch} {e : Env} {R : Room} {s : State} {m : MethodId} {args : Array Value} {below : List Frame} {meth : Method} {c : Code} {H : Heap} {locs : List Loc} {cells slots : Nat} {Q : State → Prop}
variable {cc : ByteArray} {pc nL lev0 : Nat} {ls : Array Slot} {rest st : List Value} {E : gX} {G Gz G1 : GH}
theorem hx_Lamps_burn : cHd ⟨"FairHouse$Lamps", "burn", "()I"⟩ 0 := by decide +kernel
set_option maxHeartbeats 4000000 in
set_option maxRecDepth 100000 in
theorem wd_Lamps_burn {own : String} {a idx count : Nat} {r : Int32} (w1 : Cond.methodLink own idx ⟨"FairHouse$Lamps", "burn", "()I"⟩ ∈ lw_all) (hdg : decode cc pc = .ok (.invokeinterface idx count, 5)) (S : CallFix p m c cc nL s args lw_all own) (hE : gEnv E s) (hG : gC E G H) (hS : va_S (gx_C E) s.heap H locs) (hC0 : gC E Gz s.heap) (hls : ls.size = nL) (h : cd_Lamps_burn a G = some r) (hst : st = [] ++ .ref a :: rest) (hW : (rest.map fun v => v.category).sum ≤ 8) (hroom : 3 + 1 ≤ lev0)
    (kk : ∀ (H1 : Heap) (locs1 : List Loc), gC E G H1 → va_S (gx_C E) s.heap H1 locs1 → WC E p l e (gRm lev0 (cBx Gz) (cBs Gz)) s m args below meth c H1 locs1 Q (F0 m (pc + 5) ls (.int r :: rest))) : WC E p l e (gRm lev0 (cBx Gz) (cBs Gz)) s m args below meth c H locs Q (F0 m pc ls st) := by
  unfold cd_Lamps_burn at h
  by_cases c23 : cT G a = 23
  · have h := g_it c23 h
    exact c_cD (y := yX38_burn) (As := []) 0 rfl hdg w1 q2362 q3391 q2364 hx_Lamps_burn S hE hG hS hC0 hls rfl (hE.K.1 22 _ rfl).2 (c_recv hE hG (ci := 22) rfl (by decide) c23) (wm_X38_burn E l a G _ h) hst hW ⟨by omega, by omega⟩ (fun H1 locs1 h1 h2 => kk H1 locs1 h1 h2)
  have h := g_if c23 h
  by_cases c25 : cT G a = 25
  · have h := g_it c25 h
    exact c_cD (y := yX38_burn) (As := []) 1 rfl hdg w1 q2362 q3391 q2364 hx_Lamps_burn S hE hG hS hC0 hls rfl (hE.K.1 24 _ rfl).2 (c_recv hE hG (ci := 24) rfl (by decide) c25) (wm_X38_burn E l a G _ h) hst hW ⟨by omega, by omega⟩ (fun H1 locs1 h1 h2 => kk H1 locs1 h1 h2)
  have h := g_if c25 h
  by_cases c26 : cT G a = 26
  · have h := g_it c26 h
    exact c_cD (y := yX38_burn) (As := []) 2 rfl hdg w1 q2362 q3391 q2364 hx_Lamps_burn S hE hG hS hC0 hls rfl (hE.K.1 25 _ rfl).2 (c_recv hE hG (ci := 25) rfl (by decide) c26) (wm_X38_burn E l a G _ h) hst hW ⟨by omega, by omega⟩ (fun H1 locs1 h1 h2 => kk H1 locs1 h1 h2)
  have h := g_if c26 h
  by_cases c27 : cT G a = 27
  · have h := g_it c27 h
    exact c_cD (y := yX38_burn) (As := []) 3 rfl hdg w1 q2362 q3391 q2364 hx_Lamps_burn S hE hG hS hC0 hls rfl (hE.K.1 26 _ rfl).2 (c_recv hE hG (ci := 26) rfl (by decide) c27) (wm_X38_burn E l a G _ h) hst hW ⟨by omega, by omega⟩ (fun H1 locs1 h1 h2 => kk H1 locs1 h1 h2)
  have h := g_if c27 h
  cases h
end DSP
theorem hc_X38_draw : cHd yX38_draw 0 := by decide +kernel
set_option maxHeartbeats 4000000 in
set_option maxRecDepth 100000 in
theorem wm_X38_draw (E : gX) (l : Launch) (x0 : Nat) (Gz : GH) (r : Int32) (h : cm_X38_draw x0 Gz = some r) : gMetC E l yX38_draw cX38_draw 1 (some Jvm.ClassFile.FieldType.int) 4 [.ref x0] Gz Gz (some (.int r)) := by
  refine gMetC.of (own := RX38) (by decide +kernel) (Nat.le_of_ble_eq_true rfl) rfl ?_
  intro p e s m args below meth c S hr hk hnm hE hC0 hG hS ls hl
  have hl : lv_has ls 1 [(0, .ref x0)] := hl
  have hx := S.1
  have hb := S.2.1
  unfold cm_X38_draw at h
  refine lv_aload_n hx hb dX38_draw_0 rfl (lv_at hl 0 rfl) ?_
  obtain ⟨v1, e1, h⟩ := g_bd h
  refine wd_Lamps_burn (rest := []) q2358 dX38_draw_1 S hE hG hS hC0 hl.1 e1 rfl (Nat.le_of_ble_eq_true rfl) (by decide) (fun H locs hG hS => ?_)
  exact c_iretR dX38_draw_6 S hr hk hC0 hG hS h
theorem hc_X18_draw : cHd yX18_draw 0 := by decide +kernel
set_option maxHeartbeats 4000000 in
set_option maxRecDepth 100000 in
theorem wm_X18_draw (E : gX) (l : Launch) (x0 : Nat) (Gz : GH) (r : Int32) (h : cm_X18_draw x0 Gz = some r) : gMetC E l yX18_draw cX18_draw 4 (some Jvm.ClassFile.FieldType.int) 4 [.ref x0] Gz Gz (some (.int r)) := by
  refine gMetC.of (own := RX18) (by decide +kernel) (Nat.le_of_ble_eq_true rfl) rfl ?_
  intro p e s m args below meth c S hr hk hnm hE hC0 hG hS ls hl
  have hl : lv_has ls 4 [(0, .ref x0)] := hl
  have hx := S.1
  have hb := S.2.1
  unfold cm_X18_draw at h
  refine lv_aload_n hx hb dX18_draw_0 rfl (lv_at hl 0 rfl) ?_
  refine lv_astore_n (lv' := [(1, .ref x0), (0, .ref x0)]) hx hb dX18_draw_1 rfl hl (by decide) rfl (fun ls hl => ?_)
  refine lv_aload_n hx hb dX18_draw_2 rfl (lv_at hl 1 rfl) ?_
  refine lv_astore_n (lv' := [(2, .ref x0), (1, .ref x0), (0, .ref x0)]) hx hb dX18_draw_3 rfl hl (by decide) rfl (fun ls hl => ?_)
  refine lv_aload_n hx hb dX18_draw_4 rfl (lv_at hl 2 rfl) ?_
  refine lv_astore_n (lv' := [(3, .ref x0), (2, .ref x0), (1, .ref x0), (0, .ref x0)]) hx hb dX18_draw_5 rfl hl (by decide) rfl (fun ls hl => ?_)
  refine lv_aload_n hx hb dX18_draw_6 rfl (lv_at hl 2 rfl) ?_
  obtain ⟨v7, e7, h⟩ := g_bd h
  refine wd_Lifts_heave (rest := []) q2376 dX18_draw_7 S hE hG hS hC0 hl.1 e7 rfl (Nat.le_of_ble_eq_true rfl) (by decide) (fun H locs hG hS => ?_)
  refine lv_aload_n hx hb dX18_draw_12 rfl (lv_at hl 1 rfl) ?_
  obtain ⟨v13, e13, h⟩ := g_bd h
  refine wd_Lamps_burn (rest := [.int v7]) q2387 dX18_draw_13 S hE hG hS hC0 hl.1 e13 rfl (Nat.le_of_ble_eq_true rfl) (by decide) (fun H locs hG hS => ?_)
  refine lv_iadd hx hb dX18_draw_18 ?_
  refine lv_aload_n hx hb dX18_draw_19 rfl (lv_at hl 0 rfl) ?_
  obtain ⟨v20, e20, h⟩ := g_bd h
  refine wd_Sounds_hiss (rest := [.int (v7 + v13)]) q2389 dX18_draw_20 S hE hG hS hC0 hl.1 e20 rfl (Nat.le_of_ble_eq_true rfl) (by decide) (fun H locs hG hS => ?_)
  refine lv_iadd hx hb dX18_draw_25 ?_
  exact c_iretR dX18_draw_26 S hr hk hC0 hG hS h
theorem hc_X19_draw : cHd yX19_draw 0 := by decide +kernel
set_option maxHeartbeats 4000000 in
set_option maxRecDepth 100000 in
theorem wm_X19_draw (E : gX) (l : Launch) (x0 : Nat) (Gz : GH) (r : Int32) (h : cm_X19_draw x0 Gz = some r) : gMetC E l yX19_draw cX19_draw 3 (some Jvm.ClassFile.FieldType.int) 4 [.ref x0] Gz Gz (some (.int r)) := by
  refine gMetC.of (own := RX19) (by decide +kernel) (Nat.le_of_ble_eq_true rfl) rfl ?_
  intro p e s m args below meth c S hr hk hnm hE hC0 hG hS ls hl
  have hl : lv_has ls 3 [(0, .ref x0)] := hl
  have hx := S.1
  have hb := S.2.1
  unfold cm_X19_draw at h
  refine lv_aload_n hx hb dX19_draw_0 rfl (lv_at hl 0 rfl) ?_
  refine lv_astore_n (lv' := [(1, .ref x0), (0, .ref x0)]) hx hb dX19_draw_1 rfl hl (by decide) rfl (fun ls hl => ?_)
  refine lv_aload_n hx hb dX19_draw_2 rfl (lv_at hl 1 rfl) ?_
  refine lv_astore_n (lv' := [(2, .ref x0), (1, .ref x0), (0, .ref x0)]) hx hb dX19_draw_3 rfl hl (by decide) rfl (fun ls hl => ?_)
  refine lv_aload_n hx hb dX19_draw_4 rfl (lv_at hl 1 rfl) ?_
  obtain ⟨v5, e5, h⟩ := g_bd h
  refine wd_Lamps_burn (rest := []) q2405 dX19_draw_5 S hE hG hS hC0 hl.1 e5 rfl (Nat.le_of_ble_eq_true rfl) (by decide) (fun H locs hG hS => ?_)
  refine lv_aload_n hx hb dX19_draw_10 rfl (lv_at hl 0 rfl) ?_
  obtain ⟨v11, e11, h⟩ := g_bd h
  refine wd_Sounds_hiss (rest := [.int v5]) q2407 dX19_draw_11 S hE hG hS hC0 hl.1 e11 rfl (Nat.le_of_ble_eq_true rfl) (by decide) (fun H locs hG hS => ?_)
  refine lv_iadd hx hb dX19_draw_16 ?_
  exact c_iretR dX19_draw_17 S hr hk hC0 hG hS h
theorem hc_X20_draw : cHd yX20_draw 0 := by decide +kernel
set_option maxHeartbeats 4000000 in
set_option maxRecDepth 100000 in
theorem wm_X20_draw (E : gX) (l : Launch) (x0 : Nat) (Gz : GH) (r : Int32) (h : cm_X20_draw x0 Gz = some r) : gMetC E l yX20_draw cX20_draw 5 (some Jvm.ClassFile.FieldType.int) 4 [.ref x0] Gz Gz (some (.int r)) := by
  refine gMetC.of (own := RX20) (by decide +kernel) (Nat.le_of_ble_eq_true rfl) rfl ?_
  intro p e s m args below meth c S hr hk hnm hE hC0 hG hS ls hl
  have hl : lv_has ls 5 [(0, .ref x0)] := hl
  have hx := S.1
  have hb := S.2.1
  unfold cm_X20_draw at h
  refine lv_aload_n hx hb dX20_draw_0 rfl (lv_at hl 0 rfl) ?_
  refine lv_astore_n (lv' := [(1, .ref x0), (0, .ref x0)]) hx hb dX20_draw_1 rfl hl (by decide) rfl (fun ls hl => ?_)
  refine lv_aload_n hx hb dX20_draw_2 rfl (lv_at hl 1 rfl) ?_
  refine lv_astore_n (lv' := [(2, .ref x0), (1, .ref x0), (0, .ref x0)]) hx hb dX20_draw_3 rfl hl (by decide) rfl (fun ls hl => ?_)
  refine lv_aload_n hx hb dX20_draw_4 rfl (lv_at hl 2 rfl) ?_
  refine lv_astore_n (lv' := [(3, .ref x0), (2, .ref x0), (1, .ref x0), (0, .ref x0)]) hx hb dX20_draw_5 rfl hl (by decide) rfl (fun ls hl => ?_)
  refine lv_aload_n hx hb dX20_draw_6 rfl (lv_at hl 3 rfl) ?_
  refine lv_astore (lv' := [(4, .ref x0), (3, .ref x0), (2, .ref x0), (1, .ref x0), (0, .ref x0)]) hx hb dX20_draw_7 hl (by decide) rfl (fun ls hl => ?_)
  refine lv_aload_n hx hb dX20_draw_9 rfl (lv_at hl 3 rfl) ?_
  obtain ⟨v10, e10, h⟩ := g_bd h
  refine wd_Turns_pull (rest := []) q2434 dX20_draw_10 S hE hG hS hC0 hl.1 e10 rfl (Nat.le_of_ble_eq_true rfl) (by decide) (fun H locs hG hS => ?_)
  refine lv_aload_n hx hb dX20_draw_15 rfl (lv_at hl 2 rfl) ?_
  obtain ⟨v16, e16, h⟩ := g_bd h
  refine wd_Lifts_heave (rest := [.int v10]) q2436 dX20_draw_16 S hE hG hS hC0 hl.1 e16 rfl (Nat.le_of_ble_eq_true rfl) (by decide) (fun H locs hG hS => ?_)
  refine lv_iadd hx hb dX20_draw_21 ?_
  refine lv_aload_n hx hb dX20_draw_22 rfl (lv_at hl 1 rfl) ?_
  obtain ⟨v23, e23, h⟩ := g_bd h
  refine wd_Lamps_burn (rest := [.int (v10 + v16)]) q2438 dX20_draw_23 S hE hG hS hC0 hl.1 e23 rfl (Nat.le_of_ble_eq_true rfl) (by decide) (fun H locs hG hS => ?_)
  refine lv_aload hx hb dX20_draw_28 (lv_at hl 0 rfl) ?_
  obtain ⟨v30, e30, h⟩ := g_bd h
  refine wd_Sounds_hiss (rest := [.int v23, .int (v10 + v16)]) q2440 dX20_draw_30 S hE hG hS hC0 hl.1 e30 rfl (Nat.le_of_ble_eq_true rfl) (by decide) (fun H locs hG hS => ?_)
  refine c_math_max q2290 dX20_draw_35 S hl.1 hC0 hG hS (by decide) (Nat.le_of_ble_eq_true rfl) ?_
  refine lv_iadd hx hb dX20_draw_38 ?_
  exact c_iretR dX20_draw_39 S hr hk hC0 hG hS h
theorem hc_X35_draw : cHd yX35_draw 0 := by decide +kernel
set_option maxHeartbeats 4000000 in
set_option maxRecDepth 100000 in
theorem wm_X35_draw (E : gX) (l : Launch) (x0 : Nat) (Gz : GH) (r : Int32) (h : cm_X35_draw x0 Gz = some r) : gMetC E l yX35_draw cX35_draw 1 (some Jvm.ClassFile.FieldType.int) 4 [.ref x0] Gz Gz (some (.int r)) := by
  refine gMetC.of (own := RX35) (by decide +kernel) (Nat.le_of_ble_eq_true rfl) rfl ?_
  intro p e s m args below meth c S hr hk hnm hE hC0 hG hS ls hl
  have hl : lv_has ls 1 [(0, .ref x0)] := hl
  have hx := S.1
  have hb := S.2.1
  unfold cm_X35_draw at h
  by_cases t28 : cT Gz x0 = 28
  · have h := g_it t28 h
    refine lv_aload_n hx hb dX35_draw_0 rfl (lv_at hl 0 rfl) ?_
    obtain ⟨v1, e1, h⟩ := g_bd h
    have e1' : cm_X34_pull x0 Gz = some v1 := by
      unfold cd_Turns_pull at e1
      rw [if_neg (by omega), if_neg (by omega), if_neg (by omega), if_neg (by omega), if_pos t28] at e1
      exact e1
    refine c_cU (y := yX34_pull) (As := []) (rest := []) 1 rfl dX35_draw_1 (lw_nw q2320 rfl) q2418 q3388 q2420 (by decide +kernel) S hE (gSel.ofD hE 82 rfl) hG hS hC0 hl.1 rfl (c_recv hE hG (ci := 27) rfl (by decide) t28) (wm_X34_pull E l x0 Gz _ e1') rfl (Nat.le_of_ble_eq_true rfl) ⟨Nat.le_of_ble_eq_true rfl, Nat.le_of_ble_eq_true rfl⟩ (fun H locs hG hS => ?_)
    refine lv_iconst (v := 2) hx hb dX35_draw_6 (by decide) ?_
    refine lv_idiv hx hb dX35_draw_7 (by decide) ?_
    exact c_iretR dX35_draw_8 S hr hk hC0 hG hS h
  · have h := g_if t28 h
    cases h
section DSP
variable {p : Program} {l : Launch} {e : Env} {R : Room} {s : State} {m : MethodId} {args : Array Value} {below : List Frame} {meth : Method} {c : Code} {H : Heap} {locs : List Loc} {cells slots : Nat} {Q : State → Prop}
variable {cc : ByteArray} {pc nL lev0 : Nat} {ls : Array Slot} {rest st : List Value} {E : gX} {G Gz G1 : GH}
theorem hx_Machine_draw : cHd ⟨"FairHouse$Machine", "draw", "()I"⟩ 0 := by decide +kernel
set_option maxHeartbeats 4000000 in
set_option maxRecDepth 100000 in
theorem wd_Machine_draw {own : String} {a idx count : Nat} {r : Int32} (w1 : Cond.methodLink own idx ⟨"FairHouse$Machine", "draw", "()I"⟩ ∈ lw_all) (hdg : decode cc pc = .ok (.invokeinterface idx count, 5)) (S : CallFix p m c cc nL s args lw_all own) (hE : gEnv E s) (hG : gC E G H) (hS : va_S (gx_C E) s.heap H locs) (hC0 : gC E Gz s.heap) (hls : ls.size = nL) (h : cd_Machine_draw a G = some r) (hst : st = [] ++ .ref a :: rest) (hW : (rest.map fun v => v.category).sum ≤ 8) (hroom : 4 + 1 ≤ lev0)
    (kk : ∀ (H1 : Heap) (locs1 : List Loc), gC E G H1 → va_S (gx_C E) s.heap H1 locs1 → WC E p l e (gRm lev0 (cBx Gz) (cBs Gz)) s m args below meth c H1 locs1 Q (F0 m (pc + 5) ls (.int r :: rest))) : WC E p l e (gRm lev0 (cBx Gz) (cBs Gz)) s m args below meth c H locs Q (F0 m pc ls st) := by
  unfold cd_Machine_draw at h
  by_cases c14 : cT G a = 14
  · have h := g_it c14 h
    exact c_cD (y := yX34_draw) (As := []) 24 rfl hdg w1 q2466 q3388 q2468 hx_Machine_draw S hE hG hS hC0 hls rfl (hE.K.1 13 _ rfl).2 (c_recv hE hG (ci := 13) rfl (by decide) c14) (wm_X34_draw E l a G _ h) hst hW ⟨by omega, by omega⟩ (fun H1 locs1 h1 h2 => kk H1 locs1 h1 h2)
  have h := g_if c14 h
  by_cases c18 : cT G a = 18
  · have h := g_it c18 h
    exact c_cD (y := yX36_draw) (As := []) 25 rfl hdg w1 q2459 q3386 q2461 hx_Machine_draw S hE hG hS hC0 hls rfl (hE.K.1 17 _ rfl).2 (c_recv hE hG (ci := 17) rfl (by decide) c18) (wm_X36_draw E l a G _ h) hst hW ⟨by omega, by omega⟩ (fun H1 locs1 h1 h2 => kk H1 locs1 h1 h2)
  have h := g_if c18 h
  by_cases c20 : cT G a = 20
  · have h := g_it c20 h
    exact c_cF (y := yX13_draw) (As := []) 9 rfl hdg w1 q2443 q2441 q155 q2445 hx_Machine_draw S hE hG hS hC0 hls rfl (hE.K.1 19 _ rfl).2 (c_recv hE hG (ci := 19) rfl (by decide) c20) (wm_X13_draw E l a G _ h) hst hW ⟨by omega, by omega⟩ (fun H1 locs1 h1 h2 => kk H1 locs1 h1 h2)
  have h := g_if c20 h
  by_cases c21 : cT G a = 21
  · have h := g_it c21 h
    exact c_cF (y := yX14_draw) (As := []) 10 rfl hdg w1 q2410 q2408 q156 q2412 hx_Machine_draw S hE hG hS hC0 hls rfl (hE.K.1 20 _ rfl).2 (c_recv hE hG (ci := 20) rfl (by decide) c21) (wm_X14_draw E l a G _ h) hst hW ⟨by omega, by omega⟩ (fun H1 locs1 h1 h2 => kk H1 locs1 h1 h2)
  have h := g_if c21 h
  by_cases c23 : cT G a = 23
  · have h := g_it c23 h
    exact c_cD (y := yX38_draw) (As := []) 26 rfl hdg w1 q2354 q3391 q2356 hx_Machine_draw S hE hG hS hC0 hls rfl (hE.K.1 22 _ rfl).2 (c_recv hE hG (ci := 22) rfl (by decide) c23) (wm_X38_draw E l a G _ h) hst hW ⟨by omega, by omega⟩ (fun H1 locs1 h1 h2 => kk H1 locs1 h1 h2)
  have h := g_if c23 h
  by_cases c25 : cT G a = 25
  · have h := g_it c25 h
    exact c_cF (y := yX18_draw) (As := []) 11 rfl hdg w1 q2372 q2370 q160 q2374 hx_Machine_draw S hE hG hS hC0 hls rfl (hE.K.1 24 _ rfl).2 (c_recv hE hG (ci := 24) rfl (by decide) c25) (wm_X18_draw E l a G _ h) hst hW ⟨by omega, by omega⟩ (fun H1 locs1 h1 h2 => kk H1 locs1 h1 h2)
  have h := g_if c25 h
  by_cases c26 : cT G a = 26
  · have h := g_it c26 h
    exact c_cF (y := yX19_draw) (As := []) 12 rfl hdg w1 q2401 q2399 q161 q2403 hx_Machine_draw S hE hG hS hC0 hls rfl (hE.K.1 25 _ rfl).2 (c_recv hE hG (ci := 25) rfl (by decide) c26) (wm_X19_draw E l a G _ h) hst hW ⟨by omega, by omega⟩ (fun H1 locs1 h1 h2 => kk H1 locs1 h1 h2)
  have h := g_if c26 h
  by_cases c27 : cT G a = 27
  · have h := g_it c27 h
    exact c_cF (y := yX20_draw) (As := []) 13 rfl hdg w1 q2430 q2428 q162 q2432 hx_Machine_draw S hE hG hS hC0 hls rfl (hE.K.1 26 _ rfl).2 (c_recv hE hG (ci := 26) rfl (by decide) c27) (wm_X20_draw E l a G _ h) hst hW ⟨by omega, by omega⟩ (fun H1 locs1 h1 h2 => kk H1 locs1 h1 h2)
  have h := g_if c27 h
  by_cases c28 : cT G a = 28
  · have h := g_it c28 h
    exact c_cD (y := yX35_draw) (As := []) 27 rfl hdg w1 q2453 q3390 q2455 hx_Machine_draw S hE hG hS hC0 hls rfl (hE.K.1 27 _ rfl).2 (c_recv hE hG (ci := 27) rfl (by decide) c28) (wm_X35_draw E l a G _ h) hst hW ⟨by omega, by omega⟩ (fun H1 locs1 h1 h2 => kk H1 locs1 h1 h2)
  have h := g_if c28 h
  cases h
end DSP
theorem hc_X1_shed : cHd yX1_shed 1 := by decide +kernel
set_option maxHeartbeats 4000000 in
set_option maxRecDepth 100000 in
theorem wm_X1_shed (E : gX) (l : Launch) (x0 : Nat) (x1 : Int32) (Gz G' : GH) (h : cm_X1_shed x0 x1 Gz = some G') : gMetC E l yX1_shed cX1_shed 7 none 9 [.ref x0, .int x1] Gz G' none := by
  refine gMetC.of (own := RX1) (by decide +kernel) (Nat.le_of_ble_eq_true rfl) rfl ?_
  intro p e s m args below meth c S hr hk hnm hE hC0 hG hS ls hl
  have hl : lv_has ls 7 [(0, .ref x0), (1, .int x1)] := hl
  have hx := S.1
  have hb := S.2.1
  have L45 : ∀ (n : Nat) (x0 : Nat) (x2 : Int32) (x3 : Int32) (G : GH) (H : Heap) (locs : List Loc) (ls : Array Slot), cm_X1_shed_L45 n x0 x2 x3 G = some G' → gC E G H → va_S (gx_C E) s.heap H locs → lv_has ls 7 [(0, .ref x0), (2, .int x2), (3, .int x3)] → WC E p l e (gRm 9 (cBx Gz) (cBs Gz)) s m args below meth c H locs (MQ below (gQ none (gC E G') (gx_C E)) args s (cBx Gz) (cBs Gz) (gx_C E)) (F0 m 45 ls []) := by
    intro n45
    induction n45 with
    | zero =>
      intro x0 x2 x3 G H locs ls h
      cases h
    | succ n45 ih45 =>
      have J156 : ∀ (x0 : Nat) (x2 : Int32) (x3 : Int32) (G : GH) (H : Heap) (locs : List Loc) (ls : Array Slot), cm_X1_shed_J156 (cm_X1_shed_L45 n45) x0 x2 x3 G = some G' → gC E G H → va_S (gx_C E) s.heap H locs → lv_has ls 7 [(0, .ref x0), (2, .int x2), (3, .int x3)] → WC E p l e (gRm 9 (cBx Gz) (cBs Gz)) s m args below meth c H locs (MQ below (gQ none (gC E G') (gx_C E)) args s (cBx Gz) (cBs Gz) (gx_C E)) (F0 m 156 ls []) := by
        intro x0 x2 x3 G H locs ls h hG hS hl
        unfold cm_X1_shed_J156 at h
        refine lv_iinc (k := 2) (v := (x3 + (-1))) (lv' := [(3, .int (x3 + (-1))), (0, .ref x0), (2, .int x2)]) hx hb dX1_shed_156 hl rfl rfl (by decide) rfl (fun ls hl => ?_)
        refine lv_goto (tgt := 45) hx hb dX1_shed_159 (by decide) ?_
        exact ih45 x0 x2 (x3 + (-1)) G _ _ _ h hG hS (lv_sub hl [1, 2, 0] rfl)
      have J113 : ∀ (x0 : Nat) (x2 : Int32) (x3 : Int32) (x4 : Nat) (x6 : Int32) (G : GH) (H : Heap) (locs : List Loc) (ls : Array Slot), cm_X1_shed_J113 (cm_X1_shed_L45 n45) x0 x2 x3 x4 x6 G = some G' → gC E G H → va_S (gx_C E) s.heap H locs → lv_has ls 7 [(0, .ref x0), (2, .int x2), (3, .int x3), (4, .ref x4), (6, .int x6)] → WC E p l e (gRm 9 (cBx Gz) (cBs Gz)) s m args below meth c H locs (MQ below (gQ none (gC E G') (gx_C E)) args s (cBx Gz) (cBs Gz) (gx_C E)) (F0 m 113 ls []) := by
        intro x0 x2 x3 x4 x6 G H locs ls h hG hS hl
        unfold cm_X1_shed_J113 at h
        refine lv_iload_n hx hb dX1_shed_113 rfl (lv_at hl 1 rfl) ?_
        refine lv_iload hx hb dX1_shed_114 (lv_at hl 4 rfl) ?_
        refine lv_isub hx hb dX1_shed_116 ?_
        refine lv_istore_n (lv' := [(2, .int (x2 - x6)), (0, .ref x0), (3, .int x3), (4, .ref x4), (6, .int x6)]) hx hb dX1_shed_117 rfl hl (by decide) rfl (fun ls hl => ?_)
        refine lv_aload hx hb dX1_shed_118 (lv_at hl 3 rfl) ?_
        obtain ⟨G120, e120, h⟩ := g_bd h
        refine c_cS (y := yX1_goals) (rest := []) dX1_shed_120 q1729 q1730 q119 q1731 hc_X1_goals S hE hG hS hC0 hl.1 rfl (wm_X1_goals E l x4 G _ e120) rfl (Nat.le_of_ble_eq_true rfl) ⟨Nat.le_of_ble_eq_true rfl, Nat.le_of_ble_eq_true rfl⟩ (fun H locs hG hS => ?_)
        refine lv_aload hx hb dX1_shed_123 (lv_at hl 3 rfl) ?_
        obtain ⟨G125, e125, h⟩ := g_bd h
        refine c_cS (y := yX1_dark) (rest := []) dX1_shed_125 q1764 q1765 q119 q1766 hc_X1_dark S hE hG hS hC0 hl.1 rfl (wm_X1_dark E l x4 G120 _ e125) rfl (Nat.le_of_ble_eq_true rfl) ⟨Nat.le_of_ble_eq_true rfl, Nat.le_of_ble_eq_true rfl⟩ (fun H locs hG hS => ?_)
        refine lv_aload_n hx hb dX1_shed_128 rfl (lv_at hl 1 rfl) ?_
        refine lv_iconst (v := 3) hx hb dX1_shed_129 (by decide) ?_
        refine lv_iload_n hx hb dX1_shed_130 rfl (lv_at hl 2 rfl) ?_
        refine lv_iload hx hb dX1_shed_131 (lv_at hl 4 rfl) ?_
        obtain ⟨u133, t133, h⟩ := g_bd h
        obtain ⟨G133, e133, h⟩ := g_bd h
        refine c_cV (y := yX1_tell) (rest := []) dX1_shed_133 q1992 q1994 qs43 q119 q1995 hc_X1_tell rfl S hE hG hS hC0 hl.1 rfl (c_recv hE hG (ci := 8) rfl (by decide) (c_castM t133)) (wm_X1_tell E l x0 3 x3 x6 G125 _ e133) rfl (Nat.le_of_ble_eq_true rfl) ⟨Nat.le_of_ble_eq_true rfl, Nat.le_of_ble_eq_true rfl⟩ (fun H locs hG hS => ?_)
        refine lv_aload hx hb dX1_shed_136 (lv_at hl 3 rfl) ?_
        obtain ⟨v138, e138, h⟩ := g_bd h
        refine cg_X1_154 dX1_shed_138 S hE hG e138 ?_
        obtain ⟨v141, e141, h⟩ := g_bd h
        refine cg_X1_272 dX1_shed_141 S hE hG e141 ?_
        refine lv_if_ne (tgt := 156) hx hb dX1_shed_144 (by decide) (fun c144 => ?_) (fun c144 => ?_)
        · have h := g_if c144 h
          exact J156 x0 (x2 - x6) x3 G133 _ _ _ h hG hS (lv_sub hl [1, 0, 2] rfl)
        · have h := g_it c144 h
          refine lv_aload_n hx hb dX1_shed_147 rfl (lv_at hl 1 rfl) ?_
          refine lv_iload_n hx hb dX1_shed_148 rfl (lv_at hl 2 rfl) ?_
          refine lv_aload hx hb dX1_shed_149 (lv_at hl 3 rfl) ?_
          refine lv_bipush (v := 7) hx hb dX1_shed_151 (by decide) ?_
          obtain ⟨u153, t153, h⟩ := g_bd h
          obtain ⟨G153, e153, h⟩ := g_bd h
          refine c_cV (y := yX1_stalls) (rest := []) dX1_shed_153 q2232 q2234 qs54 q119 q2235 hc_X1_stalls rfl S hE hG hS hC0 hl.1 rfl (c_recv hE hG (ci := 8) rfl (by decide) (c_castM t153)) (wm_X1_stalls E l x0 x3 x4 7 G133 _ e153) rfl (Nat.le_of_ble_eq_true rfl) ⟨Nat.le_of_ble_eq_true rfl, Nat.le_of_ble_eq_true rfl⟩ (fun H locs hG hS => ?_)
          exact J156 x0 (x2 - x6) x3 G153 _ _ _ h hG hS (lv_sub hl [1, 0, 2] rfl)
      intro x0 x2 x3 G H locs ls h hG hS hl
      have h : cm_X1_shed_B45 (cm_X1_shed_L45 n45) x0 x2 x3 G = some G' := h
      unfold cm_X1_shed_B45 at h
      refine lv_iload_n hx hb dX1_shed_45 rfl (lv_at hl 2 rfl) ?_
      refine lv_if_lt (tgt := 162) hx hb dX1_shed_46 (by decide) (fun c46 => ?_) (fun c46 => ?_)
      · have h := g_it c46 h
        exact c_vretW dX1_shed_162 S hr hk hC0 hG hS h
      · have h := g_if c46 h
        refine lv_iload_n hx hb dX1_shed_49 rfl (lv_at hl 1 rfl) ?_
        refine lv_aload_n hx hb dX1_shed_50 rfl (lv_at hl 0 rfl) ?_
        obtain ⟨v51, e51, h⟩ := g_bd h
        refine cg_X1_75 dX1_shed_51 S hE hG e51 ?_
        obtain ⟨b54, eb54, h⟩ := g_bd h
        have rb54 : va_rf v51 = .ref b54 := by rw [eb54]; rfl
        (try rw [rb54] at hl)
        (try rw [rb54])
        obtain ⟨v54, e54, h⟩ := g_bd h
        refine cg_X1_118 dX1_shed_54 S hE hG e54 ?_
        refine lv_icmp_le (tgt := 162) hx hb dX1_shed_57 (by decide) (fun c57 => ?_) (fun c57 => ?_)
        · have h := g_it c57 h
          exact c_vretW dX1_shed_162 S hr hk hC0 hG hS h
        · have h := g_if c57 h
          refine lv_aload_n hx hb dX1_shed_60 rfl (lv_at hl 0 rfl) ?_
          obtain ⟨v61, e61, h⟩ := g_bd h
          refine cg_X1_75 dX1_shed_61 S hE hG e61 ?_
          obtain ⟨b64, eb64, h⟩ := g_bd h
          have rb64 : va_rf v61 = .ref b64 := by rw [eb64]; rfl
          (try rw [rb64] at hl)
          (try rw [rb64])
          obtain ⟨v64, e64, h⟩ := g_bd h
          refine cg_X1_104 dX1_shed_64 S hE hG e64 ?_
          refine lv_iload_n hx hb dX1_shed_67 rfl (lv_at hl 2 rfl) ?_
          obtain ⟨u68, t68, h⟩ := g_bd h
          obtain ⟨v68, e68, h⟩ := g_bd h
          refine c_cV (y := yJ6_get) (rest := []) dX1_shed_68 q1723 q886 q887 q128 q888 hc_J6_get rfl S hE hG hS hC0 hl.1 rfl (c_recv hE hG (ci := 2) rfl (by decide) (c_castM t68)) (wm_J6_get E l v64 x3 G _ e68) rfl (Nat.le_of_ble_eq_true rfl) ⟨Nat.le_of_ble_eq_true rfl, Nat.le_of_ble_eq_true rfl⟩ (fun H locs hG hS => ?_)
          obtain ⟨b71, eb71, h⟩ := g_bd h
          have rb71 : va_rf v68 = .ref b71 := by rw [eb71]; rfl
          (try rw [rb71] at hl)
          (try rw [rb71])
          obtain ⟨u71, e71, h⟩ := g_bd h
          refine ck_X1_131 dX1_shed_71 S hE hG e71 ?_
          refine lv_astore (lv' := [(4, .ref b71), (0, .ref x0), (2, .int x2), (3, .int x3)]) hx hb dX1_shed_74 hl (by decide) rfl (fun ls hl => ?_)
          refine lv_aload hx hb dX1_shed_76 (lv_at hl 0 rfl) ?_
          refine lv_astore (lv' := [(5, .ref b71), (4, .ref b71), (0, .ref x0), (2, .int x2), (3, .int x3)]) hx hb dX1_shed_78 hl (by decide) rfl (fun ls hl => ?_)
          refine lv_aload hx hb dX1_shed_80 (lv_at hl 0 rfl) ?_
          obtain ⟨v82, e82, h⟩ := g_bd h
          refine wd_Machine_draw (rest := []) q2349 dX1_shed_82 S hE hG hS hC0 hl.1 e82 rfl (Nat.le_of_ble_eq_true rfl) (by decide) (fun H locs hG hS => ?_)
          refine lv_istore (lv' := [(6, .int v82), (5, .ref b71), (4, .ref b71), (0, .ref x0), (2, .int x2), (3, .int x3)]) hx hb dX1_shed_87 hl (by decide) rfl (fun ls hl => ?_)
          refine lv_iload hx hb dX1_shed_89 (lv_at hl 0 rfl) ?_
          refine lv_if_eq (tgt := 156) hx hb dX1_shed_91 (by decide) (fun c91 => ?_) (fun c91 => ?_)
          · have h := g_it c91 h
            exact J156 x0 x2 x3 G _ _ _ h hG hS (lv_sub hl [3, 4, 5] rfl)
          · have h := g_if c91 h
            refine lv_aload hx hb dX1_shed_94 (lv_at hl 2 rfl) ?_
            obtain ⟨v96, e96, h⟩ := g_bd h
            refine c_cS (y := yX1_hasGoal) (rest := []) dX1_shed_96 q2471 q2472 q119 q2473 hc_X1_hasGoal S hE hG hS hC0 hl.1 rfl (wm_X1_hasGoal E l b71 G _ e96) rfl (Nat.le_of_ble_eq_true rfl) ⟨Nat.le_of_ble_eq_true rfl, Nat.le_of_ble_eq_true rfl⟩ (fun H locs hG hS => ?_)
            refine lv_if_ne (tgt := 113) hx hb dX1_shed_99 (by decide) (fun c99 => ?_) (fun c99 => ?_)
            · have h := g_if c99 h
              exact J113 x0 x2 x3 b71 v82 G _ _ _ h hG hS (lv_sub hl [3, 4, 5, 2, 0] rfl)
            · have h := g_it c99 h
              refine lv_aload hx hb dX1_shed_102 (lv_at hl 2 rfl) ?_
              obtain ⟨v104, e104, h⟩ := g_bd h
              refine c_cS (y := yX1_isBright) (rest := []) dX1_shed_104 q2474 q2475 q119 q2476 hc_X1_isBright S hE hG hS hC0 hl.1 rfl (wm_X1_isBright E l b71 G _ e104) rfl (Nat.le_of_ble_eq_true rfl) ⟨Nat.le_of_ble_eq_true rfl, Nat.le_of_ble_eq_true rfl⟩ (fun H locs hG hS => ?_)
              refine lv_if_ne (tgt := 113) hx hb dX1_shed_107 (by decide) (fun c107 => ?_) (fun c107 => ?_)
              · have h := g_if c107 h
                exact J113 x0 x2 x3 b71 v82 G _ _ _ h hG hS (lv_sub hl [3, 4, 5, 2, 0] rfl)
              · have h := g_it c107 h
                refine lv_goto (tgt := 156) hx hb dX1_shed_110 (by decide) ?_
                exact J156 x0 x2 x3 G _ _ _ h hG hS (lv_sub hl [3, 4, 5] rfl)
  have L4 : ∀ (n : Nat) (x0 : Nat) (x1 : Int32) (x2 : Int32) (x3 : Int32) (G : GH) (H : Heap) (locs : List Loc) (ls : Array Slot), cm_X1_shed_L4 n x0 x1 x2 x3 G = some G' → gC E G H → va_S (gx_C E) s.heap H locs → lv_has ls 7 [(0, .ref x0), (1, .int x1), (2, .int x2), (3, .int x3)] → WC E p l e (gRm 9 (cBx Gz) (cBs Gz)) s m args below meth c H locs (MQ below (gQ none (gC E G') (gx_C E)) args s (cBx Gz) (cBs Gz) (gx_C E)) (F0 m 4 ls []) := by
    intro n4
    induction n4 with
    | zero =>
      intro x0 x1 x2 x3 G H locs ls h
      cases h
    | succ n4 ih4 =>
      intro x0 x1 x2 x3 G H locs ls h hG hS hl
      have h : cm_X1_shed_B4 (cm_X1_shed_L4 n4) x0 x1 x2 x3 G = some G' := h
      unfold cm_X1_shed_B4 at h
      refine lv_iload_n hx hb dX1_shed_4 rfl (lv_at hl 3 rfl) ?_
      refine lv_iload_n hx hb dX1_shed_5 rfl (lv_at hl 1 rfl) ?_
      refine lv_icmp_ge (tgt := 41) hx hb dX1_shed_6 (by decide) (fun c6 => ?_) (fun c6 => ?_)
      · have h := g_it c6 h
        refine lv_iload_n hx hb dX1_shed_41 rfl (lv_at hl 1 rfl) ?_
        refine lv_iconst (v := 1) hx hb dX1_shed_42 (by decide) ?_
        refine lv_isub hx hb dX1_shed_43 ?_
        refine lv_istore_n (lv' := [(3, .int (x1 - 1)), (0, .ref x0), (1, .int x1), (2, .int x2)]) hx hb dX1_shed_44 rfl hl (by decide) rfl (fun ls hl => ?_)
        exact L45 gF x0 x2 (x1 - 1) G _ _ _ h hG hS (lv_sub hl [1, 3, 0] rfl)
      · have h := g_if c6 h
        refine lv_aload_n hx hb dX1_shed_9 rfl (lv_at hl 0 rfl) ?_
        obtain ⟨v10, e10, h⟩ := g_bd h
        refine cg_X1_75 dX1_shed_10 S hE hG e10 ?_
        obtain ⟨b13, eb13, h⟩ := g_bd h
        have rb13 : va_rf v10 = .ref b13 := by rw [eb13]; rfl
        (try rw [rb13] at hl)
        (try rw [rb13])
        obtain ⟨v13, e13, h⟩ := g_bd h
        refine cg_X1_104 dX1_shed_13 S hE hG e13 ?_
        refine lv_iload_n hx hb dX1_shed_16 rfl (lv_at hl 3 rfl) ?_
        obtain ⟨u17, t17, h⟩ := g_bd h
        obtain ⟨v17, e17, h⟩ := g_bd h
        refine c_cV (y := yJ6_get) (rest := []) dX1_shed_17 q1723 q886 q887 q128 q888 hc_J6_get rfl S hE hG hS hC0 hl.1 rfl (c_recv hE hG (ci := 2) rfl (by decide) (c_castM t17)) (wm_J6_get E l v13 x3 G _ e17) rfl (Nat.le_of_ble_eq_true rfl) ⟨Nat.le_of_ble_eq_true rfl, Nat.le_of_ble_eq_true rfl⟩ (fun H locs hG hS => ?_)
        obtain ⟨b20, eb20, h⟩ := g_bd h
        have rb20 : va_rf v17 = .ref b20 := by rw [eb20]; rfl
        (try rw [rb20] at hl)
        (try rw [rb20])
        obtain ⟨u20, e20, h⟩ := g_bd h
        refine ck_X1_257 dX1_shed_20 S hE hG e20 ?_
        refine lv_astore (lv' := [(4, .ref b20), (0, .ref x0), (1, .int x1), (2, .int x2), (3, .int x3)]) hx hb dX1_shed_23 hl (by decide) rfl (fun ls hl => ?_)
        refine lv_iload_n hx hb dX1_shed_25 rfl (lv_at hl 3 rfl) ?_
        refine lv_aload hx hb dX1_shed_26 (lv_at hl 0 rfl) ?_
        obtain ⟨v28, e28, h⟩ := g_bd h
        refine wd_Machine_draw (rest := [.int x2]) q2349 dX1_shed_28 S hE hG hS hC0 hl.1 e28 rfl (Nat.le_of_ble_eq_true rfl) (by decide) (fun H locs hG hS => ?_)
        refine lv_iadd hx hb dX1_shed_33 ?_
        refine lv_istore_n (lv' := [(2, .int (x2 + v28)), (4, .ref b20), (0, .ref x0), (1, .int x1), (3, .int x3)]) hx hb dX1_shed_34 rfl hl (by decide) rfl (fun ls hl => ?_)
        refine lv_iinc (k := 4) (v := (x3 + 1)) (lv' := [(3, .int (x3 + 1)), (2, .int (x2 + v28)), (4, .ref b20), (0, .ref x0), (1, .int x1)]) hx hb dX1_shed_35 hl rfl rfl (by decide) rfl (fun ls hl => ?_)
        refine lv_goto (tgt := 4) hx hb dX1_shed_38 (by decide) ?_
        exact ih4 x0 x1 (x2 + v28) (x3 + 1) G _ _ _ h hG hS (lv_sub hl [3, 4, 1, 0] rfl)
  unfold cm_X1_shed at h
  refine lv_iconst (v := 0) hx hb dX1_shed_0 (by decide) ?_
  refine lv_istore_n (lv' := [(2, .int 0), (0, .ref x0), (1, .int x1)]) hx hb dX1_shed_1 rfl hl (by decide) rfl (fun ls hl => ?_)
  refine lv_iconst (v := 0) hx hb dX1_shed_2 (by decide) ?_
  refine lv_istore_n (lv' := [(3, .int 0), (2, .int 0), (0, .ref x0), (1, .int x1)]) hx hb dX1_shed_3 rfl hl (by decide) rfl (fun ls hl => ?_)
  exact L4 gF x0 x1 0 0 Gz _ _ _ h hG hS (lv_sub hl [2, 3, 1, 0] rfl)
theorem hc_X34_limit : cHd yX34_limit 0 := by decide +kernel
set_option maxHeartbeats 4000000 in
set_option maxRecDepth 100000 in
theorem wm_X34_limit (E : gX) (l : Launch) (x0 : Nat) (Gz : GH) (r : Int32) (h : cm_X34_limit x0 Gz = some r) : gMetC E l yX34_limit cX34_limit 1 (some Jvm.ClassFile.FieldType.int) 2 [.ref x0] Gz Gz (some (.int r)) := by
  refine gMetC.of (own := RX34) (by decide +kernel) (Nat.le_of_ble_eq_true rfl) rfl ?_
  intro p e s m args below meth c S hr hk hnm hE hC0 hG hS ls hl
  have hl : lv_has ls 1 [(0, .ref x0)] := hl
  have hx := S.1
  have hb := S.2.1
  unfold cm_X34_limit at h
  refine lv_bipush (v := 80) hx hb dX34_limit_0 (by decide) ?_
  exact c_iretR dX34_limit_2 S hr hk hC0 hG hS h
theorem hc_X36_limit : cHd yX36_limit 0 := by decide +kernel
set_option maxHeartbeats 4000000 in
set_option maxRecDepth 100000 in
theorem wm_X36_limit (E : gX) (l : Launch) (x0 : Nat) (Gz : GH) (r : Int32) (h : cm_X36_limit x0 Gz = some r) : gMetC E l yX36_limit cX36_limit 1 (some Jvm.ClassFile.FieldType.int) 2 [.ref x0] Gz Gz (some (.int r)) := by
  refine gMetC.of (own := RX36) (by decide +kernel) (Nat.le_of_ble_eq_true rfl) rfl ?_
  intro p e s m args below meth c S hr hk hnm hE hC0 hG hS ls hl
  have hl : lv_has ls 1 [(0, .ref x0)] := hl
  have hx := S.1
  have hb := S.2.1
  unfold cm_X36_limit at h
  refine lv_bipush (v := 60) hx hb dX36_limit_0 (by decide) ?_
  exact c_iretR dX36_limit_2 S hr hk hC0 hG hS h
theorem hc_X13_limit : cHd yX13_limit 0 := by decide +kernel
set_option maxHeartbeats 4000000 in
set_option maxRecDepth 100000 in
theorem wm_X13_limit (E : gX) (l : Launch) (x0 : Nat) (Gz : GH) (r : Int32) (h : cm_X13_limit x0 Gz = some r) : gMetC E l yX13_limit cX13_limit 1 (some Jvm.ClassFile.FieldType.int) 2 [.ref x0] Gz Gz (some (.int r)) := by
  refine gMetC.of (own := RX13) (by decide +kernel) (Nat.le_of_ble_eq_true rfl) rfl ?_
  intro p e s m args below meth c S hr hk hnm hE hC0 hG hS ls hl
  have hl : lv_has ls 1 [(0, .ref x0)] := hl
  have hx := S.1
  have hb := S.2.1
  unfold cm_X13_limit at h
  refine lv_bipush (v := 50) hx hb dX13_limit_0 (by decide) ?_
  exact c_iretR dX13_limit_2 S hr hk hC0 hG hS h
theorem hc_X40_limit : cHd yX40_limit 0 := by decide +kernel
set_option maxHeartbeats 4000000 in
set_option maxRecDepth 100000 in
theorem wm_X40_limit (E : gX) (l : Launch) (x0 : Nat) (Gz : GH) (r : Int32) (h : cm_X40_limit x0 Gz = some r) : gMetC E l yX40_limit cX40_limit 1 (some Jvm.ClassFile.FieldType.int) 2 [.ref x0] Gz Gz (some (.int r)) := by
  refine gMetC.of (own := RX40) (by decide +kernel) (Nat.le_of_ble_eq_true rfl) rfl ?_
  intro p e s m args below meth c S hr hk hnm hE hC0 hG hS ls hl
  have hl : lv_has ls 1 [(0, .ref x0)] := hl
  have hx := S.1
  have hb := S.2.1
  unfold cm_X40_limit at h
  refine lv_sipush (v := 200) hx hb dX40_limit_0 (by decide) ?_
  exact c_iretR dX40_limit_3 S hr hk hC0 hG hS h
theorem hc_X20_limit : cHd yX20_limit 0 := by decide +kernel
set_option maxHeartbeats 4000000 in
set_option maxRecDepth 100000 in
theorem wm_X20_limit (E : gX) (l : Launch) (x0 : Nat) (Gz : GH) (r : Int32) (h : cm_X20_limit x0 Gz = some r) : gMetC E l yX20_limit cX20_limit 1 (some Jvm.ClassFile.FieldType.int) 2 [.ref x0] Gz Gz (some (.int r)) := by
  refine gMetC.of (own := RX20) (by decide +kernel) (Nat.le_of_ble_eq_true rfl) rfl ?_
  intro p e s m args below meth c S hr hk hnm hE hC0 hG hS ls hl
  have hl : lv_has ls 1 [(0, .ref x0)] := hl
  have hx := S.1
  have hb := S.2.1
  unfold cm_X20_limit at h
  refine lv_bipush (v := 40) hx hb dX20_limit_0 (by decide) ?_
  exact c_iretR dX20_limit_2 S hr hk hC0 hG hS h
section DSP
variable {p : Program} {l : Launch} {e : Env} {R : Room} {s : State} {m : MethodId} {args : Array Value} {below : List Frame} {meth : Method} {c : Code} {H : Heap} {locs : List Loc} {cells slots : Nat} {Q : State → Prop}
variable {cc : ByteArray} {pc nL lev0 : Nat} {ls : Array Slot} {rest st : List Value} {E : gX} {G Gz G1 : GH}
theorem hx_Machine_limit : cHd ⟨"FairHouse$Machine", "limit", "()I"⟩ 0 := by decide +kernel
set_option maxHeartbeats 4000000 in
set_option maxRecDepth 100000 in
theorem wd_Machine_limit {own : String} {a idx count : Nat} {r : Int32} (w1 : Cond.methodLink own idx ⟨"FairHouse$Machine", "limit", "()I"⟩ ∈ lw_all) (hdg : decode cc pc = .ok (.invokeinterface idx count, 5)) (S : CallFix p m c cc nL s args lw_all own) (hE : gEnv E s) (hG : gC E G H) (hS : va_S (gx_C E) s.heap H locs) (hC0 : gC E Gz s.heap) (hls : ls.size = nL) (h : cd_Machine_limit a G = some r) (hst : st = [] ++ .ref a :: rest) (hW : (rest.map fun v => v.category).sum ≤ 8) (hroom : 2 + 1 ≤ lev0)
    (kk : ∀ (H1 : Heap) (locs1 : List Loc), gC E G H1 → va_S (gx_C E) s.heap H1 locs1 → WC E p l e (gRm lev0 (cBx Gz) (cBs Gz)) s m args below meth c H1 locs1 Q (F0 m (pc + 5) ls (.int r :: rest))) : WC E p l e (gRm lev0 (cBx Gz) (cBs Gz)) s m args below meth c H locs Q (F0 m pc ls st) := by
  unfold cd_Machine_limit at h
  by_cases c14 : cT G a = 14
  · have h := g_it c14 h
    exact c_cD (y := yX34_limit) (As := []) 37 rfl hdg w1 q2493 q3388 q2495 hx_Machine_limit S hE hG hS hC0 hls rfl (hE.K.1 13 _ rfl).2 (c_recv hE hG (ci := 13) rfl (by decide) c14) (wm_X34_limit E l a G _ h) hst hW ⟨by omega, by omega⟩ (fun H1 locs1 h1 h2 => kk H1 locs1 h1 h2)
  have h := g_if c14 h
  by_cases c18 : cT G a = 18
  · have h := g_it c18 h
    exact c_cD (y := yX36_limit) (As := []) 38 rfl hdg w1 q2487 q3386 q2489 hx_Machine_limit S hE hG hS hC0 hls rfl (hE.K.1 17 _ rfl).2 (c_recv hE hG (ci := 17) rfl (by decide) c18) (wm_X36_limit E l a G _ h) hst hW ⟨by omega, by omega⟩ (fun H1 locs1 h1 h2 => kk H1 locs1 h1 h2)
  have h := g_if c18 h
  by_cases c20 : cT G a = 20
  · have h := g_it c20 h
    exact c_cF (y := yX13_limit) (As := []) 23 rfl hdg w1 q2503 q2501 q155 q2505 hx_Machine_limit S hE hG hS hC0 hls rfl (hE.K.1 19 _ rfl).2 (c_recv hE hG (ci := 19) rfl (by decide) c20) (wm_X13_limit E l a G _ h) hst hW ⟨by omega, by omega⟩ (fun H1 locs1 h1 h2 => kk H1 locs1 h1 h2)
  have h := g_if c20 h
  by_cases c21 : cT G a = 21
  · have h := g_it c21 h
    exact c_cD (y := yX34_limit) (As := []) 39 rfl hdg w1 q2493 q3388 q2495 hx_Machine_limit S hE hG hS hC0 hls rfl (hE.K.1 20 _ rfl).2 (c_recv hE hG (ci := 20) rfl (by decide) c21) (wm_X34_limit E l a G _ h) hst hW ⟨by omega, by omega⟩ (fun H1 locs1 h1 h2 => kk H1 locs1 h1 h2)
  have h := g_if c21 h
  by_cases c23 : cT G a = 23
  · have h := g_it c23 h
    exact c_cD (y := yX40_limit) (As := []) 40 rfl hdg w1 q2482 q3385 q2484 hx_Machine_limit S hE hG hS hC0 hls rfl (hE.K.1 22 _ rfl).2 (c_recv hE hG (ci := 22) rfl (by decide) c23) (wm_X40_limit E l a G _ h) hst hW ⟨by omega, by omega⟩ (fun H1 locs1 h1 h2 => kk H1 locs1 h1 h2)
  have h := g_if c23 h
  by_cases c25 : cT G a = 25
  · have h := g_it c25 h
    exact c_cD (y := yX36_limit) (As := []) 41 rfl hdg w1 q2487 q3386 q2489 hx_Machine_limit S hE hG hS hC0 hls rfl (hE.K.1 24 _ rfl).2 (c_recv hE hG (ci := 24) rfl (by decide) c25) (wm_X36_limit E l a G _ h) hst hW ⟨by omega, by omega⟩ (fun H1 locs1 h1 h2 => kk H1 locs1 h1 h2)
  have h := g_if c25 h
  by_cases c26 : cT G a = 26
  · have h := g_it c26 h
    exact c_cD (y := yX40_limit) (As := []) 42 rfl hdg w1 q2482 q3385 q2484 hx_Machine_limit S hE hG hS hC0 hls rfl (hE.K.1 25 _ rfl).2 (c_recv hE hG (ci := 25) rfl (by decide) c26) (wm_X40_limit E l a G _ h) hst hW ⟨by omega, by omega⟩ (fun H1 locs1 h1 h2 => kk H1 locs1 h1 h2)
  have h := g_if c26 h
  by_cases c27 : cT G a = 27
  · have h := g_it c27 h
    exact c_cF (y := yX20_limit) (As := []) 24 rfl hdg w1 q2498 q2496 q162 q2500 hx_Machine_limit S hE hG hS hC0 hls rfl (hE.K.1 26 _ rfl).2 (c_recv hE hG (ci := 26) rfl (by decide) c27) (wm_X20_limit E l a G _ h) hst hW ⟨by omega, by omega⟩ (fun H1 locs1 h1 h2 => kk H1 locs1 h1 h2)
  have h := g_if c27 h
  by_cases c28 : cT G a = 28
  · have h := g_it c28 h
    exact c_cD (y := yX34_limit) (As := []) 43 rfl hdg w1 q2493 q3388 q2495 hx_Machine_limit S hE hG hS hC0 hls rfl (hE.K.1 27 _ rfl).2 (c_recv hE hG (ci := 27) rfl (by decide) c28) (wm_X34_limit E l a G _ h) hst hW ⟨by omega, by omega⟩ (fun H1 locs1 h1 h2 => kk H1 locs1 h1 h2)
  have h := g_if c28 h
  cases h
end DSP
theorem hc_X34_tear : cHd yX34_tear 0 := by decide +kernel
set_option maxHeartbeats 4000000 in
set_option maxRecDepth 100000 in
theorem wm_X34_tear (E : gX) (l : Launch) (x0 : Nat) (Gz : GH) (r : Int32) (h : cm_X34_tear x0 Gz = some r) : gMetC E l yX34_tear cX34_tear 1 (some Jvm.ClassFile.FieldType.int) 3 [.ref x0] Gz Gz (some (.int r)) := by
  refine gMetC.of (own := RX34) (by decide +kernel) (Nat.le_of_ble_eq_true rfl) rfl ?_
  intro p e s m args below meth c S hr hk hnm hE hC0 hG hS ls hl
  have hl : lv_has ls 1 [(0, .ref x0)] := hl
  have hx := S.1
  have hb := S.2.1
  unfold cm_X34_tear at h
  refine lv_aload_n hx hb dX34_tear_0 rfl (lv_at hl 0 rfl) ?_
  obtain ⟨v1, e1, h⟩ := g_bd h
  refine wd_Turns_spin (rest := []) q2131 dX34_tear_1 S hE hG hS hC0 hl.1 e1 rfl (Nat.le_of_ble_eq_true rfl) (by decide) (fun H locs hG hS => ?_)
  obtain ⟨u6, t6, h⟩ := g_bd h
  obtain ⟨v6, e6, h⟩ := g_bd h
  refine c_cV (y := yX9_size) (rest := []) dX34_tear_6 q2421 q2281 q2282 q151 q2283 hc_X9_size rfl S hE hG hS hC0 hl.1 rfl (c_recv hE hG (ci := 15) rfl (by decide) (c_castM t6)) (wm_X9_size E l v1 Gz _ e6) rfl (Nat.le_of_ble_eq_true rfl) ⟨Nat.le_of_ble_eq_true rfl, Nat.le_of_ble_eq_true rfl⟩ (fun H locs hG hS => ?_)
  exact c_iretR dX34_tear_9 S hr hk hC0 hG hS h
theorem hc_X36_rub : cHd yX36_rub 0 := by decide +kernel
set_option maxHeartbeats 4000000 in
set_option maxRecDepth 100000 in
theorem wm_X36_rub (E : gX) (l : Launch) (x0 : Nat) (Gz : GH) (r : Int32) (h : cm_X36_rub x0 Gz = some r) : gMetC E l yX36_rub cX36_rub 1 (some Jvm.ClassFile.FieldType.int) 3 [.ref x0] Gz Gz (some (.int r)) := by
  refine gMetC.of (own := RX36) (by decide +kernel) (Nat.le_of_ble_eq_true rfl) rfl ?_
  intro p e s m args below meth c S hr hk hnm hE hC0 hG hS ls hl
  have hl : lv_has ls 1 [(0, .ref x0)] := hl
  have hx := S.1
  have hb := S.2.1
  unfold cm_X36_rub at h
  refine lv_aload_n hx hb dX36_rub_0 rfl (lv_at hl 0 rfl) ?_
  obtain ⟨v1, e1, h⟩ := g_bd h
  refine wd_Lifts_hoist (rest := []) q2087 dX36_rub_1 S hE hG hS hC0 hl.1 e1 rfl (Nat.le_of_ble_eq_true rfl) (by decide) (fun H locs hG hS => ?_)
  obtain ⟨v6, e6, h⟩ := g_bd h
  refine cg_X36_7 dX36_rub_6 S hE hG e6 ?_
  refine lv_if_eq (tgt := 17) hx hb dX36_rub_9 (by decide) (fun c9 => ?_) (fun c9 => ?_)
  · have h := g_it c9 h
    refine lv_iconst (v := 0) hx hb dX36_rub_17 (by decide) ?_
    exact c_iretR dX36_rub_18 S hr hk hC0 hG hS h
  · have h := g_if c9 h
    refine lv_bipush (v := 10) hx hb dX36_rub_12 (by decide) ?_
    refine lv_goto (tgt := 18) hx hb dX36_rub_14 (by decide) ?_
    exact c_iretR dX36_rub_18 S hr hk hC0 hG hS h
section DSP
variable {p : Program} {l : Launch} {e : Env} {R : Room} {s : State} {m : MethodId} {args : Array Value} {below : List Frame} {meth : Method} {c : Code} {H : Heap} {locs : List Loc} {cells slots : Nat} {Q : State → Prop}
variable {cc : ByteArray} {pc nL lev0 : Nat} {ls : Array Slot} {rest st : List Value} {E : gX} {G Gz G1 : GH}
theorem hx_Lifts_rub : cHd ⟨"FairHouse$Lifts", "rub", "()I"⟩ 0 := by decide +kernel
set_option maxHeartbeats 4000000 in
set_option maxRecDepth 100000 in
theorem wd_Lifts_rub {own : String} {a idx count : Nat} {r : Int32} (w1 : Cond.methodLink own idx ⟨"FairHouse$Lifts", "rub", "()I"⟩ ∈ lw_all) (hdg : decode cc pc = .ok (.invokeinterface idx count, 5)) (S : CallFix p m c cc nL s args lw_all own) (hE : gEnv E s) (hG : gC E G H) (hS : va_S (gx_C E) s.heap H locs) (hC0 : gC E Gz s.heap) (hls : ls.size = nL) (h : cd_Lifts_rub a G = some r) (hst : st = [] ++ .ref a :: rest) (hW : (rest.map fun v => v.category).sum ≤ 8) (hroom : 3 + 1 ≤ lev0)
    (kk : ∀ (H1 : Heap) (locs1 : List Loc), gC E G H1 → va_S (gx_C E) s.heap H1 locs1 → WC E p l e (gRm lev0 (cBx Gz) (cBs Gz)) s m args below meth c H1 locs1 Q (F0 m (pc + 5) ls (.int r :: rest))) : WC E p l e (gRm lev0 (cBx Gz) (cBs Gz)) s m args below meth c H locs Q (F0 m pc ls st) := by
  unfold cd_Lifts_rub at h
  by_cases c18 : cT G a = 18
  · have h := g_it c18 h
    exact c_cD (y := yX36_rub) (As := []) 20 rfl hdg w1 q2527 q3386 q2529 hx_Lifts_rub S hE hG hS hC0 hls rfl (hE.K.1 17 _ rfl).2 (c_recv hE hG (ci := 17) rfl (by decide) c18) (wm_X36_rub E l a G _ h) hst hW ⟨by omega, by omega⟩ (fun H1 locs1 h1 h2 => kk H1 locs1 h1 h2)
  have h := g_if c18 h
  by_cases c20 : cT G a = 20
  · have h := g_it c20 h
    exact c_cD (y := yX36_rub) (As := []) 21 rfl hdg w1 q2527 q3386 q2529 hx_Lifts_rub S hE hG hS hC0 hls rfl (hE.K.1 19 _ rfl).2 (c_recv hE hG (ci := 19) rfl (by decide) c20) (wm_X36_rub E l a G _ h) hst hW ⟨by omega, by omega⟩ (fun H1 locs1 h1 h2 => kk H1 locs1 h1 h2)
  have h := g_if c20 h
  by_cases c25 : cT G a = 25
  · have h := g_it c25 h
    exact c_cD (y := yX36_rub) (As := []) 22 rfl hdg w1 q2527 q3386 q2529 hx_Lifts_rub S hE hG hS hC0 hls rfl (hE.K.1 24 _ rfl).2 (c_recv hE hG (ci := 24) rfl (by decide) c25) (wm_X36_rub E l a G _ h) hst hW ⟨by omega, by omega⟩ (fun H1 locs1 h1 h2 => kk H1 locs1 h1 h2)
  have h := g_if c25 h
  by_cases c27 : cT G a = 27
  · have h := g_it c27 h
    exact c_cD (y := yX36_rub) (As := []) 23 rfl hdg w1 q2527 q3386 q2529 hx_Lifts_rub S hE hG hS hC0 hls rfl (hE.K.1 26 _ rfl).2 (c_recv hE hG (ci := 26) rfl (by decide) c27) (wm_X36_rub E l a G _ h) hst hW ⟨by omega, by omega⟩ (fun H1 locs1 h1 h2 => kk H1 locs1 h1 h2)
  have h := g_if c27 h
  cases h
end DSP
theorem hc_X36_tear : cHd yX36_tear 0 := by decide +kernel
set_option maxHeartbeats 4000000 in
set_option maxRecDepth 100000 in
theorem wm_X36_tear (E : gX) (l : Launch) (x0 : Nat) (Gz : GH) (r : Int32) (h : cm_X36_tear x0 Gz = some r) : gMetC E l yX36_tear cX36_tear 1 (some Jvm.ClassFile.FieldType.int) 4 [.ref x0] Gz Gz (some (.int r)) := by
  refine gMetC.of (own := RX36) (by decide +kernel) (Nat.le_of_ble_eq_true rfl) rfl ?_
  intro p e s m args below meth c S hr hk hnm hE hC0 hG hS ls hl
  have hl : lv_has ls 1 [(0, .ref x0)] := hl
  have hx := S.1
  have hb := S.2.1
  unfold cm_X36_tear at h
  refine lv_aload_n hx hb dX36_tear_0 rfl (lv_at hl 0 rfl) ?_
  obtain ⟨v1, e1, h⟩ := g_bd h
  refine wd_Lifts_rub (rest := []) q2561 dX36_tear_1 S hE hG hS hC0 hl.1 e1 rfl (Nat.le_of_ble_eq_true rfl) (by decide) (fun H locs hG hS => ?_)
  exact c_iretR dX36_tear_6 S hr hk hC0 hG hS h
theorem hc_X13_tear : cHd yX13_tear 0 := by decide +kernel
set_option maxHeartbeats 4000000 in
set_option maxRecDepth 100000 in
theorem wm_X13_tear (E : gX) (l : Launch) (x0 : Nat) (Gz : GH) (r : Int32) (h : cm_X13_tear x0 Gz = some r) : gMetC E l yX13_tear cX13_tear 2 (some Jvm.ClassFile.FieldType.int) 4 [.ref x0] Gz Gz (some (.int r)) := by
  refine gMetC.of (own := RX13) (by decide +kernel) (Nat.le_of_ble_eq_true rfl) rfl ?_
  intro p e s m args below meth c S hr hk hnm hE hC0 hG hS ls hl
  have hl : lv_has ls 2 [(0, .ref x0)] := hl
  have hx := S.1
  have hb := S.2.1
  unfold cm_X13_tear at h
  refine lv_aload_n hx hb dX13_tear_0 rfl (lv_at hl 0 rfl) ?_
  refine lv_astore_n (lv' := [(1, .ref x0), (0, .ref x0)]) hx hb dX13_tear_1 rfl hl (by decide) rfl (fun ls hl => ?_)
  refine lv_aload_n hx hb dX13_tear_2 rfl (lv_at hl 1 rfl) ?_
  obtain ⟨v3, e3, h⟩ := g_bd h
  refine cg_X13_12 dX13_tear_3 S hE hG e3 ?_
  obtain ⟨u6, t6, h⟩ := g_bd h
  obtain ⟨v6, e6, h⟩ := g_bd h
  refine c_cV (y := yX9_size) (rest := []) dX13_tear_6 q2311 q2281 q2282 q151 q2283 hc_X9_size rfl S hE hG hS hC0 hl.1 rfl (c_recv hE hG (ci := 15) rfl (by decide) (c_castM t6)) (wm_X9_size E l v3 Gz _ e6) rfl (Nat.le_of_ble_eq_true rfl) ⟨Nat.le_of_ble_eq_true rfl, Nat.le_of_ble_eq_true rfl⟩ (fun H locs hG hS => ?_)
  refine lv_aload_n hx hb dX13_tear_9 rfl (lv_at hl 0 rfl) ?_
  obtain ⟨v10, e10, h⟩ := g_bd h
  refine wd_Lifts_rub (rest := [.int v6]) q2553 dX13_tear_10 S hE hG hS hC0 hl.1 e10 rfl (Nat.le_of_ble_eq_true rfl) (by decide) (fun H locs hG hS => ?_)
  refine lv_iadd hx hb dX13_tear_15 ?_
  exact c_iretR dX13_tear_16 S hr hk hC0 hG hS h
theorem hc_X40_tear : cHd yX40_tear 0 := by decide +kernel
set_option maxHeartbeats 4000000 in
set_option maxRecDepth 100000 in
theorem wm_X40_tear (E : gX) (l : Launch) (x0 : Nat) (Gz : GH) (r : Int32) (h : cm_X40_tear x0 Gz = some r) : gMetC E l yX40_tear cX40_tear 1 (some Jvm.ClassFile.FieldType.int) 2 [.ref x0] Gz Gz (some (.int r)) := by
  refine gMetC.of (own := RX40) (by decide +kernel) (Nat.le_of_ble_eq_true rfl) rfl ?_
  intro p e s m args below meth c S hr hk hnm hE hC0 hG hS ls hl
  have hl : lv_has ls 1 [(0, .ref x0)] := hl
  have hx := S.1
  have hb := S.2.1
  unfold cm_X40_tear at h
  refine lv_iconst (v := 0) hx hb dX40_tear_0 (by decide) ?_
  exact c_iretR dX40_tear_1 S hr hk hC0 hG hS h
theorem hc_X18_tear : cHd yX18_tear 0 := by decide +kernel
set_option maxHeartbeats 4000000 in
set_option maxRecDepth 100000 in
theorem wm_X18_tear (E : gX) (l : Launch) (x0 : Nat) (Gz : GH) (r : Int32) (h : cm_X18_tear x0 Gz = some r) : gMetC E l yX18_tear cX18_tear 2 (some Jvm.ClassFile.FieldType.int) 4 [.ref x0] Gz Gz (some (.int r)) := by
  refine gMetC.of (own := RX18) (by decide +kernel) (Nat.le_of_ble_eq_true rfl) rfl ?_
  intro p e s m args below meth c S hr hk hnm hE hC0 hG hS ls hl
  have hl : lv_has ls 2 [(0, .ref x0)] := hl
  have hx := S.1
  have hb := S.2.1
  unfold cm_X18_tear at h
  refine lv_aload_n hx hb dX18_tear_0 rfl (lv_at hl 0 rfl) ?_
  refine lv_astore_n (lv' := [(1, .ref x0), (0, .ref x0)]) hx hb dX18_tear_1 rfl hl (by decide) rfl (fun ls hl => ?_)
  refine lv_iconst (v := 2) hx hb dX18_tear_2 (by decide) ?_
  refine lv_aload_n hx hb dX18_tear_3 rfl (lv_at hl 0 rfl) ?_
  obtain ⟨v4, e4, h⟩ := g_bd h
  refine wd_Lifts_rub (rest := [.int 2]) q2523 dX18_tear_4 S hE hG hS hC0 hl.1 e4 rfl (Nat.le_of_ble_eq_true rfl) (by decide) (fun H locs hG hS => ?_)
  refine lv_imul hx hb dX18_tear_9 ?_
  exact c_iretR dX18_tear_10 S hr hk hC0 hG hS h
theorem hc_X20_tear : cHd yX20_tear 0 := by decide +kernel
set_option maxHeartbeats 4000000 in
set_option maxRecDepth 100000 in
theorem wm_X20_tear (E : gX) (l : Launch) (x0 : Nat) (Gz : GH) (r : Int32) (h : cm_X20_tear x0 Gz = some r) : gMetC E l yX20_tear cX20_tear 2 (some Jvm.ClassFile.FieldType.int) 4 [.ref x0] Gz Gz (some (.int r)) := by
  refine gMetC.of (own := RX20) (by decide +kernel) (Nat.le_of_ble_eq_true rfl) rfl ?_
  intro p e s m args below meth c S hr hk hnm hE hC0 hG hS ls hl
  have hl : lv_has ls 2 [(0, .ref x0)] := hl
  have hx := S.1
  have hb := S.2.1
  unfold cm_X20_tear at h
  refine lv_aload_n hx hb dX20_tear_0 rfl (lv_at hl 0 rfl) ?_
  refine lv_astore_n (lv' := [(1, .ref x0), (0, .ref x0)]) hx hb dX20_tear_1 rfl hl (by decide) rfl (fun ls hl => ?_)
  refine lv_aload_n hx hb dX20_tear_2 rfl (lv_at hl 1 rfl) ?_
  obtain ⟨v3, e3, h⟩ := g_bd h
  refine cg_X20_23 dX20_tear_3 S hE hG e3 ?_
  obtain ⟨u6, t6, h⟩ := g_bd h
  obtain ⟨v6, e6, h⟩ := g_bd h
  refine c_cV (y := yX9_size) (rest := []) dX20_tear_6 q2544 q2281 q2282 q151 q2283 hc_X9_size rfl S hE hG hS hC0 hl.1 rfl (c_recv hE hG (ci := 15) rfl (by decide) (c_castM t6)) (wm_X9_size E l v3 Gz _ e6) rfl (Nat.le_of_ble_eq_true rfl) ⟨Nat.le_of_ble_eq_true rfl, Nat.le_of_ble_eq_true rfl⟩ (fun H locs hG hS => ?_)
  refine lv_aload_n hx hb dX20_tear_9 rfl (lv_at hl 0 rfl) ?_
  obtain ⟨v10, e10, h⟩ := g_bd h
  refine wd_Lifts_rub (rest := [.int v6]) q2546 dX20_tear_10 S hE hG hS hC0 hl.1 e10 rfl (Nat.le_of_ble_eq_true rfl) (by decide) (fun H locs hG hS => ?_)
  refine lv_iadd hx hb dX20_tear_15 ?_
  exact c_iretR dX20_tear_16 S hr hk hC0 hG hS h
section DSP
variable {p : Program} {l : Launch} {e : Env} {R : Room} {s : State} {m : MethodId} {args : Array Value} {below : List Frame} {meth : Method} {c : Code} {H : Heap} {locs : List Loc} {cells slots : Nat} {Q : State → Prop}
variable {cc : ByteArray} {pc nL lev0 : Nat} {ls : Array Slot} {rest st : List Value} {E : gX} {G Gz G1 : GH}
theorem hx_Machine_tear : cHd ⟨"FairHouse$Machine", "tea\x72", "()I"⟩ 0 := by decide +kernel
set_option maxHeartbeats 4000000 in
set_option maxRecDepth 100000 in
theorem wd_Machine_tear {own : String} {a idx count : Nat} {r : Int32} (w1 : Cond.methodLink own idx ⟨"FairHouse$Machine", "tea\x72", "()I"⟩ ∈ lw_all) (hdg : decode cc pc = .ok (.invokeinterface idx count, 5)) (S : CallFix p m c cc nL s args lw_all own) (hE : gEnv E s) (hG : gC E G H) (hS : va_S (gx_C E) s.heap H locs) (hC0 : gC E Gz s.heap) (hls : ls.size = nL) (h : cd_Machine_tear a G = some r) (hst : st = [] ++ .ref a :: rest) (hW : (rest.map fun v => v.category).sum ≤ 8) (hroom : 4 + 1 ≤ lev0)
    (kk : ∀ (H1 : Heap) (locs1 : List Loc), gC E G H1 → va_S (gx_C E) s.heap H1 locs1 → WC E p l e (gRm lev0 (cBx Gz) (cBs Gz)) s m args below meth c H1 locs1 Q (F0 m (pc + 5) ls (.int r :: rest))) : WC E p l e (gRm lev0 (cBx Gz) (cBs Gz)) s m args below meth c H locs Q (F0 m pc ls st) := by
  unfold cd_Machine_tear at h
  by_cases c14 : cT G a = 14
  · have h := g_it c14 h
    exact c_cD (y := yX34_tear) (As := []) 48 rfl hdg w1 q2536 q3388 q2538 hx_Machine_tear S hE hG hS hC0 hls rfl (hE.K.1 13 _ rfl).2 (c_recv hE hG (ci := 13) rfl (by decide) c14) (wm_X34_tear E l a G _ h) hst hW ⟨by omega, by omega⟩ (fun H1 locs1 h1 h2 => kk H1 locs1 h1 h2)
  have h := g_if c14 h
  by_cases c18 : cT G a = 18
  · have h := g_it c18 h
    exact c_cD (y := yX36_tear) (As := []) 49 rfl hdg w1 q2557 q3386 q2559 hx_Machine_tear S hE hG hS hC0 hls rfl (hE.K.1 17 _ rfl).2 (c_recv hE hG (ci := 17) rfl (by decide) c18) (wm_X36_tear E l a G _ h) hst hW ⟨by omega, by omega⟩ (fun H1 locs1 h1 h2 => kk H1 locs1 h1 h2)
  have h := g_if c18 h
  by_cases c20 : cT G a = 20
  · have h := g_it c20 h
    exact c_cF (y := yX13_tear) (As := []) 30 rfl hdg w1 q2549 q2547 q155 q2551 hx_Machine_tear S hE hG hS hC0 hls rfl (hE.K.1 19 _ rfl).2 (c_recv hE hG (ci := 19) rfl (by decide) c20) (wm_X13_tear E l a G _ h) hst hW ⟨by omega, by omega⟩ (fun H1 locs1 h1 h2 => kk H1 locs1 h1 h2)
  have h := g_if c20 h
  by_cases c21 : cT G a = 21
  · have h := g_it c21 h
    exact c_cD (y := yX34_tear) (As := []) 50 rfl hdg w1 q2536 q3388 q2538 hx_Machine_tear S hE hG hS hC0 hls rfl (hE.K.1 20 _ rfl).2 (c_recv hE hG (ci := 20) rfl (by decide) c21) (wm_X34_tear E l a G _ h) hst hW ⟨by omega, by omega⟩ (fun H1 locs1 h1 h2 => kk H1 locs1 h1 h2)
  have h := g_if c21 h
  by_cases c23 : cT G a = 23
  · have h := g_it c23 h
    exact c_cD (y := yX40_tear) (As := []) 51 rfl hdg w1 q2514 q3385 q2516 hx_Machine_tear S hE hG hS hC0 hls rfl (hE.K.1 22 _ rfl).2 (c_recv hE hG (ci := 22) rfl (by decide) c23) (wm_X40_tear E l a G _ h) hst hW ⟨by omega, by omega⟩ (fun H1 locs1 h1 h2 => kk H1 locs1 h1 h2)
  have h := g_if c23 h
  by_cases c25 : cT G a = 25
  · have h := g_it c25 h
    exact c_cF (y := yX18_tear) (As := []) 31 rfl hdg w1 q2519 q2517 q160 q2521 hx_Machine_tear S hE hG hS hC0 hls rfl (hE.K.1 24 _ rfl).2 (c_recv hE hG (ci := 24) rfl (by decide) c25) (wm_X18_tear E l a G _ h) hst hW ⟨by omega, by omega⟩ (fun H1 locs1 h1 h2 => kk H1 locs1 h1 h2)
  have h := g_if c25 h
  by_cases c26 : cT G a = 26
  · have h := g_it c26 h
    exact c_cD (y := yX40_tear) (As := []) 52 rfl hdg w1 q2514 q3385 q2516 hx_Machine_tear S hE hG hS hC0 hls rfl (hE.K.1 25 _ rfl).2 (c_recv hE hG (ci := 25) rfl (by decide) c26) (wm_X40_tear E l a G _ h) hst hW ⟨by omega, by omega⟩ (fun H1 locs1 h1 h2 => kk H1 locs1 h1 h2)
  have h := g_if c26 h
  by_cases c27 : cT G a = 27
  · have h := g_it c27 h
    exact c_cF (y := yX20_tear) (As := []) 32 rfl hdg w1 q2541 q2539 q162 q2543 hx_Machine_tear S hE hG hS hC0 hls rfl (hE.K.1 26 _ rfl).2 (c_recv hE hG (ci := 26) rfl (by decide) c27) (wm_X20_tear E l a G _ h) hst hW ⟨by omega, by omega⟩ (fun H1 locs1 h1 h2 => kk H1 locs1 h1 h2)
  have h := g_if c27 h
  by_cases c28 : cT G a = 28
  · have h := g_it c28 h
    exact c_cD (y := yX34_tear) (As := []) 53 rfl hdg w1 q2536 q3388 q2538 hx_Machine_tear S hE hG hS hC0 hls rfl (hE.K.1 27 _ rfl).2 (c_recv hE hG (ci := 27) rfl (by decide) c28) (wm_X34_tear E l a G _ h) hst hW ⟨by omega, by omega⟩ (fun H1 locs1 h1 h2 => kk H1 locs1 h1 h2)
  have h := g_if c28 h
  cases h
end DSP
theorem hc_X1_once : cHd yX1_once 0 := by decide +kernel
set_option maxHeartbeats 4000000 in
set_option maxRecDepth 100000 in
theorem wm_X1_once (E : gX) (l : Launch) (x0 : Nat) (Gz G' : GH) (h : cm_X1_once x0 Gz = some G') : gMetC E l yX1_once cX1_once 5 none 131 [.ref x0] Gz G' none := by
  refine gMetC.of (own := RX1) (by decide +kernel) (Nat.le_of_ble_eq_true rfl) rfl ?_
  intro p e s m args below meth c S hr hk hnm hE hC0 hG hS ls hl
  have hl : lv_has ls 5 [(0, .ref x0)] := hl
  have hx := S.1
  have hb := S.2.1
  have L249 : ∀ (n : Nat) (x0 : Nat) (x1 : Int32) (x2 : Int32) (G : GH) (H : Heap) (locs : List Loc) (ls : Array Slot), cm_X1_once_L249 n x0 x1 x2 G = some G' → gC E G H → va_S (gx_C E) s.heap H locs → lv_has ls 5 [(0, .ref x0), (1, .int x1), (2, .int x2)] → WC E p l e (gRm 131 (cBx Gz) (cBs Gz)) s m args below meth c H locs (MQ below (gQ none (gC E G') (gx_C E)) args s (cBx Gz) (cBs Gz) (gx_C E)) (F0 m 249 ls []) := by
    intro n249
    induction n249 with
    | zero =>
      intro x0 x1 x2 G H locs ls h
      cases h
    | succ n249 ih249 =>
      intro x0 x1 x2 G H locs ls h hG hS hl
      have h : cm_X1_once_B249 (cm_X1_once_L249 n249) x0 x1 x2 G = some G' := h
      unfold cm_X1_once_B249 at h
      refine lv_iload_n hx hb dX1_once_249 rfl (lv_at hl 2 rfl) ?_
      refine lv_iload_n hx hb dX1_once_250 rfl (lv_at hl 1 rfl) ?_
      refine lv_icmp_ge (tgt := 300) hx hb dX1_once_251 (by decide) (fun c251 => ?_) (fun c251 => ?_)
      · have h := g_it c251 h
        exact c_vretW dX1_once_300 S hr hk hC0 hG hS h
      · have h := g_if c251 h
        refine lv_aload_n hx hb dX1_once_254 rfl (lv_at hl 0 rfl) ?_
        obtain ⟨v255, e255, h⟩ := g_bd h
        refine cg_X1_75 dX1_once_255 S hE hG e255 ?_
        obtain ⟨b258, eb258, h⟩ := g_bd h
        have rb258 : va_rf v255 = .ref b258 := by rw [eb258]; rfl
        (try rw [rb258] at hl)
        (try rw [rb258])
        obtain ⟨v258, e258, h⟩ := g_bd h
        refine cg_X1_104 dX1_once_258 S hE hG e258 ?_
        refine lv_iload_n hx hb dX1_once_261 rfl (lv_at hl 2 rfl) ?_
        obtain ⟨u262, t262, h⟩ := g_bd h
        obtain ⟨v262, e262, h⟩ := g_bd h
        refine c_cV (y := yJ6_get) (rest := []) dX1_once_262 q1723 q886 q887 q128 q888 hc_J6_get rfl S hE hG hS hC0 hl.1 rfl (c_recv hE hG (ci := 2) rfl (by decide) (c_castM t262)) (wm_J6_get E l v258 x2 G _ e262) rfl (Nat.le_of_ble_eq_true rfl) ⟨Nat.le_of_ble_eq_true rfl, Nat.le_of_ble_eq_true rfl⟩ (fun H locs hG hS => ?_)
        obtain ⟨b265, eb265, h⟩ := g_bd h
        have rb265 : va_rf v262 = .ref b265 := by rw [eb265]; rfl
        (try rw [rb265] at hl)
        (try rw [rb265])
        obtain ⟨u265, e265, h⟩ := g_bd h
        refine ck_X1_131 dX1_once_265 S hE hG e265 ?_
        refine lv_astore_n (lv' := [(3, .ref b265), (0, .ref x0), (1, .int x1), (2, .int x2)]) hx hb dX1_once_268 rfl hl (by decide) rfl (fun ls hl => ?_)
        refine lv_aload_n hx hb dX1_once_269 rfl (lv_at hl 0 rfl) ?_
        refine lv_astore (lv' := [(4, .ref b265), (3, .ref b265), (0, .ref x0), (1, .int x1), (2, .int x2)]) hx hb dX1_once_270 hl (by decide) rfl (fun ls hl => ?_)
        refine lv_aload_n hx hb dX1_once_272 rfl (lv_at hl 1 rfl) ?_
        refine lv_sipush (v := 9999) hx hb dX1_once_273 (by decide) ?_
        refine lv_aload_n hx hb dX1_once_276 rfl (lv_at hl 1 rfl) ?_
        obtain ⟨v277, e277, h⟩ := g_bd h
        refine cg_X1_151 dX1_once_277 S hE hG e277 ?_
        refine lv_aload hx hb dX1_once_280 (lv_at hl 0 rfl) ?_
        obtain ⟨v282, e282, h⟩ := g_bd h
        refine wd_Machine_tear (rest := [.int v277, .int 9999, .ref b265]) q2510 dX1_once_282 S hE hG hS hC0 hl.1 e282 rfl (Nat.le_of_ble_eq_true rfl) (by decide) (fun H locs hG hS => ?_)
        refine lv_iadd hx hb dX1_once_287 ?_
        refine c_math_min q2563 dX1_once_288 S hl.1 hC0 hG hS (by decide) (Nat.le_of_ble_eq_true rfl) ?_
        obtain ⟨G291, e291, h⟩ := g_bd h
        refine cp_X1_151 dX1_once_291 S hE hG hS hC0 e291 (fun H locs hG hS => ?_)
        refine lv_iinc (k := 4) (v := (x2 + 1)) (lv' := [(2, .int (x2 + 1)), (4, .ref b265), (3, .ref b265), (0, .ref x0), (1, .int x1)]) hx hb dX1_once_294 hl rfl rfl (by decide) rfl (fun ls hl => ?_)
        refine lv_goto (tgt := 249) hx hb dX1_once_297 (by decide) ?_
        exact ih249 x0 x1 (x2 + 1) G291 _ _ _ h hG hS (lv_sub hl [3, 4, 0] rfl)
  have L173 : ∀ (n : Nat) (x0 : Nat) (x1 : Int32) (x2 : Int32) (G : GH) (H : Heap) (locs : List Loc) (ls : Array Slot), cm_X1_once_L173 n x0 x1 x2 G = some G' → gC E G H → va_S (gx_C E) s.heap H locs → lv_has ls 5 [(0, .ref x0), (1, .int x1), (2, .int x2)] → WC E p l e (gRm 131 (cBx Gz) (cBs Gz)) s m args below meth c H locs (MQ below (gQ none (gC E G') (gx_C E)) args s (cBx Gz) (cBs Gz) (gx_C E)) (F0 m 173 ls []) := by
    intro n173
    induction n173 with
    | zero =>
      intro x0 x1 x2 G H locs ls h
      cases h
    | succ n173 ih173 =>
      have J241 : ∀ (x0 : Nat) (x1 : Int32) (x2 : Int32) (G : GH) (H : Heap) (locs : List Loc) (ls : Array Slot), cm_X1_once_J241 (cm_X1_once_L173 n173) x0 x1 x2 G = some G' → gC E G H → va_S (gx_C E) s.heap H locs → lv_has ls 5 [(0, .ref x0), (1, .int x1), (2, .int x2)] → WC E p l e (gRm 131 (cBx Gz) (cBs Gz)) s m args below meth c H locs (MQ below (gQ none (gC E G') (gx_C E)) args s (cBx Gz) (cBs Gz) (gx_C E)) (F0 m 241 ls []) := by
        intro x0 x1 x2 G H locs ls h hG hS hl
        unfold cm_X1_once_J241 at h
        refine lv_iinc (k := 2) (v := (x2 + 1)) (lv' := [(2, .int (x2 + 1)), (0, .ref x0), (1, .int x1)]) hx hb dX1_once_241 hl rfl rfl (by decide) rfl (fun ls hl => ?_)
        refine lv_goto (tgt := 173) hx hb dX1_once_244 (by decide) ?_
        exact ih173 x0 x1 (x2 + 1) G _ _ _ h hG hS (lv_sub hl [1, 2, 0] rfl)
      intro x0 x1 x2 G H locs ls h hG hS hl
      have h : cm_X1_once_B173 (cm_X1_once_L173 n173) x0 x1 x2 G = some G' := h
      unfold cm_X1_once_B173 at h
      refine lv_iload_n hx hb dX1_once_173 rfl (lv_at hl 2 rfl) ?_
      refine lv_iload_n hx hb dX1_once_174 rfl (lv_at hl 1 rfl) ?_
      refine lv_icmp_ge (tgt := 247) hx hb dX1_once_175 (by decide) (fun c175 => ?_) (fun c175 => ?_)
      · have h := g_it c175 h
        refine lv_iconst (v := 0) hx hb dX1_once_247 (by decide) ?_
        refine lv_istore_n (lv' := [(2, .int 0), (0, .ref x0), (1, .int x1)]) hx hb dX1_once_248 rfl hl (by decide) rfl (fun ls hl => ?_)
        exact L249 gF x0 x1 0 G _ _ _ h hG hS (lv_sub hl [1, 2, 0] rfl)
      · have h := g_if c175 h
        refine lv_aload_n hx hb dX1_once_178 rfl (lv_at hl 0 rfl) ?_
        obtain ⟨v179, e179, h⟩ := g_bd h
        refine cg_X1_75 dX1_once_179 S hE hG e179 ?_
        obtain ⟨b182, eb182, h⟩ := g_bd h
        have rb182 : va_rf v179 = .ref b182 := by rw [eb182]; rfl
        (try rw [rb182] at hl)
        (try rw [rb182])
        obtain ⟨v182, e182, h⟩ := g_bd h
        refine cg_X1_104 dX1_once_182 S hE hG e182 ?_
        refine lv_iload_n hx hb dX1_once_185 rfl (lv_at hl 2 rfl) ?_
        obtain ⟨u186, t186, h⟩ := g_bd h
        obtain ⟨v186, e186, h⟩ := g_bd h
        refine c_cV (y := yJ6_get) (rest := []) dX1_once_186 q1723 q886 q887 q128 q888 hc_J6_get rfl S hE hG hS hC0 hl.1 rfl (c_recv hE hG (ci := 2) rfl (by decide) (c_castM t186)) (wm_J6_get E l v182 x2 G _ e186) rfl (Nat.le_of_ble_eq_true rfl) ⟨Nat.le_of_ble_eq_true rfl, Nat.le_of_ble_eq_true rfl⟩ (fun H locs hG hS => ?_)
        obtain ⟨b189, eb189, h⟩ := g_bd h
        have rb189 : va_rf v186 = .ref b189 := by rw [eb189]; rfl
        (try rw [rb189] at hl)
        (try rw [rb189])
        obtain ⟨u189, e189, h⟩ := g_bd h
        refine ck_X1_131 dX1_once_189 S hE hG e189 ?_
        refine lv_astore_n (lv' := [(3, .ref b189), (0, .ref x0), (1, .int x1), (2, .int x2)]) hx hb dX1_once_192 rfl hl (by decide) rfl (fun ls hl => ?_)
        refine lv_aload_n hx hb dX1_once_193 rfl (lv_at hl 0 rfl) ?_
        refine lv_astore (lv' := [(4, .ref b189), (3, .ref b189), (0, .ref x0), (1, .int x1), (2, .int x2)]) hx hb dX1_once_194 hl (by decide) rfl (fun ls hl => ?_)
        refine lv_aload hx hb dX1_once_196 (lv_at hl 0 rfl) ?_
        obtain ⟨v198, e198, h⟩ := g_bd h
        refine wd_Machine_limit (rest := []) q2478 dX1_once_198 S hE hG hS hC0 hl.1 e198 rfl (Nat.le_of_ble_eq_true rfl) (by decide) (fun H locs hG hS => ?_)
        refine lv_aload_n hx hb dX1_once_203 rfl (lv_at hl 2 rfl) ?_
        obtain ⟨v204, e204, h⟩ := g_bd h
        refine cg_X1_136 dX1_once_204 S hE hG e204 ?_
        refine lv_icmp_ge (tgt := 241) hx hb dX1_once_207 (by decide) (fun c207 => ?_) (fun c207 => ?_)
        · have h := g_it c207 h
          exact J241 x0 x1 x2 G _ _ _ h hG hS (lv_sub hl [2, 3, 4] rfl)
        · have h := g_if c207 h
          refine lv_aload_n hx hb dX1_once_210 rfl (lv_at hl 1 rfl) ?_
          obtain ⟨v211, e211, h⟩ := g_bd h
          refine c_cS (y := yX1_hasGoal) (rest := []) dX1_once_211 q2471 q2472 q119 q2473 hc_X1_hasGoal S hE hG hS hC0 hl.1 rfl (wm_X1_hasGoal E l b189 G _ e211) rfl (Nat.le_of_ble_eq_true rfl) ⟨Nat.le_of_ble_eq_true rfl, Nat.le_of_ble_eq_true rfl⟩ (fun H locs hG hS => ?_)
          refine lv_if_ne (tgt := 220) hx hb dX1_once_214 (by decide) (fun c214 => ?_) (fun c214 => ?_)
          · have h := g_if c214 h
            refine lv_aload_n hx hb dX1_once_220 rfl (lv_at hl 1 rfl) ?_
            obtain ⟨G221, e221, h⟩ := g_bd h
            refine c_cS (y := yX1_goals) (rest := []) dX1_once_221 q1729 q1730 q119 q1731 hc_X1_goals S hE hG hS hC0 hl.1 rfl (wm_X1_goals E l b189 G _ e221) rfl (Nat.le_of_ble_eq_true rfl) ⟨Nat.le_of_ble_eq_true rfl, Nat.le_of_ble_eq_true rfl⟩ (fun H locs hG hS => ?_)
            refine lv_aload_n hx hb dX1_once_224 rfl (lv_at hl 1 rfl) ?_
            obtain ⟨v225, e225, h⟩ := g_bd h
            refine cg_X1_154 dX1_once_225 S hE hG e225 ?_
            obtain ⟨v228, e228, h⟩ := g_bd h
            refine cg_X1_272 dX1_once_228 S hE hG e228 ?_
            refine lv_if_ne (tgt := 241) hx hb dX1_once_231 (by decide) (fun c231 => ?_) (fun c231 => ?_)
            · have h := g_if c231 h
              exact J241 x0 x1 x2 G221 _ _ _ h hG hS (lv_sub hl [2, 3, 4] rfl)
            · have h := g_it c231 h
              refine lv_aload_n hx hb dX1_once_234 rfl (lv_at hl 2 rfl) ?_
              refine lv_iload_n hx hb dX1_once_235 rfl (lv_at hl 4 rfl) ?_
              refine lv_aload_n hx hb dX1_once_236 rfl (lv_at hl 1 rfl) ?_
              refine lv_iconst (v := 4) hx hb dX1_once_237 (by decide) ?_
              obtain ⟨u238, t238, h⟩ := g_bd h
              obtain ⟨G238, e238, h⟩ := g_bd h
              refine c_cV (y := yX1_stalls) (rest := []) dX1_once_238 q2232 q2234 qs54 q119 q2235 hc_X1_stalls rfl S hE hG hS hC0 hl.1 rfl (c_recv hE hG (ci := 8) rfl (by decide) (c_castM t238)) (wm_X1_stalls E l x0 x2 b189 4 G221 _ e238) rfl (Nat.le_of_ble_eq_true rfl) ⟨Nat.le_of_ble_eq_true rfl, Nat.le_of_ble_eq_true rfl⟩ (fun H locs hG hS => ?_)
              exact J241 x0 x1 x2 G238 _ _ _ h hG hS (lv_sub hl [2, 3, 4] rfl)
          · have h := g_it c214 h
            refine lv_goto (tgt := 241) hx hb dX1_once_217 (by decide) ?_
            exact J241 x0 x1 x2 G _ _ _ h hG hS (lv_sub hl [2, 3, 4] rfl)
  have L134 : ∀ (n : Nat) (x0 : Nat) (x1 : Int32) (x2 : Int32) (G : GH) (H : Heap) (locs : List Loc) (ls : Array Slot), cm_X1_once_L134 n x0 x1 x2 G = some G' → gC E G H → va_S (gx_C E) s.heap H locs → lv_has ls 5 [(0, .ref x0), (1, .int x1), (2, .int x2)] → WC E p l e (gRm 131 (cBx Gz) (cBs Gz)) s m args below meth c H locs (MQ below (gQ none (gC E G') (gx_C E)) args s (cBx Gz) (cBs Gz) (gx_C E)) (F0 m 134 ls []) := by
    intro n134
    induction n134 with
    | zero =>
      intro x0 x1 x2 G H locs ls h
      cases h
    | succ n134 ih134 =>
      intro x0 x1 x2 G H locs ls h hG hS hl
      have h : cm_X1_once_B134 (cm_X1_once_L134 n134) x0 x1 x2 G = some G' := h
      unfold cm_X1_once_B134 at h
      refine lv_iload_n hx hb dX1_once_134 rfl (lv_at hl 2 rfl) ?_
      refine lv_iload_n hx hb dX1_once_135 rfl (lv_at hl 1 rfl) ?_
      refine lv_icmp_ge (tgt := 166) hx hb dX1_once_136 (by decide) (fun c136 => ?_) (fun c136 => ?_)
      · have h := g_it c136 h
        refine lv_aload_n hx hb dX1_once_166 rfl (lv_at hl 0 rfl) ?_
        refine lv_iload_n hx hb dX1_once_167 rfl (lv_at hl 1 rfl) ?_
        obtain ⟨u168, t168, h⟩ := g_bd h
        obtain ⟨G168, e168, h⟩ := g_bd h
        refine c_cV (y := yX1_shed) (rest := []) dX1_once_168 q2344 q2346 qs55 q119 q2347 hc_X1_shed rfl S hE hG hS hC0 hl.1 rfl (c_recv hE hG (ci := 8) rfl (by decide) (c_castM t168)) (wm_X1_shed E l x0 x1 G _ e168) rfl (Nat.le_of_ble_eq_true rfl) ⟨Nat.le_of_ble_eq_true rfl, Nat.le_of_ble_eq_true rfl⟩ (fun H locs hG hS => ?_)
        refine lv_iconst (v := 0) hx hb dX1_once_171 (by decide) ?_
        refine lv_istore_n (lv' := [(2, .int 0), (0, .ref x0), (1, .int x1)]) hx hb dX1_once_172 rfl hl (by decide) rfl (fun ls hl => ?_)
        exact L173 gF x0 x1 0 G168 _ _ _ h hG hS (lv_sub hl [1, 2, 0] rfl)
      · have h := g_if c136 h
        refine lv_aload_n hx hb dX1_once_139 rfl (lv_at hl 0 rfl) ?_
        obtain ⟨v140, e140, h⟩ := g_bd h
        refine cg_X1_75 dX1_once_140 S hE hG e140 ?_
        obtain ⟨b143, eb143, h⟩ := g_bd h
        have rb143 : va_rf v140 = .ref b143 := by rw [eb143]; rfl
        (try rw [rb143] at hl)
        (try rw [rb143])
        obtain ⟨v143, e143, h⟩ := g_bd h
        refine cg_X1_104 dX1_once_143 S hE hG e143 ?_
        refine lv_iload_n hx hb dX1_once_146 rfl (lv_at hl 2 rfl) ?_
        obtain ⟨u147, t147, h⟩ := g_bd h
        obtain ⟨v147, e147, h⟩ := g_bd h
        refine c_cV (y := yJ6_get) (rest := []) dX1_once_147 q1723 q886 q887 q128 q888 hc_J6_get rfl S hE hG hS hC0 hl.1 rfl (c_recv hE hG (ci := 2) rfl (by decide) (c_castM t147)) (wm_J6_get E l v143 x2 G _ e147) rfl (Nat.le_of_ble_eq_true rfl) ⟨Nat.le_of_ble_eq_true rfl, Nat.le_of_ble_eq_true rfl⟩ (fun H locs hG hS => ?_)
        obtain ⟨b150, eb150, h⟩ := g_bd h
        have rb150 : va_rf v147 = .ref b150 := by rw [eb150]; rfl
        (try rw [rb150] at hl)
        (try rw [rb150])
        obtain ⟨u150, e150, h⟩ := g_bd h
        refine ck_X1_257 dX1_once_150 S hE hG e150 ?_
        refine lv_astore_n (lv' := [(3, .ref b150), (0, .ref x0), (1, .int x1), (2, .int x2)]) hx hb dX1_once_153 rfl hl (by decide) rfl (fun ls hl => ?_)
        refine lv_aload_n hx hb dX1_once_154 rfl (lv_at hl 0 rfl) ?_
        obtain ⟨G155, e155, h⟩ := g_bd h
        refine wd_Machine_ease (rest := []) q2242 dX1_once_155 S hE hG hS hC0 hl.1 e155 rfl (Nat.le_of_ble_eq_true rfl) (by decide) (fun H locs hG hS => ?_)
        refine lv_iinc (k := 3) (v := (x2 + 1)) (lv' := [(2, .int (x2 + 1)), (3, .ref b150), (0, .ref x0), (1, .int x1)]) hx hb dX1_once_160 hl rfl rfl (by decide) rfl (fun ls hl => ?_)
        refine lv_goto (tgt := 134) hx hb dX1_once_163 (by decide) ?_
        exact ih134 x0 x1 (x2 + 1) G155 _ _ _ h hG hS (lv_sub hl [2, 3, 0] rfl)
  have L102 : ∀ (n : Nat) (x0 : Nat) (x1 : Int32) (x2 : Int32) (G : GH) (H : Heap) (locs : List Loc) (ls : Array Slot), cm_X1_once_L102 n x0 x1 x2 G = some G' → gC E G H → va_S (gx_C E) s.heap H locs → lv_has ls 5 [(0, .ref x0), (1, .int x1), (2, .int x2)] → WC E p l e (gRm 131 (cBx Gz) (cBs Gz)) s m args below meth c H locs (MQ below (gQ none (gC E G') (gx_C E)) args s (cBx Gz) (cBs Gz) (gx_C E)) (F0 m 102 ls []) := by
    intro n102
    induction n102 with
    | zero =>
      intro x0 x1 x2 G H locs ls h
      cases h
    | succ n102 ih102 =>
      intro x0 x1 x2 G H locs ls h hG hS hl
      have h : cm_X1_once_B102 (cm_X1_once_L102 n102) x0 x1 x2 G = some G' := h
      unfold cm_X1_once_B102 at h
      refine lv_iload_n hx hb dX1_once_102 rfl (lv_at hl 2 rfl) ?_
      refine lv_iload_n hx hb dX1_once_103 rfl (lv_at hl 1 rfl) ?_
      refine lv_icmp_ge (tgt := 132) hx hb dX1_once_104 (by decide) (fun c104 => ?_) (fun c104 => ?_)
      · have h := g_it c104 h
        refine lv_iconst (v := 0) hx hb dX1_once_132 (by decide) ?_
        refine lv_istore_n (lv' := [(2, .int 0), (0, .ref x0), (1, .int x1)]) hx hb dX1_once_133 rfl hl (by decide) rfl (fun ls hl => ?_)
        exact L134 gF x0 x1 0 G _ _ _ h hG hS (lv_sub hl [1, 2, 0] rfl)
      · have h := g_if c104 h
        refine lv_aload_n hx hb dX1_once_107 rfl (lv_at hl 0 rfl) ?_
        refine lv_iload_n hx hb dX1_once_108 rfl (lv_at hl 2 rfl) ?_
        refine lv_aload_n hx hb dX1_once_109 rfl (lv_at hl 0 rfl) ?_
        obtain ⟨v110, e110, h⟩ := g_bd h
        refine cg_X1_75 dX1_once_110 S hE hG e110 ?_
        obtain ⟨b113, eb113, h⟩ := g_bd h
        have rb113 : va_rf v110 = .ref b113 := by rw [eb113]; rfl
        (try rw [rb113] at hl)
        (try rw [rb113])
        obtain ⟨v113, e113, h⟩ := g_bd h
        refine cg_X1_104 dX1_once_113 S hE hG e113 ?_
        refine lv_iload_n hx hb dX1_once_116 rfl (lv_at hl 2 rfl) ?_
        obtain ⟨u117, t117, h⟩ := g_bd h
        obtain ⟨v117, e117, h⟩ := g_bd h
        refine c_cV (y := yJ6_get) (rest := [.int x2, .ref x0]) dX1_once_117 q1723 q886 q887 q128 q888 hc_J6_get rfl S hE hG hS hC0 hl.1 rfl (c_recv hE hG (ci := 2) rfl (by decide) (c_castM t117)) (wm_J6_get E l v113 x2 G _ e117) rfl (Nat.le_of_ble_eq_true rfl) ⟨Nat.le_of_ble_eq_true rfl, Nat.le_of_ble_eq_true rfl⟩ (fun H locs hG hS => ?_)
        obtain ⟨b120, eb120, h⟩ := g_bd h
        have rb120 : va_rf v117 = .ref b120 := by rw [eb120]; rfl
        (try rw [rb120] at hl)
        (try rw [rb120])
        obtain ⟨u120, e120, h⟩ := g_bd h
        refine ck_X1_131 dX1_once_120 S hE hG e120 ?_
        obtain ⟨u123, t123, h⟩ := g_bd h
        obtain ⟨G123, e123, h⟩ := g_bd h
        refine c_cV (y := yX1_goesOn) (rest := []) dX1_once_123 q1996 q1998 qs44 q119 q1999 hc_X1_goesOn rfl S hE hG hS hC0 hl.1 rfl (c_recv hE hG (ci := 8) rfl (by decide) (c_castM t123)) (wm_X1_goesOn E l x0 x2 b120 G _ e123) rfl (Nat.le_of_ble_eq_true rfl) ⟨Nat.le_of_ble_eq_true rfl, Nat.le_of_ble_eq_true rfl⟩ (fun H locs hG hS => ?_)
        refine lv_iinc (k := 2) (v := (x2 + 1)) (lv' := [(2, .int (x2 + 1)), (0, .ref x0), (1, .int x1)]) hx hb dX1_once_126 hl rfl rfl (by decide) rfl (fun ls hl => ?_)
        refine lv_goto (tgt := 102) hx hb dX1_once_129 (by decide) ?_
        exact ih102 x0 x1 (x2 + 1) G123 _ _ _ h hG hS (lv_sub hl [1, 2, 0] rfl)
  have L23 : ∀ (n : Nat) (x0 : Nat) (x1 : Int32) (x2 : Int32) (G : GH) (H : Heap) (locs : List Loc) (ls : Array Slot), cm_X1_once_L23 n x0 x1 x2 G = some G' → gC E G H → va_S (gx_C E) s.heap H locs → lv_has ls 5 [(0, .ref x0), (1, .int x1), (2, .int x2)] → WC E p l e (gRm 131 (cBx Gz) (cBs Gz)) s m args below meth c H locs (MQ below (gQ none (gC E G') (gx_C E)) args s (cBx Gz) (cBs Gz) (gx_C E)) (F0 m 23 ls []) := by
    intro n23
    induction n23 with
    | zero =>
      intro x0 x1 x2 G H locs ls h
      cases h
    | succ n23 ih23 =>
      have J94 : ∀ (x0 : Nat) (x1 : Int32) (x2 : Int32) (G : GH) (H : Heap) (locs : List Loc) (ls : Array Slot), cm_X1_once_J94 (cm_X1_once_L23 n23) x0 x1 x2 G = some G' → gC E G H → va_S (gx_C E) s.heap H locs → lv_has ls 5 [(0, .ref x0), (1, .int x1), (2, .int x2)] → WC E p l e (gRm 131 (cBx Gz) (cBs Gz)) s m args below meth c H locs (MQ below (gQ none (gC E G') (gx_C E)) args s (cBx Gz) (cBs Gz) (gx_C E)) (F0 m 94 ls []) := by
        intro x0 x1 x2 G H locs ls h hG hS hl
        unfold cm_X1_once_J94 at h
        refine lv_iinc (k := 2) (v := (x2 + 1)) (lv' := [(2, .int (x2 + 1)), (0, .ref x0), (1, .int x1)]) hx hb dX1_once_94 hl rfl rfl (by decide) rfl (fun ls hl => ?_)
        refine lv_goto (tgt := 23) hx hb dX1_once_97 (by decide) ?_
        exact ih23 x0 x1 (x2 + 1) G _ _ _ h hG hS (lv_sub hl [1, 2, 0] rfl)
      intro x0 x1 x2 G H locs ls h hG hS hl
      have h : cm_X1_once_B23 (cm_X1_once_L23 n23) x0 x1 x2 G = some G' := h
      unfold cm_X1_once_B23 at h
      refine lv_iload_n hx hb dX1_once_23 rfl (lv_at hl 2 rfl) ?_
      refine lv_iload_n hx hb dX1_once_24 rfl (lv_at hl 1 rfl) ?_
      refine lv_icmp_ge (tgt := 100) hx hb dX1_once_25 (by decide) (fun c25 => ?_) (fun c25 => ?_)
      · have h := g_it c25 h
        refine lv_iconst (v := 0) hx hb dX1_once_100 (by decide) ?_
        refine lv_istore_n (lv' := [(2, .int 0), (0, .ref x0), (1, .int x1)]) hx hb dX1_once_101 rfl hl (by decide) rfl (fun ls hl => ?_)
        exact L102 gF x0 x1 0 G _ _ _ h hG hS (lv_sub hl [1, 2, 0] rfl)
      · have h := g_if c25 h
        refine lv_aload_n hx hb dX1_once_28 rfl (lv_at hl 0 rfl) ?_
        obtain ⟨v29, e29, h⟩ := g_bd h
        refine cg_X1_75 dX1_once_29 S hE hG e29 ?_
        obtain ⟨b32, eb32, h⟩ := g_bd h
        have rb32 : va_rf v29 = .ref b32 := by rw [eb32]; rfl
        (try rw [rb32] at hl)
        (try rw [rb32])
        obtain ⟨v32, e32, h⟩ := g_bd h
        refine cg_X1_104 dX1_once_32 S hE hG e32 ?_
        refine lv_iload_n hx hb dX1_once_35 rfl (lv_at hl 2 rfl) ?_
        obtain ⟨u36, t36, h⟩ := g_bd h
        obtain ⟨v36, e36, h⟩ := g_bd h
        refine c_cV (y := yJ6_get) (rest := []) dX1_once_36 q1723 q886 q887 q128 q888 hc_J6_get rfl S hE hG hS hC0 hl.1 rfl (c_recv hE hG (ci := 2) rfl (by decide) (c_castM t36)) (wm_J6_get E l v32 x2 G _ e36) rfl (Nat.le_of_ble_eq_true rfl) ⟨Nat.le_of_ble_eq_true rfl, Nat.le_of_ble_eq_true rfl⟩ (fun H locs hG hS => ?_)
        refine c_astoreQ (lv' := [(4, va_rf v36), (0, .ref x0), (1, .int x1), (2, .int x2)]) hx hb dX1_once_39 hl (by decide) (by cases v36 <;> rfl) (fun ls hl => ?_)
        refine c_aloadQ hx hb dX1_once_41 (lv_at hl 0 rfl) ?_
        obtain ⟨b43, eb43, h⟩ := g_bd h
        have rb43 : va_rf v36 = .ref b43 := by rw [eb43]; rfl
        (try rw [rb43] at hl)
        (try rw [rb43])
        obtain ⟨v43, e43, h⟩ := g_bd h
        refine ci_X1_195 dX1_once_43 S hE hG e43 ?_
        refine lv_if_eq (tgt := 94) hx hb dX1_once_46 (by decide) (fun c46 => ?_) (fun c46 => ?_)
        · have h := g_it c46 h
          exact J94 x0 x1 x2 G _ _ _ h hG hS (lv_sub hl [1, 2, 3] rfl)
        · have h := g_if c46 h
          refine lv_aload hx hb dX1_once_49 (lv_at hl 0 rfl) ?_
          obtain ⟨u51, e51, h⟩ := g_bd h
          refine ck_X1_195 dX1_once_51 S hE hG e51 ?_
          refine lv_astore_n (lv' := [(3, .ref b43), (4, .ref b43), (0, .ref x0), (1, .int x1), (2, .int x2)]) hx hb dX1_once_54 rfl hl (by decide) rfl (fun ls hl => ?_)
          refine lv_aload_n hx hb dX1_once_55 rfl (lv_at hl 0 rfl) ?_
          obtain ⟨v56, e56, h⟩ := g_bd h
          refine wd_Seats_bench (rest := []) q1827 dX1_once_56 S hE hG hS hC0 hl.1 e56 rfl (Nat.le_of_ble_eq_true rfl) (by decide) (fun H locs hG hS => ?_)
          refine lv_aload_n hx hb dX1_once_61 rfl (lv_at hl 2 rfl) ?_
          obtain ⟨v62, e62, h⟩ := g_bd h
          refine cg_X1_133 dX1_once_62 S hE hG e62 ?_
          obtain ⟨u65, t65, h⟩ := g_bd h
          obtain ⟨qx65, e65, h⟩ := g_bd h
          refine c_cV (y := yX10_tire) (rest := []) dX1_once_65 q1984 q1985 q1986 q152 q1987 hc_X10_tire rfl S hE hG hS hC0 hl.1 rfl (c_recv hE hG (ci := 16) rfl (by decide) (c_castM t65)) (wm_X10_tire E l v56 v62 G _ _ e65) rfl (Nat.le_of_ble_eq_true rfl) ⟨Nat.le_of_ble_eq_true rfl, Nat.le_of_ble_eq_true rfl⟩ (fun H locs hG hS => ?_)
          refine lv_istore (lv' := [(4, .int qx65.1), (3, .ref b43), (0, .ref x0), (1, .int x1), (2, .int x2)]) hx hb dX1_once_68 hl (by decide) rfl (fun ls hl => ?_)
          refine lv_aload_n hx hb dX1_once_70 rfl (lv_at hl 2 rfl) ?_
          refine lv_dup hx hb dX1_once_71 rfl ?_
          obtain ⟨v72, e72, h⟩ := g_bd h
          refine cg_X1_142 dX1_once_72 S hE hG e72 ?_
          refine lv_iload hx hb dX1_once_75 (lv_at hl 0 rfl) ?_
          refine lv_iadd hx hb dX1_once_77 ?_
          obtain ⟨G78, e78, h⟩ := g_bd h
          refine cp_X1_142 dX1_once_78 S hE hG hS hC0 e78 (fun H locs hG hS => ?_)
          refine lv_iload hx hb dX1_once_81 (lv_at hl 0 rfl) ?_
          refine lv_if_le (tgt := 94) hx hb dX1_once_83 (by decide) (fun c83 => ?_) (fun c83 => ?_)
          · have h := g_it c83 h
            exact J94 x0 x1 x2 G78 _ _ _ h hG hS (lv_sub hl [2, 3, 4] rfl)
          · have h := g_if c83 h
            refine lv_aload_n hx hb dX1_once_86 rfl (lv_at hl 2 rfl) ?_
            refine lv_iconst (v := 4) hx hb dX1_once_87 (by decide) ?_
            refine lv_iload_n hx hb dX1_once_88 rfl (lv_at hl 4 rfl) ?_
            refine lv_iload hx hb dX1_once_89 (lv_at hl 0 rfl) ?_
            obtain ⟨u91, t91, h⟩ := g_bd h
            obtain ⟨G91, e91, h⟩ := g_bd h
            refine c_cV (y := yX1_tell) (rest := []) dX1_once_91 q1992 q1994 qs43 q119 q1995 hc_X1_tell rfl S hE hG hS hC0 hl.1 rfl (c_recv hE hG (ci := 8) rfl (by decide) (c_castM t91)) (wm_X1_tell E l x0 4 x2 qx65.1 G78 _ e91) rfl (Nat.le_of_ble_eq_true rfl) ⟨Nat.le_of_ble_eq_true rfl, Nat.le_of_ble_eq_true rfl⟩ (fun H locs hG hS => ?_)
            exact J94 x0 x1 x2 G91 _ _ _ h hG hS (lv_sub hl [2, 3, 4] rfl)
  unfold cm_X1_once at h
  refine lv_aload_n hx hb dX1_once_0 rfl (lv_at hl 0 rfl) ?_
  refine lv_dup hx hb dX1_once_1 rfl ?_
  obtain ⟨v2, e2, h⟩ := g_bd h
  refine cg_X1_133 dX1_once_2 S hE hG e2 ?_
  refine lv_iconst (v := 1) hx hb dX1_once_5 (by decide) ?_
  refine lv_iadd hx hb dX1_once_6 ?_
  obtain ⟨G7, e7, h⟩ := g_bd h
  refine cp_X1_133 dX1_once_7 S hE hG hS hC0 e7 (fun H locs hG hS => ?_)
  refine lv_aload_n hx hb dX1_once_10 rfl (lv_at hl 0 rfl) ?_
  obtain ⟨v11, e11, h⟩ := g_bd h
  refine cg_X1_75 dX1_once_11 S hE hG e11 ?_
  obtain ⟨b14, eb14, h⟩ := g_bd h
  have rb14 : va_rf v11 = .ref b14 := by rw [eb14]; rfl
  (try rw [rb14] at hl)
  (try rw [rb14])
  obtain ⟨v14, e14, h⟩ := g_bd h
  refine cg_X1_104 dX1_once_14 S hE hG e14 ?_
  obtain ⟨u17, t17, h⟩ := g_bd h
  obtain ⟨v17, e17, h⟩ := g_bd h
  refine c_cV (y := yJ6_size) (rest := []) dX1_once_17 q1722 q882 q883 q128 q884 hc_J6_size rfl S hE hG hS hC0 hl.1 rfl (c_recv hE hG (ci := 2) rfl (by decide) (c_castM t17)) (wm_J6_size E l v14 G7 _ e17) rfl (Nat.le_of_ble_eq_true rfl) ⟨Nat.le_of_ble_eq_true rfl, Nat.le_of_ble_eq_true rfl⟩ (fun H locs hG hS => ?_)
  refine lv_istore_n (lv' := [(1, .int v17), (0, .ref x0)]) hx hb dX1_once_20 rfl hl (by decide) rfl (fun ls hl => ?_)
  refine lv_iconst (v := 0) hx hb dX1_once_21 (by decide) ?_
  refine lv_istore_n (lv' := [(2, .int 0), (1, .int v17), (0, .ref x0)]) hx hb dX1_once_22 rfl hl (by decide) rfl (fun ls hl => ?_)
  exact L23 gF x0 v17 0 G7 _ _ _ h hG hS (lv_sub hl [2, 1, 0] rfl)
theorem hc_X1_open : cHd yX1_open 0 := by decide +kernel
set_option maxHeartbeats 4000000 in
set_option maxRecDepth 100000 in
theorem wm_X1_open (E : gX) (l : Launch) (hl9 : l.stackTraces = false) (x0 : Nat) (Gz : GH) (r : (GX Unit)) (h : cm_X1_open x0 Gz = some r) : gMetX E l yX1_open cX1_open 1 none 8 [.ref x0] Gz (gRs (fun _ => none) r) := by
  refine gMetX.of (own := RX1) (by decide +kernel) (Nat.le_of_ble_eq_true rfl) rfl ?_
  intro p e s m args below meth c S hr hk hx9 hE hC0 hG hS ls hl
  have hl : lv_has ls 1 [(0, .ref x0)] := hl
  have hx := S.1
  have hb := S.2.1
  unfold cm_X1_open at h
  refine lv_aload_n hx hb dX1_open_0 rfl (lv_at hl 0 rfl) ?_
  obtain ⟨u1, t1, h⟩ := g_bd h
  rcases gXb_e h with ⟨qx1, e1, h⟩ | ⟨xx1, e1, rfl⟩
  rotate_left
  · exact c_xV (r := .inr xx1) (y := yX1_isFair) (rest := []) dX1_open_1 q1929 q1931 qs39 q119 q1932 hc_X1_isFair rfl S hE hG hS hC0 hl.1 rfl (c_recv hE hG (ci := 8) rfl (by decide) (c_castM t1)) (wm_X1_isFair E l hl9 x0 Gz _ e1) rfl (Nat.le_of_ble_eq_true rfl) ⟨Nat.le_of_ble_eq_true rfl, Nat.le_of_ble_eq_true rfl⟩ (fun hr9 => c_xthrew hC0 hr9 hS (fun H locs ce hG hS h1 h2 h3 => c_xout rfl hx9 hk hC0 hG hS h1 h2 h3))
  refine c_xV (r := .inl (none, qx1.2)) (y := yX1_isFair) (rest := []) dX1_open_1 q1929 q1931 qs39 q119 q1932 hc_X1_isFair rfl S hE hG hS hC0 hl.1 rfl (c_recv hE hG (ci := 8) rfl (by decide) (c_castM t1)) (wm_X1_isFair E l hl9 x0 Gz _ e1) rfl (Nat.le_of_ble_eq_true rfl) ⟨Nat.le_of_ble_eq_true rfl, Nat.le_of_ble_eq_true rfl⟩ (fun hr9 => c_xback hC0 hr9 hS (fun H locs hG hS => ?_))
  refine lv_aload_n hx hb dX1_open_4 rfl (lv_at hl 0 rfl) ?_
  obtain ⟨u5, t5, h⟩ := g_bd h
  obtain ⟨G5, e5, h⟩ := g_bd h
  refine c_cV (y := yX1_begin) (rest := []) dX1_open_5 q1718 q1720 qs38 q119 q1721 hc_X1_begin rfl S hE hG hS hC0 hl.1 rfl (c_recv hE hG (ci := 8) rfl (by decide) (c_castM t5)) (wm_X1_begin E l x0 qx1.2 _ e5) rfl (Nat.le_of_ble_eq_true rfl) ⟨Nat.le_of_ble_eq_true rfl, Nat.le_of_ble_eq_true rfl⟩ (fun H locs hG hS => ?_)
  cases h
  exact c_xret (v := none) (G1 := G5) rfl (c_vretW dX1_open_8 S hr hk hC0 hG hS rfl)
theorem hc_X34_hum : cHd yX34_hum 0 := by decide +kernel
set_option maxHeartbeats 4000000 in
set_option maxRecDepth 100000 in
theorem wm_X34_hum (E : gX) (l : Launch) (x0 : Nat) (Gz : GH) (r : Int32) (h : cm_X34_hum x0 Gz = some r) : gMetC E l yX34_hum cX34_hum 1 (some Jvm.ClassFile.FieldType.int) 3 [.ref x0] Gz Gz (some (.int r)) := by
  refine gMetC.of (own := RX34) (by decide +kernel) (Nat.le_of_ble_eq_true rfl) rfl ?_
  intro p e s m args below meth c S hr hk hnm hE hC0 hG hS ls hl
  have hl : lv_has ls 1 [(0, .ref x0)] := hl
  have hx := S.1
  have hb := S.2.1
  unfold cm_X34_hum at h
  refine lv_aload_n hx hb dX34_hum_0 rfl (lv_at hl 0 rfl) ?_
  obtain ⟨v1, e1, h⟩ := g_bd h
  refine wd_Turns_spin (rest := []) q2131 dX34_hum_1 S hE hG hS hC0 hl.1 e1 rfl (Nat.le_of_ble_eq_true rfl) (by decide) (fun H locs hG hS => ?_)
  obtain ⟨u6, t6, h⟩ := g_bd h
  obtain ⟨v6, e6, h⟩ := g_bd h
  refine c_cV (y := yX9_size) (rest := []) dX34_hum_6 q2421 q2281 q2282 q151 q2283 hc_X9_size rfl S hE hG hS hC0 hl.1 rfl (c_recv hE hG (ci := 15) rfl (by decide) (c_castM t6)) (wm_X9_size E l v1 Gz _ e6) rfl (Nat.le_of_ble_eq_true rfl) ⟨Nat.le_of_ble_eq_true rfl, Nat.le_of_ble_eq_true rfl⟩ (fun H locs hG hS => ?_)
  refine lv_iconst (v := 2) hx hb dX34_hum_9 (by decide) ?_
  refine lv_idiv hx hb dX34_hum_10 (by decide) ?_
  exact c_iretR dX34_hum_11 S hr hk hC0 hG hS h
section DSP
variable {p : Program} {l : Launch} {e : Env} {R : Room} {s : State} {m : MethodId} {args : Array Value} {below : List Frame} {meth : Method} {c : Code} {H : Heap} {locs : List Loc} {cells slots : Nat} {Q : State → Prop}
variable {cc : ByteArray} {pc nL lev0 : Nat} {ls : Array Slot} {rest st : List Value} {E : gX} {G Gz G1 : GH}
theorem hx_Turns_hum : cHd ⟨"FairHouse$Turns", "hum", "()I"⟩ 0 := by decide +kernel
set_option maxHeartbeats 4000000 in
set_option maxRecDepth 100000 in
theorem wd_Turns_hum {own : String} {a idx count : Nat} {r : Int32} (w1 : Cond.methodLink own idx ⟨"FairHouse$Turns", "hum", "()I"⟩ ∈ lw_all) (hdg : decode cc pc = .ok (.invokeinterface idx count, 5)) (S : CallFix p m c cc nL s args lw_all own) (hE : gEnv E s) (hG : gC E G H) (hS : va_S (gx_C E) s.heap H locs) (hC0 : gC E Gz s.heap) (hls : ls.size = nL) (h : cd_Turns_hum a G = some r) (hst : st = [] ++ .ref a :: rest) (hW : (rest.map fun v => v.category).sum ≤ 8) (hroom : 3 + 1 ≤ lev0)
    (kk : ∀ (H1 : Heap) (locs1 : List Loc), gC E G H1 → va_S (gx_C E) s.heap H1 locs1 → WC E p l e (gRm lev0 (cBx Gz) (cBs Gz)) s m args below meth c H1 locs1 Q (F0 m (pc + 5) ls (.int r :: rest))) : WC E p l e (gRm lev0 (cBx Gz) (cBs Gz)) s m args below meth c H locs Q (F0 m pc ls st) := by
  unfold cd_Turns_hum at h
  by_cases c14 : cT G a = 14
  · have h := g_it c14 h
    exact c_cD (y := yX34_hum) (As := []) 68 rfl hdg w1 q2624 q3388 q2626 hx_Turns_hum S hE hG hS hC0 hls rfl (hE.K.1 13 _ rfl).2 (c_recv hE hG (ci := 13) rfl (by decide) c14) (wm_X34_hum E l a G _ h) hst hW ⟨by omega, by omega⟩ (fun H1 locs1 h1 h2 => kk H1 locs1 h1 h2)
  have h := g_if c14 h
  by_cases c20 : cT G a = 20
  · have h := g_it c20 h
    exact c_cD (y := yX34_hum) (As := []) 69 rfl hdg w1 q2624 q3388 q2626 hx_Turns_hum S hE hG hS hC0 hls rfl (hE.K.1 19 _ rfl).2 (c_recv hE hG (ci := 19) rfl (by decide) c20) (wm_X34_hum E l a G _ h) hst hW ⟨by omega, by omega⟩ (fun H1 locs1 h1 h2 => kk H1 locs1 h1 h2)
  have h := g_if c20 h
  by_cases c21 : cT G a = 21
  · have h := g_it c21 h
    exact c_cD (y := yX34_hum) (As := []) 70 rfl hdg w1 q2624 q3388 q2626 hx_Turns_hum S hE hG hS hC0 hls rfl (hE.K.1 20 _ rfl).2 (c_recv hE hG (ci := 20) rfl (by decide) c21) (wm_X34_hum E l a G _ h) hst hW ⟨by omega, by omega⟩ (fun H1 locs1 h1 h2 => kk H1 locs1 h1 h2)
  have h := g_if c21 h
  by_cases c27 : cT G a = 27
  · have h := g_it c27 h
    exact c_cD (y := yX34_hum) (As := []) 71 rfl hdg w1 q2624 q3388 q2626 hx_Turns_hum S hE hG hS hC0 hls rfl (hE.K.1 26 _ rfl).2 (c_recv hE hG (ci := 26) rfl (by decide) c27) (wm_X34_hum E l a G _ h) hst hW ⟨by omega, by omega⟩ (fun H1 locs1 h1 h2 => kk H1 locs1 h1 h2)
  have h := g_if c27 h
  by_cases c28 : cT G a = 28
  · have h := g_it c28 h
    exact c_cD (y := yX34_hum) (As := []) 72 rfl hdg w1 q2624 q3388 q2626 hx_Turns_hum S hE hG hS hC0 hls rfl (hE.K.1 27 _ rfl).2 (c_recv hE hG (ci := 27) rfl (by decide) c28) (wm_X34_hum E l a G _ h) hst hW ⟨by omega, by omega⟩ (fun H1 locs1 h1 h2 => kk H1 locs1 h1 h2)
  have h := g_if c28 h
  cases h
end DSP
theorem hc_X34_noise : cHd yX34_noise 0 := by decide +kernel
set_option maxHeartbeats 4000000 in
set_option maxRecDepth 100000 in
theorem wm_X34_noise (E : gX) (l : Launch) (x0 : Nat) (Gz : GH) (r : Int32) (h : cm_X34_noise x0 Gz = some r) : gMetC E l yX34_noise cX34_noise 1 (some Jvm.ClassFile.FieldType.int) 4 [.ref x0] Gz Gz (some (.int r)) := by
  refine gMetC.of (own := RX34) (by decide +kernel) (Nat.le_of_ble_eq_true rfl) rfl ?_
  intro p e s m args below meth c S hr hk hnm hE hC0 hG hS ls hl
  have hl : lv_has ls 1 [(0, .ref x0)] := hl
  have hx := S.1
  have hb := S.2.1
  unfold cm_X34_noise at h
  refine lv_aload_n hx hb dX34_noise_0 rfl (lv_at hl 0 rfl) ?_
  obtain ⟨v1, e1, h⟩ := g_bd h
  refine wd_Turns_hum (rest := []) q2660 dX34_noise_1 S hE hG hS hC0 hl.1 e1 rfl (Nat.le_of_ble_eq_true rfl) (by decide) (fun H locs hG hS => ?_)
  exact c_iretR dX34_noise_6 S hr hk hC0 hG hS h
theorem hc_X36_creak : cHd yX36_creak 0 := by decide +kernel
set_option maxHeartbeats 4000000 in
set_option maxRecDepth 100000 in
theorem wm_X36_creak (E : gX) (l : Launch) (x0 : Nat) (Gz : GH) (r : Int32) (h : cm_X36_creak x0 Gz = some r) : gMetC E l yX36_creak cX36_creak 1 (some Jvm.ClassFile.FieldType.int) 3 [.ref x0] Gz Gz (some (.int r)) := by
  refine gMetC.of (own := RX36) (by decide +kernel) (Nat.le_of_ble_eq_true rfl) rfl ?_
  intro p e s m args below meth c S hr hk hnm hE hC0 hG hS ls hl
  have hl : lv_has ls 1 [(0, .ref x0)] := hl
  have hx := S.1
  have hb := S.2.1
  unfold cm_X36_creak at h
  refine lv_aload_n hx hb dX36_creak_0 rfl (lv_at hl 0 rfl) ?_
  obtain ⟨v1, e1, h⟩ := g_bd h
  refine wd_Lifts_hoist (rest := []) q2087 dX36_creak_1 S hE hG hS hC0 hl.1 e1 rfl (Nat.le_of_ble_eq_true rfl) (by decide) (fun H locs hG hS => ?_)
  obtain ⟨v6, e6, h⟩ := g_bd h
  refine cg_X36_7 dX36_creak_6 S hE hG e6 ?_
  refine lv_if_eq (tgt := 16) hx hb dX36_creak_9 (by decide) (fun c9 => ?_) (fun c9 => ?_)
  · have h := g_it c9 h
    refine lv_iconst (v := 0) hx hb dX36_creak_16 (by decide) ?_
    exact c_iretR dX36_creak_17 S hr hk hC0 hG hS h
  · have h := g_if c9 h
    refine lv_iconst (v := 5) hx hb dX36_creak_12 (by decide) ?_
    refine lv_goto (tgt := 17) hx hb dX36_creak_13 (by decide) ?_
    exact c_iretR dX36_creak_17 S hr hk hC0 hG hS h
section DSP
variable {p : Program} {l : Launch} {e : Env} {R : Room} {s : State} {m : MethodId} {args : Array Value} {below : List Frame} {meth : Method} {c : Code} {H : Heap} {locs : List Loc} {cells slots : Nat} {Q : State → Prop}
variable {cc : ByteArray} {pc nL lev0 : Nat} {ls : Array Slot} {rest st : List Value} {E : gX} {G Gz G1 : GH}
theorem hx_Lifts_creak : cHd ⟨"FairHouse$Lifts", "creak", "()I"⟩ 0 := by decide +kernel
set_option maxHeartbeats 4000000 in
set_option maxRecDepth 100000 in
theorem wd_Lifts_creak {own : String} {a idx count : Nat} {r : Int32} (w1 : Cond.methodLink own idx ⟨"FairHouse$Lifts", "creak", "()I"⟩ ∈ lw_all) (hdg : decode cc pc = .ok (.invokeinterface idx count, 5)) (S : CallFix p m c cc nL s args lw_all own) (hE : gEnv E s) (hG : gC E G H) (hS : va_S (gx_C E) s.heap H locs) (hC0 : gC E Gz s.heap) (hls : ls.size = nL) (h : cd_Lifts_creak a G = some r) (hst : st = [] ++ .ref a :: rest) (hW : (rest.map fun v => v.category).sum ≤ 8) (hroom : 3 + 1 ≤ lev0)
    (kk : ∀ (H1 : Heap) (locs1 : List Loc), gC E G H1 → va_S (gx_C E) s.heap H1 locs1 → WC E p l e (gRm lev0 (cBx Gz) (cBs Gz)) s m args below meth c H1 locs1 Q (F0 m (pc + 5) ls (.int r :: rest))) : WC E p l e (gRm lev0 (cBx Gz) (cBs Gz)) s m args below meth c H locs Q (F0 m pc ls st) := by
  unfold cd_Lifts_creak at h
  by_cases c18 : cT G a = 18
  · have h := g_it c18 h
    exact c_cD (y := yX36_creak) (As := []) 4 rfl hdg w1 q2597 q3386 q2599 hx_Lifts_creak S hE hG hS hC0 hls rfl (hE.K.1 17 _ rfl).2 (c_recv hE hG (ci := 17) rfl (by decide) c18) (wm_X36_creak E l a G _ h) hst hW ⟨by omega, by omega⟩ (fun H1 locs1 h1 h2 => kk H1 locs1 h1 h2)
  have h := g_if c18 h
  by_cases c20 : cT G a = 20
  · have h := g_it c20 h
    exact c_cD (y := yX36_creak) (As := []) 5 rfl hdg w1 q2597 q3386 q2599 hx_Lifts_creak S hE hG hS hC0 hls rfl (hE.K.1 19 _ rfl).2 (c_recv hE hG (ci := 19) rfl (by decide) c20) (wm_X36_creak E l a G _ h) hst hW ⟨by omega, by omega⟩ (fun H1 locs1 h1 h2 => kk H1 locs1 h1 h2)
  have h := g_if c20 h
  by_cases c25 : cT G a = 25
  · have h := g_it c25 h
    exact c_cD (y := yX36_creak) (As := []) 6 rfl hdg w1 q2597 q3386 q2599 hx_Lifts_creak S hE hG hS hC0 hls rfl (hE.K.1 24 _ rfl).2 (c_recv hE hG (ci := 24) rfl (by decide) c25) (wm_X36_creak E l a G _ h) hst hW ⟨by omega, by omega⟩ (fun H1 locs1 h1 h2 => kk H1 locs1 h1 h2)
  have h := g_if c25 h
  by_cases c27 : cT G a = 27
  · have h := g_it c27 h
    exact c_cD (y := yX36_creak) (As := []) 7 rfl hdg w1 q2597 q3386 q2599 hx_Lifts_creak S hE hG hS hC0 hls rfl (hE.K.1 26 _ rfl).2 (c_recv hE hG (ci := 26) rfl (by decide) c27) (wm_X36_creak E l a G _ h) hst hW ⟨by omega, by omega⟩ (fun H1 locs1 h1 h2 => kk H1 locs1 h1 h2)
  have h := g_if c27 h
  cases h
end DSP
theorem hc_X36_noise : cHd yX36_noise 0 := by decide +kernel
set_option maxHeartbeats 4000000 in
set_option maxRecDepth 100000 in
theorem wm_X36_noise (E : gX) (l : Launch) (x0 : Nat) (Gz : GH) (r : Int32) (h : cm_X36_noise x0 Gz = some r) : gMetC E l yX36_noise cX36_noise 1 (some Jvm.ClassFile.FieldType.int) 4 [.ref x0] Gz Gz (some (.int r)) := by
  refine gMetC.of (own := RX36) (by decide +kernel) (Nat.le_of_ble_eq_true rfl) rfl ?_
  intro p e s m args below meth c S hr hk hnm hE hC0 hG hS ls hl
  have hl : lv_has ls 1 [(0, .ref x0)] := hl
  have hx := S.1
  have hb := S.2.1
  unfold cm_X36_noise at h
  refine lv_aload_n hx hb dX36_noise_0 rfl (lv_at hl 0 rfl) ?_
  obtain ⟨v1, e1, h⟩ := g_bd h
  refine wd_Lifts_creak (rest := []) q2653 dX36_noise_1 S hE hG hS hC0 hl.1 e1 rfl (Nat.le_of_ble_eq_true rfl) (by decide) (fun H locs hG hS => ?_)
  exact c_iretR dX36_noise_6 S hr hk hC0 hG hS h
theorem hc_X13_noise : cHd yX13_noise 0 := by decide +kernel
set_option maxHeartbeats 4000000 in
set_option maxRecDepth 100000 in
theorem wm_X13_noise (E : gX) (l : Launch) (x0 : Nat) (Gz : GH) (r : Int32) (h : cm_X13_noise x0 Gz = some r) : gMetC E l yX13_noise cX13_noise 3 (some Jvm.ClassFile.FieldType.int) 4 [.ref x0] Gz Gz (some (.int r)) := by
  refine gMetC.of (own := RX13) (by decide +kernel) (Nat.le_of_ble_eq_true rfl) rfl ?_
  intro p e s m args below meth c S hr hk hnm hE hC0 hG hS ls hl
  have hl : lv_has ls 3 [(0, .ref x0)] := hl
  have hx := S.1
  have hb := S.2.1
  unfold cm_X13_noise at h
  refine lv_aload_n hx hb dX13_noise_0 rfl (lv_at hl 0 rfl) ?_
  refine lv_astore_n (lv' := [(1, .ref x0), (0, .ref x0)]) hx hb dX13_noise_1 rfl hl (by decide) rfl (fun ls hl => ?_)
  refine lv_aload_n hx hb dX13_noise_2 rfl (lv_at hl 1 rfl) ?_
  refine lv_astore_n (lv' := [(2, .ref x0), (1, .ref x0), (0, .ref x0)]) hx hb dX13_noise_3 rfl hl (by decide) rfl (fun ls hl => ?_)
  refine lv_aload_n hx hb dX13_noise_4 rfl (lv_at hl 1 rfl) ?_
  obtain ⟨v5, e5, h⟩ := g_bd h
  refine wd_Turns_hum (rest := []) q2639 dX13_noise_5 S hE hG hS hC0 hl.1 e5 rfl (Nat.le_of_ble_eq_true rfl) (by decide) (fun H locs hG hS => ?_)
  refine lv_aload_n hx hb dX13_noise_10 rfl (lv_at hl 0 rfl) ?_
  obtain ⟨v11, e11, h⟩ := g_bd h
  refine wd_Lifts_creak (rest := [.int v5]) q2641 dX13_noise_11 S hE hG hS hC0 hl.1 e11 rfl (Nat.le_of_ble_eq_true rfl) (by decide) (fun H locs hG hS => ?_)
  refine c_math_max q2450 dX13_noise_16 S hl.1 hC0 hG hS (by decide) (Nat.le_of_ble_eq_true rfl) ?_
  exact c_iretR dX13_noise_19 S hr hk hC0 hG hS h
theorem hc_X14_noise : cHd yX14_noise 0 := by decide +kernel
set_option maxHeartbeats 4000000 in
set_option maxRecDepth 100000 in
theorem wm_X14_noise (E : gX) (l : Launch) (x0 : Nat) (Gz : GH) (r : Int32) (h : cm_X14_noise x0 Gz = some r) : gMetC E l yX14_noise cX14_noise 1 (some Jvm.ClassFile.FieldType.int) 2 [.ref x0] Gz Gz (some (.int r)) := by
  refine gMetC.of (own := RX14) (by decide +kernel) (Nat.le_of_ble_eq_true rfl) rfl ?_
  intro p e s m args below meth c S hr hk hnm hE hC0 hG hS ls hl
  have hl : lv_has ls 1 [(0, .ref x0)] := hl
  have hx := S.1
  have hb := S.2.1
  unfold cm_X14_noise at h
  refine lv_aload_n hx hb dX14_noise_0 rfl (lv_at hl 0 rfl) ?_
  obtain ⟨v1, e1, h⟩ := g_bd h
  refine cg_X14_23 dX14_noise_1 S hE hG e1 ?_
  obtain ⟨v4, e4, h⟩ := g_bd h
  refine cg_X14_38 dX14_noise_4 S hE hG e4 ?_
  refine lv_if_ne (tgt := 20) hx hb dX14_noise_7 (by decide) (fun c7 => ?_) (fun c7 => ?_)
  · have h := g_if c7 h
    refine lv_aload_n hx hb dX14_noise_20 rfl (lv_at hl 0 rfl) ?_
    obtain ⟨v21, e21, h⟩ := g_bd h
    refine cg_X14_12 dX14_noise_21 S hE hG e21 ?_
    obtain ⟨v24, e24, h⟩ := g_bd h
    refine cg_X14_42 dX14_noise_24 S hE hG e24 ?_
    refine lv_bipush (v := 10) hx hb dX14_noise_27 (by decide) ?_
    refine lv_iadd hx hb dX14_noise_29 ?_
    exact c_iretR dX14_noise_30 S hr hk hC0 hG hS h
  · have h := g_it c7 h
    refine lv_aload_n hx hb dX14_noise_10 rfl (lv_at hl 0 rfl) ?_
    obtain ⟨v11, e11, h⟩ := g_bd h
    refine cg_X14_12 dX14_noise_11 S hE hG e11 ?_
    obtain ⟨v14, e14, h⟩ := g_bd h
    refine cg_X14_42 dX14_noise_14 S hE hG e14 ?_
    refine lv_goto (tgt := 30) hx hb dX14_noise_17 (by decide) ?_
    exact c_iretR dX14_noise_30 S hr hk hC0 hG hS h
theorem hc_X40_noise : cHd yX40_noise 0 := by decide +kernel
set_option maxHeartbeats 4000000 in
set_option maxRecDepth 100000 in
theorem wm_X40_noise (E : gX) (l : Launch) (x0 : Nat) (Gz : GH) (r : Int32) (h : cm_X40_noise x0 Gz = some r) : gMetC E l yX40_noise cX40_noise 1 (some Jvm.ClassFile.FieldType.int) 2 [.ref x0] Gz Gz (some (.int r)) := by
  refine gMetC.of (own := RX40) (by decide +kernel) (Nat.le_of_ble_eq_true rfl) rfl ?_
  intro p e s m args below meth c S hr hk hnm hE hC0 hG hS ls hl
  have hl : lv_has ls 1 [(0, .ref x0)] := hl
  have hx := S.1
  have hb := S.2.1
  unfold cm_X40_noise at h
  refine lv_iconst (v := 0) hx hb dX40_noise_0 (by decide) ?_
  exact c_iretR dX40_noise_1 S hr hk hC0 hG hS h
theorem hc_X18_noise : cHd yX18_noise 0 := by decide +kernel
set_option maxHeartbeats 4000000 in
set_option maxRecDepth 100000 in
theorem wm_X18_noise (E : gX) (l : Launch) (x0 : Nat) (Gz : GH) (r : Int32) (h : cm_X18_noise x0 Gz = some r) : gMetC E l yX18_noise cX18_noise 2 (some Jvm.ClassFile.FieldType.int) 4 [.ref x0] Gz Gz (some (.int r)) := by
  refine gMetC.of (own := RX18) (by decide +kernel) (Nat.le_of_ble_eq_true rfl) rfl ?_
  intro p e s m args below meth c S hr hk hnm hE hC0 hG hS ls hl
  have hl : lv_has ls 2 [(0, .ref x0)] := hl
  have hx := S.1
  have hb := S.2.1
  unfold cm_X18_noise at h
  refine lv_aload_n hx hb dX18_noise_0 rfl (lv_at hl 0 rfl) ?_
  refine lv_astore_n (lv' := [(1, .ref x0), (0, .ref x0)]) hx hb dX18_noise_1 rfl hl (by decide) rfl (fun ls hl => ?_)
  refine lv_aload_n hx hb dX18_noise_2 rfl (lv_at hl 0 rfl) ?_
  obtain ⟨v3, e3, h⟩ := g_bd h
  refine wd_Lifts_creak (rest := []) q2593 dX18_noise_3 S hE hG hS hC0 hl.1 e3 rfl (Nat.le_of_ble_eq_true rfl) (by decide) (fun H locs hG hS => ?_)
  refine lv_aload_n hx hb dX18_noise_8 rfl (lv_at hl 1 rfl) ?_
  obtain ⟨v9, e9, h⟩ := g_bd h
  refine cg_X18_12 dX18_noise_9 S hE hG e9 ?_
  obtain ⟨v12, e12, h⟩ := g_bd h
  refine cg_X18_53 dX18_noise_12 S hE hG e12 ?_
  refine c_math_max q2603 dX18_noise_15 S hl.1 hC0 hG hS (by decide) (Nat.le_of_ble_eq_true rfl) ?_
  exact c_iretR dX18_noise_18 S hr hk hC0 hG hS h
theorem hc_X19_noise : cHd yX19_noise 0 := by decide +kernel
set_option maxHeartbeats 4000000 in
set_option maxRecDepth 100000 in
theorem wm_X19_noise (E : gX) (l : Launch) (x0 : Nat) (Gz : GH) (r : Int32) (h : cm_X19_noise x0 Gz = some r) : gMetC E l yX19_noise cX19_noise 1 (some Jvm.ClassFile.FieldType.int) 2 [.ref x0] Gz Gz (some (.int r)) := by
  refine gMetC.of (own := RX19) (by decide +kernel) (Nat.le_of_ble_eq_true rfl) rfl ?_
  intro p e s m args below meth c S hr hk hnm hE hC0 hG hS ls hl
  have hl : lv_has ls 1 [(0, .ref x0)] := hl
  have hx := S.1
  have hb := S.2.1
  unfold cm_X19_noise at h
  refine lv_aload_n hx hb dX19_noise_0 rfl (lv_at hl 0 rfl) ?_
  obtain ⟨v1, e1, h⟩ := g_bd h
  refine cg_X19_12 dX19_noise_1 S hE hG e1 ?_
  obtain ⟨v4, e4, h⟩ := g_bd h
  refine cg_X19_43 dX19_noise_4 S hE hG e4 ?_
  refine lv_iconst (v := 2) hx hb dX19_noise_7 (by decide) ?_
  refine lv_idiv hx hb dX19_noise_8 (by decide) ?_
  exact c_iretR dX19_noise_9 S hr hk hC0 hG hS h
theorem hc_X20_noise : cHd yX20_noise 0 := by decide +kernel
set_option maxHeartbeats 4000000 in
set_option maxRecDepth 100000 in
theorem wm_X20_noise (E : gX) (l : Launch) (x0 : Nat) (Gz : GH) (r : Int32) (h : cm_X20_noise x0 Gz = some r) : gMetC E l yX20_noise cX20_noise 3 (some Jvm.ClassFile.FieldType.int) 4 [.ref x0] Gz Gz (some (.int r)) := by
  refine gMetC.of (own := RX20) (by decide +kernel) (Nat.le_of_ble_eq_true rfl) rfl ?_
  intro p e s m args below meth c S hr hk hnm hE hC0 hG hS ls hl
  have hl : lv_has ls 3 [(0, .ref x0)] := hl
  have hx := S.1
  have hb := S.2.1
  unfold cm_X20_noise at h
  refine lv_aload_n hx hb dX20_noise_0 rfl (lv_at hl 0 rfl) ?_
  refine lv_astore_n (lv' := [(1, .ref x0), (0, .ref x0)]) hx hb dX20_noise_1 rfl hl (by decide) rfl (fun ls hl => ?_)
  refine lv_aload_n hx hb dX20_noise_2 rfl (lv_at hl 1 rfl) ?_
  refine lv_astore_n (lv' := [(2, .ref x0), (1, .ref x0), (0, .ref x0)]) hx hb dX20_noise_3 rfl hl (by decide) rfl (fun ls hl => ?_)
  refine lv_aload_n hx hb dX20_noise_4 rfl (lv_at hl 1 rfl) ?_
  obtain ⟨v5, e5, h⟩ := g_bd h
  refine wd_Turns_hum (rest := []) q2620 dX20_noise_5 S hE hG hS hC0 hl.1 e5 rfl (Nat.le_of_ble_eq_true rfl) (by decide) (fun H locs hG hS => ?_)
  refine lv_aload_n hx hb dX20_noise_10 rfl (lv_at hl 0 rfl) ?_
  obtain ⟨v11, e11, h⟩ := g_bd h
  refine wd_Lifts_creak (rest := [.int v5]) q2632 dX20_noise_11 S hE hG hS hC0 hl.1 e11 rfl (Nat.le_of_ble_eq_true rfl) (by decide) (fun H locs hG hS => ?_)
  refine c_math_max q2290 dX20_noise_16 S hl.1 hC0 hG hS (by decide) (Nat.le_of_ble_eq_true rfl) ?_
  refine lv_aload_n hx hb dX20_noise_19 rfl (lv_at hl 2 rfl) ?_
  obtain ⟨v20, e20, h⟩ := g_bd h
  refine cg_X20_12 dX20_noise_20 S hE hG e20 ?_
  obtain ⟨v23, e23, h⟩ := g_bd h
  refine cg_X20_81 dX20_noise_23 S hE hG e23 ?_
  refine c_math_max q2290 dX20_noise_26 S hl.1 hC0 hG hS (by decide) (Nat.le_of_ble_eq_true rfl) ?_
  exact c_iretR dX20_noise_29 S hr hk hC0 hG hS h
theorem hc_X35_noise : cHd yX35_noise 0 := by decide +kernel
set_option maxHeartbeats 4000000 in
set_option maxRecDepth 100000 in
theorem wm_X35_noise (E : gX) (l : Launch) (x0 : Nat) (Gz : GH) (r : Int32) (h : cm_X35_noise x0 Gz = some r) : gMetC E l yX35_noise cX35_noise 1 (some Jvm.ClassFile.FieldType.int) 2 [.ref x0] Gz Gz (some (.int r)) := by
  refine gMetC.of (own := RX35) (by decide +kernel) (Nat.le_of_ble_eq_true rfl) rfl ?_
  intro p e s m args below meth c S hr hk hnm hE hC0 hG hS ls hl
  have hl : lv_has ls 1 [(0, .ref x0)] := hl
  have hx := S.1
  have hb := S.2.1
  unfold cm_X35_noise at h
  refine lv_iconst (v := 0) hx hb dX35_noise_0 (by decide) ?_
  exact c_iretR dX35_noise_1 S hr hk hC0 hG hS h
section DSP
variable {p : Program} {l : Launch} {e : Env} {R : Room} {s : State} {m : MethodId} {args : Array Value} {below : List Frame} {meth : Method} {c : Code} {H : Heap} {locs : List Loc} {cells slots : Nat} {Q : State → Prop}
variable {cc : ByteArray} {pc nL lev0 : Nat} {ls : Array Slot} {rest st : List Value} {E : gX} {G Gz G1 : GH}
theorem hx_Machine_noise : cHd ⟨"FairHouse$Machine", "noise", "()I"⟩ 0 := by decide +kernel
set_option maxHeartbeats 4000000 in
set_option maxRecDepth 100000 in
theorem wd_Machine_noise {own : String} {a idx count : Nat} {r : Int32} (w1 : Cond.methodLink own idx ⟨"FairHouse$Machine", "noise", "()I"⟩ ∈ lw_all) (hdg : decode cc pc = .ok (.invokeinterface idx count, 5)) (S : CallFix p m c cc nL s args lw_all own) (hE : gEnv E s) (hG : gC E G H) (hS : va_S (gx_C E) s.heap H locs) (hC0 : gC E Gz s.heap) (hls : ls.size = nL) (h : cd_Machine_noise a G = some r) (hst : st = [] ++ .ref a :: rest) (hW : (rest.map fun v => v.category).sum ≤ 8) (hroom : 4 + 1 ≤ lev0)
    (kk : ∀ (H1 : Heap) (locs1 : List Loc), gC E G H1 → va_S (gx_C E) s.heap H1 locs1 → WC E p l e (gRm lev0 (cBx Gz) (cBs Gz)) s m args below meth c H1 locs1 Q (F0 m (pc + 5) ls (.int r :: rest))) : WC E p l e (gRm lev0 (cBx Gz) (cBs Gz)) s m args below meth c H locs Q (F0 m pc ls st) := by
  unfold cd_Machine_noise at h
  by_cases c14 : cT G a = 14
  · have h := g_it c14 h
    exact c_cD (y := yX34_noise) (As := []) 44 rfl hdg w1 q2656 q3388 q2658 hx_Machine_noise S hE hG hS hC0 hls rfl (hE.K.1 13 _ rfl).2 (c_recv hE hG (ci := 13) rfl (by decide) c14) (wm_X34_noise E l a G _ h) hst hW ⟨by omega, by omega⟩ (fun H1 locs1 h1 h2 => kk H1 locs1 h1 h2)
  have h := g_if c14 h
  by_cases c18 : cT G a = 18
  · have h := g_it c18 h
    exact c_cD (y := yX36_noise) (As := []) 45 rfl hdg w1 q2649 q3386 q2651 hx_Machine_noise S hE hG hS hC0 hls rfl (hE.K.1 17 _ rfl).2 (c_recv hE hG (ci := 17) rfl (by decide) c18) (wm_X36_noise E l a G _ h) hst hW ⟨by omega, by omega⟩ (fun H1 locs1 h1 h2 => kk H1 locs1 h1 h2)
  have h := g_if c18 h
  by_cases c20 : cT G a = 20
  · have h := g_it c20 h
    exact c_cF (y := yX13_noise) (As := []) 25 rfl hdg w1 q2635 q2633 q155 q2637 hx_Machine_noise S hE hG hS hC0 hls rfl (hE.K.1 19 _ rfl).2 (c_recv hE hG (ci := 19) rfl (by decide) c20) (wm_X13_noise E l a G _ h) hst hW ⟨by omega, by omega⟩ (fun H1 locs1 h1 h2 => kk H1 locs1 h1 h2)
  have h := g_if c20 h
  by_cases c21 : cT G a = 21
  · have h := g_it c21 h
    exact c_cF (y := yX14_noise) (As := []) 26 rfl hdg w1 q2611 q2609 q156 q2613 hx_Machine_noise S hE hG hS hC0 hls rfl (hE.K.1 20 _ rfl).2 (c_recv hE hG (ci := 20) rfl (by decide) c21) (wm_X14_noise E l a G _ h) hst hW ⟨by omega, by omega⟩ (fun H1 locs1 h1 h2 => kk H1 locs1 h1 h2)
  have h := g_if c21 h
  by_cases c23 : cT G a = 23
  · have h := g_it c23 h
    exact c_cD (y := yX40_noise) (As := []) 46 rfl hdg w1 q2584 q3385 q2586 hx_Machine_noise S hE hG hS hC0 hls rfl (hE.K.1 22 _ rfl).2 (c_recv hE hG (ci := 22) rfl (by decide) c23) (wm_X40_noise E l a G _ h) hst hW ⟨by omega, by omega⟩ (fun H1 locs1 h1 h2 => kk H1 locs1 h1 h2)
  have h := g_if c23 h
  by_cases c25 : cT G a = 25
  · have h := g_it c25 h
    exact c_cF (y := yX18_noise) (As := []) 27 rfl hdg w1 q2589 q2587 q160 q2591 hx_Machine_noise S hE hG hS hC0 hls rfl (hE.K.1 24 _ rfl).2 (c_recv hE hG (ci := 24) rfl (by decide) c25) (wm_X18_noise E l a G _ h) hst hW ⟨by omega, by omega⟩ (fun H1 locs1 h1 h2 => kk H1 locs1 h1 h2)
  have h := g_if c25 h
  by_cases c26 : cT G a = 26
  · have h := g_it c26 h
    exact c_cF (y := yX19_noise) (As := []) 28 rfl hdg w1 q2606 q2604 q161 q2608 hx_Machine_noise S hE hG hS hC0 hls rfl (hE.K.1 25 _ rfl).2 (c_recv hE hG (ci := 25) rfl (by decide) c26) (wm_X19_noise E l a G _ h) hst hW ⟨by omega, by omega⟩ (fun H1 locs1 h1 h2 => kk H1 locs1 h1 h2)
  have h := g_if c26 h
  by_cases c27 : cT G a = 27
  · have h := g_it c27 h
    exact c_cF (y := yX20_noise) (As := []) 29 rfl hdg w1 q2616 q2614 q162 q2618 hx_Machine_noise S hE hG hS hC0 hls rfl (hE.K.1 26 _ rfl).2 (c_recv hE hG (ci := 26) rfl (by decide) c27) (wm_X20_noise E l a G _ h) hst hW ⟨by omega, by omega⟩ (fun H1 locs1 h1 h2 => kk H1 locs1 h1 h2)
  have h := g_if c27 h
  by_cases c28 : cT G a = 28
  · have h := g_it c28 h
    exact c_cD (y := yX35_noise) (As := []) 47 rfl hdg w1 q2644 q3390 q2646 hx_Machine_noise S hE hG hS hC0 hls rfl (hE.K.1 27 _ rfl).2 (c_recv hE hG (ci := 27) rfl (by decide) c28) (wm_X35_noise E l a G _ h) hst hW ⟨by omega, by omega⟩ (fun H1 locs1 h1 h2 => kk H1 locs1 h1 h2)
  have h := g_if c28 h
  cases h
end DSP
theorem hc_X1_says : cHd yX1_says 2 := by decide +kernel
set_option maxHeartbeats 4000000 in
set_option maxRecDepth 100000 in
theorem wm_X1_says (E : gX) (l : Launch) (hl9 : l.stackTraces = false) (x0 : Nat) (x1 : Int32) (x2 : Int32) (Gz : GH) (r : (GX Int32)) (h : cm_X1_says x0 x1 x2 Gz = some r) : gMetX E l yX1_says cX1_says 4 (some Jvm.ClassFile.FieldType.int) 9 [.ref x0, .int x1, .int x2] Gz (gRs (fun r => some (.int r)) r) := by
  refine gMetX.of (own := RX1) (by decide +kernel) (Nat.le_of_ble_eq_true rfl) rfl ?_
  intro p e s m args below meth c S hr hk hx9 hE hC0 hG hS ls hl
  have hl : lv_has ls 4 [(0, .ref x0), (1, .int x1), (2, .int x2)] := hl
  have hx := S.1
  have hb := S.2.1
  have J24 : ∀ (x2 : Int32) (x3 : Nat) (s0 : Int32) (G : GH) (H : Heap) (locs : List Loc) (ls : Array Slot), cm_X1_says_J24 x2 x3 s0 G = some r → gC E G H → va_S (gx_C E) s.heap H locs → lv_has ls 4 [(2, .int x2), (3, .ref x3)] → WC E p l e (gRm 9 (cBx Gz) (cBs Gz)) s m args below meth c H locs (gXMQ E below (gRs (fun r => some (.int r)) r) args s Gz) (F0 m 24 ls [.int s0]) := by
    intro x2 x3 s0 G H locs ls h hG hS hl
    unfold cm_X1_says_J24 at h
    rcases gXb_e h with ⟨qx24, e24, h⟩ | ⟨xx24, e24, rfl⟩
    rotate_left
    · exact c_xS (r := .inr xx24) (y := yX1_there) (rest := []) dX1_says_24 q1896 q1897 q119 q1898 hc_X1_there S hE hG hS hC0 hl.1 rfl (wm_X1_there E l hl9 s0 G _ e24) rfl (Nat.le_of_ble_eq_true rfl) ⟨Nat.le_of_ble_eq_true rfl, Nat.le_of_ble_eq_true rfl⟩ (fun hr9 => c_xthrew hC0 hr9 hS (fun H locs ce hG hS h1 h2 h3 => c_xout rfl hx9 hk hC0 hG hS h1 h2 h3))
    refine c_xS (r := .inl (none, qx24.2)) (y := yX1_there) (rest := []) dX1_says_24 q1896 q1897 q119 q1898 hc_X1_there S hE hG hS hC0 hl.1 rfl (wm_X1_there E l hl9 s0 G _ e24) rfl (Nat.le_of_ble_eq_true rfl) ⟨Nat.le_of_ble_eq_true rfl, Nat.le_of_ble_eq_true rfl⟩ (fun hr9 => c_xback hC0 hr9 hS (fun H locs hG hS => ?_))
    refine lv_iload_n hx hb dX1_says_27 rfl (lv_at hl 0 rfl) ?_
    by_cases c28_0 : x2 = 0
    · have h := g_it c28_0 h
      refine lv_tableIn (off := 32) (tgt := 60) hx hb dX1_says_28 (by rw [c28_0]; decide) (by rw [c28_0]; decide) (by rw [c28_0]; rfl) (by decide) ?_
      refine lv_aload_n hx hb dX1_says_60 rfl (lv_at hl 1 rfl) ?_
      obtain ⟨v61, e61, h⟩ := g_bd h
      refine wd_Machine_draw (rest := []) q2349 dX1_says_61 S hE hG hS hC0 hl.1 e61 rfl (Nat.le_of_ble_eq_true rfl) (by decide) (fun H locs hG hS => ?_)
      cases h
      exact c_xret (v := some (.int v61)) (G1 := qx24.2) rfl (c_iretW dX1_says_66 S hr hk hC0 hG hS rfl)
    have h := g_if c28_0 h
    by_cases c28_1 : x2 = 1
    · have h := g_it c28_1 h
      refine lv_tableIn (off := 39) (tgt := 67) hx hb dX1_says_28 (by rw [c28_1]; decide) (by rw [c28_1]; decide) (by rw [c28_1]; rfl) (by decide) ?_
      refine lv_aload_n hx hb dX1_says_67 rfl (lv_at hl 1 rfl) ?_
      obtain ⟨v68, e68, h⟩ := g_bd h
      refine wd_Machine_noise (rest := []) q2580 dX1_says_68 S hE hG hS hC0 hl.1 e68 rfl (Nat.le_of_ble_eq_true rfl) (by decide) (fun H locs hG hS => ?_)
      cases h
      exact c_xret (v := some (.int v68)) (G1 := qx24.2) rfl (c_iretW dX1_says_73 S hr hk hC0 hG hS rfl)
    have h := g_if c28_1 h
    by_cases c28_2 : x2 = 2
    · have h := g_it c28_2 h
      refine lv_tableIn (off := 46) (tgt := 74) hx hb dX1_says_28 (by rw [c28_2]; decide) (by rw [c28_2]; decide) (by rw [c28_2]; rfl) (by decide) ?_
      refine lv_aload_n hx hb dX1_says_74 rfl (lv_at hl 1 rfl) ?_
      obtain ⟨v75, e75, h⟩ := g_bd h
      refine wd_Machine_tear (rest := []) q2510 dX1_says_75 S hE hG hS hC0 hl.1 e75 rfl (Nat.le_of_ble_eq_true rfl) (by decide) (fun H locs hG hS => ?_)
      cases h
      exact c_xret (v := some (.int v75)) (G1 := qx24.2) rfl (c_iretW dX1_says_80 S hr hk hC0 hG hS rfl)
    have h := g_if c28_2 h
    by_cases c28_3 : x2 = 3
    · have h := g_it c28_3 h
      refine lv_tableIn (off := 53) (tgt := 81) hx hb dX1_says_28 (by rw [c28_3]; decide) (by rw [c28_3]; decide) (by rw [c28_3]; rfl) (by decide) ?_
      refine lv_aload_n hx hb dX1_says_81 rfl (lv_at hl 1 rfl) ?_
      obtain ⟨v82, e82, h⟩ := g_bd h
      refine wd_Machine_isCalm (rest := []) q2064 dX1_says_82 S hE hG hS hC0 hl.1 e82 rfl (Nat.le_of_ble_eq_true rfl) (by decide) (fun H locs hG hS => ?_)
      refine lv_if_eq (tgt := 94) hx hb dX1_says_87 (by decide) (fun c87 => ?_) (fun c87 => ?_)
      · have h := g_it c87 h
        refine lv_iconst (v := 0) hx hb dX1_says_94 (by decide) ?_
        cases h
        exact c_xret (v := some (.int 0)) (G1 := qx24.2) rfl (c_iretW dX1_says_95 S hr hk hC0 hG hS rfl)
      · have h := g_if c87 h
        refine lv_iconst (v := 1) hx hb dX1_says_90 (by decide) ?_
        refine lv_goto (tgt := 95) hx hb dX1_says_91 (by decide) ?_
        cases h
        exact c_xret (v := some (.int 1)) (G1 := qx24.2) rfl (c_iretW dX1_says_95 S hr hk hC0 hG hS rfl)
    have h := g_if c28_3 h
    refine lv_tableOut (tgt := 96) hx hb dX1_says_28 (g_swOut 0 3 (by intro k hk; match k, hk with | 0, _ => exact c28_0 | 1, _ => exact c28_1 | 2, _ => exact c28_2 | 3, _ => exact c28_3 | k + 4, hk => exact absurd hk (by omega)) (by decide) (by decide)) (by decide) ?_
    refine lv_aload_n hx hb dX1_says_96 rfl (lv_at hl 1 rfl) ?_
    obtain ⟨v97, e97, h⟩ := g_bd h
    refine wd_Machine_limit (rest := []) q2478 dX1_says_97 S hE hG hS hC0 hl.1 e97 rfl (Nat.le_of_ble_eq_true rfl) (by decide) (fun H locs hG hS => ?_)
    cases h
    exact c_xret (v := some (.int v97)) (G1 := qx24.2) rfl (c_iretW dX1_says_102 S hr hk hC0 hG hS rfl)
  have J23 : ∀ (x2 : Int32) (x3 : Nat) (G : GH) (H : Heap) (locs : List Loc) (ls : Array Slot), cm_X1_says_J23 x2 x3 G = some r → gC E G H → va_S (gx_C E) s.heap H locs → lv_has ls 4 [(2, .int x2), (3, .ref x3)] → WC E p l e (gRm 9 (cBx Gz) (cBs Gz)) s m args below meth c H locs (gXMQ E below (gRs (fun r => some (.int r)) r) args s Gz) (F0 m 23 ls []) := by
    intro x2 x3 G H locs ls h hG hS hl
    unfold cm_X1_says_J23 at h
    refine lv_iconst (v := 0) hx hb dX1_says_23 (by decide) ?_
    exact J24 x2 x3 0 G _ _ _ h hG hS (lv_sub hl [0, 1] rfl)
  unfold cm_X1_says at h
  refine lv_aload_n hx hb dX1_says_0 rfl (lv_at hl 0 rfl) ?_
  obtain ⟨u1, t1, h⟩ := g_bd h
  rcases gXb_e h with ⟨qx1, e1, h⟩ | ⟨xx1, e1, rfl⟩
  rotate_left
  · exact c_xV (r := .inr xx1) (y := yX1_isFair) (rest := []) dX1_says_1 q1929 q1931 qs39 q119 q1932 hc_X1_isFair rfl S hE hG hS hC0 hl.1 rfl (c_recv hE hG (ci := 8) rfl (by decide) (c_castM t1)) (wm_X1_isFair E l hl9 x0 Gz _ e1) rfl (Nat.le_of_ble_eq_true rfl) ⟨Nat.le_of_ble_eq_true rfl, Nat.le_of_ble_eq_true rfl⟩ (fun hr9 => c_xthrew hC0 hr9 hS (fun H locs ce hG hS h1 h2 h3 => c_xout rfl hx9 hk hC0 hG hS h1 h2 h3))
  refine c_xV (r := .inl (none, qx1.2)) (y := yX1_isFair) (rest := []) dX1_says_1 q1929 q1931 qs39 q119 q1932 hc_X1_isFair rfl S hE hG hS hC0 hl.1 rfl (c_recv hE hG (ci := 8) rfl (by decide) (c_castM t1)) (wm_X1_isFair E l hl9 x0 Gz _ e1) rfl (Nat.le_of_ble_eq_true rfl) ⟨Nat.le_of_ble_eq_true rfl, Nat.le_of_ble_eq_true rfl⟩ (fun hr9 => c_xback hC0 hr9 hS (fun H locs hG hS => ?_))
  refine lv_aload_n hx hb dX1_says_4 rfl (lv_at hl 0 rfl) ?_
  refine lv_iload_n hx hb dX1_says_5 rfl (lv_at hl 1 rfl) ?_
  obtain ⟨u6, t6, h⟩ := g_bd h
  rcases gXb_e h with ⟨qx6, e6, h⟩ | ⟨xx6, e6, rfl⟩
  rotate_left
  · exact c_xV (r := .inr xx6) (y := yX1_rideAt) (rest := []) dX1_says_6 q1955 q1957 qs40 q119 q1958 hc_X1_rideAt rfl S hE hG hS hC0 hl.1 rfl (c_recv hE hG (ci := 8) rfl (by decide) (c_castM t6)) (wm_X1_rideAt E l hl9 x0 x1 qx1.2 _ e6) rfl (Nat.le_of_ble_eq_true rfl) ⟨Nat.le_of_ble_eq_true rfl, Nat.le_of_ble_eq_true rfl⟩ (fun hr9 => c_xthrew hC0 hr9 hS (fun H locs ce hG hS h1 h2 h3 => c_xout rfl hx9 hk hC0 hG hS h1 h2 h3))
  refine c_xV (r := .inl (some (.ref qx6.1), qx6.2)) (y := yX1_rideAt) (rest := []) dX1_says_6 q1955 q1957 qs40 q119 q1958 hc_X1_rideAt rfl S hE hG hS hC0 hl.1 rfl (c_recv hE hG (ci := 8) rfl (by decide) (c_castM t6)) (wm_X1_rideAt E l hl9 x0 x1 qx1.2 _ e6) rfl (Nat.le_of_ble_eq_true rfl) ⟨Nat.le_of_ble_eq_true rfl, Nat.le_of_ble_eq_true rfl⟩ (fun hr9 => c_xback hC0 hr9 hS (fun H locs hG hS => ?_))
  refine lv_astore_n (lv' := [(3, .ref qx6.1), (0, .ref x0), (1, .int x1), (2, .int x2)]) hx hb dX1_says_9 rfl hl (by decide) rfl (fun ls hl => ?_)
  refine lv_iload_n hx hb dX1_says_10 rfl (lv_at hl 3 rfl) ?_
  refine lv_if_lt (tgt := 23) hx hb dX1_says_11 (by decide) (fun c11 => ?_) (fun c11 => ?_)
  · have h := g_it c11 h
    exact J23 x2 qx6.1 qx6.2 _ _ _ h hG hS (lv_sub hl [3, 0] rfl)
  · have h := g_if c11 h
    refine lv_iload_n hx hb dX1_says_14 rfl (lv_at hl 3 rfl) ?_
    refine lv_iconst (v := 4) hx hb dX1_says_15 (by decide) ?_
    refine lv_icmp_gt (tgt := 23) hx hb dX1_says_16 (by decide) (fun c16 => ?_) (fun c16 => ?_)
    · have h := g_it c16 h
      exact J23 x2 qx6.1 qx6.2 _ _ _ h hG hS (lv_sub hl [3, 0] rfl)
    · have h := g_if c16 h
      refine lv_iconst (v := 1) hx hb dX1_says_19 (by decide) ?_
      refine lv_goto (tgt := 24) hx hb dX1_says_20 (by decide) ?_
      exact J24 x2 qx6.1 1 qx6.2 _ _ _ h hG hS (lv_sub hl [3, 0] rfl)
