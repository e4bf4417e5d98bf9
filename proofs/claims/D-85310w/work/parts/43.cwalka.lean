/-! walks of the component's methods: printed by cgen.py -/
set_option maxRecDepth 100000
theorem hc_X1_init : cHd yX1_init 0 := by decide +kernel
set_option maxHeartbeats 4000000 in
set_option maxRecDepth 100000 in
theorem wm_X1_init (E : gX) (l : Launch) (x0 : Nat) (Gz G' : GH) (h : cm_X1_init x0 Gz = some G') : gMetC E l yX1_init cX1_init 1 none 2 [.ref x0] Gz G' none := by
  refine gMetC.of (own := RX1) (by decide +kernel) (Nat.le_of_ble_eq_true rfl) rfl ?_
  intro p e s m args below meth c S hr hk hnm hE hC0 hG hS ls hl
  have hl : lv_has ls 1 [(0, .ref x0)] := hl
  have hx := S.1
  have hb := S.2.1
  unfold cm_X1_init at h
  refine lv_aload_n hx hb dX1_init_0 rfl (lv_at hl 0 rfl) ?_
  refine W.objInit hx hb S.2.2.2.1 (S.2.2.2.2 _ q184) (S.2.2.2.2 _ q185) (S.2.2.2.2 _ q186) rfl (hl.1.trans S.2.2.1.symm) rfl dX1_init_1 (Nat.le_of_ble_eq_true rfl) (Nat.le_of_ble_eq_true rfl) ?_
  refine W.eq (g2 := F0 m 4 ls []) rfl ?_
  refine lv_aload_n hx hb dX1_init_4 rfl (lv_at hl 0 rfl) ?_
  refine lv_sipush (v := 4000) hx hb dX1_init_5 (by decide) ?_
  obtain ⟨qx8, e8, h⟩ := g_bd h
  refine c_newB q245 dX1_init_8 S hE hG hS hC0 e8 (fun H locs hG hS => ?_)
  obtain ⟨G10, e10, h⟩ := g_bd h
  refine cp_X1_37i dX1_init_10 S hE hG hS hC0 hnm e10 (fun H locs hG hS => ?_)
  refine lv_aload_n hx hb dX1_init_13 rfl (lv_at hl 0 rfl) ?_
  refine lv_iconst (v := (-1)) hx hb dX1_init_14 (by decide) ?_
  obtain ⟨G15, e15, h⟩ := g_bd h
  refine cp_X1_41i dX1_init_15 S hE hG hS hC0 hnm e15 (fun H locs hG hS => ?_)
  refine lv_aload_n hx hb dX1_init_18 rfl (lv_at hl 0 rfl) ?_
  refine lv_bipush (v := 6) hx hb dX1_init_19 (by decide) ?_
  obtain ⟨qx21, e21, h⟩ := g_bd h
  refine c_newI q246 dX1_init_21 S hE hG hS hC0 e21 (fun H locs hG hS => ?_)
  obtain ⟨G23, e23, h⟩ := g_bd h
  refine cp_X1_45i dX1_init_23 S hE hG hS hC0 hnm e23 (fun H locs hG hS => ?_)
  refine lv_aload_n hx hb dX1_init_26 rfl (lv_at hl 0 rfl) ?_
  refine lv_bipush (v := 8) hx hb dX1_init_27 (by decide) ?_
  obtain ⟨qx29, e29, h⟩ := g_bd h
  refine c_newZ q247 dX1_init_29 S hE hG hS hC0 e29 (fun H locs hG hS => ?_)
  obtain ⟨G31, e31, h⟩ := g_bd h
  refine cp_X1_49i dX1_init_31 S hE hG hS hC0 hnm e31 (fun H locs hG hS => ?_)
  refine lv_aload_n hx hb dX1_init_34 rfl (lv_at hl 0 rfl) ?_
  refine lv_sipush (v := 400) hx hb dX1_init_35 (by decide) ?_
  obtain ⟨qx38, e38, h⟩ := g_bd h
  refine c_newI q246 dX1_init_38 S hE hG hS hC0 e38 (fun H locs hG hS => ?_)
  obtain ⟨G40, e40, h⟩ := g_bd h
  refine cp_X1_53i dX1_init_40 S hE hG hS hC0 hnm e40 (fun H locs hG hS => ?_)
  refine lv_aload_n hx hb dX1_init_43 rfl (lv_at hl 0 rfl) ?_
  refine lv_sipush (v := 400) hx hb dX1_init_44 (by decide) ?_
  obtain ⟨qx47, e47, h⟩ := g_bd h
  refine c_newI q246 dX1_init_47 S hE hG hS hC0 e47 (fun H locs hG hS => ?_)
  obtain ⟨G49, e49, h⟩ := g_bd h
  refine cp_X1_56i dX1_init_49 S hE hG hS hC0 hnm e49 (fun H locs hG hS => ?_)
  refine lv_aload_n hx hb dX1_init_52 rfl (lv_at hl 0 rfl) ?_
  refine lv_sipush (v := 400) hx hb dX1_init_53 (by decide) ?_
  obtain ⟨qx56, e56, h⟩ := g_bd h
  refine c_newI q246 dX1_init_56 S hE hG hS hC0 e56 (fun H locs hG hS => ?_)
  obtain ⟨G58, e58, h⟩ := g_bd h
  refine cp_X1_59i dX1_init_58 S hE hG hS hC0 hnm e58 (fun H locs hG hS => ?_)
  refine lv_aload_n hx hb dX1_init_61 rfl (lv_at hl 0 rfl) ?_
  refine lv_sipush (v := 400) hx hb dX1_init_62 (by decide) ?_
  obtain ⟨qx65, e65, h⟩ := g_bd h
  refine c_newI q246 dX1_init_65 S hE hG hS hC0 e65 (fun H locs hG hS => ?_)
  obtain ⟨G67, e67, h⟩ := g_bd h
  refine cp_X1_62i dX1_init_67 S hE hG hS hC0 hnm e67 (fun H locs hG hS => ?_)
  exact c_vretW dX1_init_70 S hr hk hC0 hG hS h
theorem hc_X7_spin : cHd yX7_spin 0 := by decide +kernel
set_option maxHeartbeats 4000000 in
set_option maxRecDepth 100000 in
theorem wm_X7_spin (E : gX) (l : Launch) (x0 : Nat) (Gz : GH) (r : Nat) (h : cm_X7_spin x0 Gz = some r) : gMetC E l yX7_spin cX7_spin 1 (some (Jvm.ClassFile.FieldType.object "FairHouse$Spin")) 2 [.ref x0] Gz Gz (some (.ref r)) := by
  refine gMetC.of (own := RX7) (by decide +kernel) (Nat.le_of_ble_eq_true rfl) rfl ?_
  intro p e s m args below meth c S hr hk hnm hE hC0 hG hS ls hl
  have hl : lv_has ls 1 [(0, .ref x0)] := hl
  have hx := S.1
  have hb := S.2.1
  unfold cm_X7_spin at h
  refine lv_aload_n hx hb dX7_spin_0 rfl (lv_at hl 0 rfl) ?_
  obtain ⟨v1, e1, h⟩ := g_bd h
  refine cg_X7_12 dX7_spin_1 S hE hG e1 ?_
  exact c_aretR dX7_spin_4 (Or.inl ⟨_, rfl⟩) S hr hk hC0 hG hS h
theorem hc_X13_spin : cHd yX13_spin 0 := by decide +kernel
set_option maxHeartbeats 4000000 in
set_option maxRecDepth 100000 in
theorem wm_X13_spin (E : gX) (l : Launch) (x0 : Nat) (Gz : GH) (r : Nat) (h : cm_X13_spin x0 Gz = some r) : gMetC E l yX13_spin cX13_spin 1 (some (Jvm.ClassFile.FieldType.object "FairHouse$Spin")) 2 [.ref x0] Gz Gz (some (.ref r)) := by
  refine gMetC.of (own := RX13) (by decide +kernel) (Nat.le_of_ble_eq_true rfl) rfl ?_
  intro p e s m args below meth c S hr hk hnm hE hC0 hG hS ls hl
  have hl : lv_has ls 1 [(0, .ref x0)] := hl
  have hx := S.1
  have hb := S.2.1
  unfold cm_X13_spin at h
  refine lv_aload_n hx hb dX13_spin_0 rfl (lv_at hl 0 rfl) ?_
  obtain ⟨v1, e1, h⟩ := g_bd h
  refine cg_X13_12 dX13_spin_1 S hE hG e1 ?_
  exact c_aretR dX13_spin_4 (Or.inl ⟨_, rfl⟩) S hr hk hC0 hG hS h
theorem hc_X14_spin : cHd yX14_spin 0 := by decide +kernel
set_option maxHeartbeats 4000000 in
set_option maxRecDepth 100000 in
theorem wm_X14_spin (E : gX) (l : Launch) (x0 : Nat) (Gz : GH) (r : Nat) (h : cm_X14_spin x0 Gz = some r) : gMetC E l yX14_spin cX14_spin 1 (some (Jvm.ClassFile.FieldType.object "FairHouse$Spin")) 2 [.ref x0] Gz Gz (some (.ref r)) := by
  refine gMetC.of (own := RX14) (by decide +kernel) (Nat.le_of_ble_eq_true rfl) rfl ?_
  intro p e s m args below meth c S hr hk hnm hE hC0 hG hS ls hl
  have hl : lv_has ls 1 [(0, .ref x0)] := hl
  have hx := S.1
  have hb := S.2.1
  unfold cm_X14_spin at h
  refine lv_aload_n hx hb dX14_spin_0 rfl (lv_at hl 0 rfl) ?_
  obtain ⟨v1, e1, h⟩ := g_bd h
  refine cg_X14_23 dX14_spin_1 S hE hG e1 ?_
  exact c_aretR dX14_spin_4 (Or.inl ⟨_, rfl⟩) S hr hk hC0 hG hS h
theorem hc_X20_spin : cHd yX20_spin 0 := by decide +kernel
set_option maxHeartbeats 4000000 in
set_option maxRecDepth 100000 in
theorem wm_X20_spin (E : gX) (l : Launch) (x0 : Nat) (Gz : GH) (r : Nat) (h : cm_X20_spin x0 Gz = some r) : gMetC E l yX20_spin cX20_spin 1 (some (Jvm.ClassFile.FieldType.object "FairHouse$Spin")) 2 [.ref x0] Gz Gz (some (.ref r)) := by
  refine gMetC.of (own := RX20) (by decide +kernel) (Nat.le_of_ble_eq_true rfl) rfl ?_
  intro p e s m args below meth c S hr hk hnm hE hC0 hG hS ls hl
  have hl : lv_has ls 1 [(0, .ref x0)] := hl
  have hx := S.1
  have hb := S.2.1
  unfold cm_X20_spin at h
  refine lv_aload_n hx hb dX20_spin_0 rfl (lv_at hl 0 rfl) ?_
  obtain ⟨v1, e1, h⟩ := g_bd h
  refine cg_X20_23 dX20_spin_1 S hE hG e1 ?_
  exact c_aretR dX20_spin_4 (Or.inl ⟨_, rfl⟩) S hr hk hC0 hG hS h
theorem hc_X21_spin : cHd yX21_spin 0 := by decide +kernel
set_option maxHeartbeats 4000000 in
set_option maxRecDepth 100000 in
theorem wm_X21_spin (E : gX) (l : Launch) (x0 : Nat) (Gz : GH) (r : Nat) (h : cm_X21_spin x0 Gz = some r) : gMetC E l yX21_spin cX21_spin 1 (some (Jvm.ClassFile.FieldType.object "FairHouse$Spin")) 2 [.ref x0] Gz Gz (some (.ref r)) := by
  refine gMetC.of (own := RX21) (by decide +kernel) (Nat.le_of_ble_eq_true rfl) rfl ?_
  intro p e s m args below meth c S hr hk hnm hE hC0 hG hS ls hl
  have hl : lv_has ls 1 [(0, .ref x0)] := hl
  have hx := S.1
  have hb := S.2.1
  unfold cm_X21_spin at h
  refine lv_aload_n hx hb dX21_spin_0 rfl (lv_at hl 0 rfl) ?_
  obtain ⟨v1, e1, h⟩ := g_bd h
  refine cg_X21_12 dX21_spin_1 S hE hG e1 ?_
  exact c_aretR dX21_spin_4 (Or.inl ⟨_, rfl⟩) S hr hk hC0 hG hS h
section DSP
variable {p : Program} {l : Launch} {e : Env} {R : Room} {s : State} {m : MethodId} {args : Array Value} {below : List Frame} {meth : Method} {c : Code} {H : Heap} {locs : List Loc} {cells slots : Nat} {Q : State → Prop}
variable {cc : ByteArray} {pc nL lev0 : Nat} {ls : Array Slot} {rest st : List Value} {E : gX} {G Gz G1 : GH}
theorem hx_Turns_spin : cHd ⟨"FairHouse$Turns", "spin", "()LFairHouse$Spin;"⟩ 0 := by decide +kernel
set_option maxHeartbeats 4000000 in
set_option maxRecDepth 100000 in
theorem wd_Turns_spin {own : String} {a idx count : Nat} {r : Nat} (w1 : Cond.methodLink own idx ⟨"FairHouse$Turns", "spin", "()LFairHouse$Spin;"⟩ ∈ lw_all) (hdg : decode cc pc = .ok (.invokeinterface idx count, 5)) (S : CallFix p m c cc nL s args lw_all own) (hE : gEnv E s) (hG : gC E G H) (hS : va_S (gx_C E) s.heap H locs) (hC0 : gC E Gz s.heap) (hls : ls.size = nL) (h : cd_Turns_spin a G = some r) (hst : st = [] ++ .ref a :: rest) (hW : (rest.map fun v => v.category).sum ≤ 8) (hroom : 2 + 1 ≤ lev0)
    (kk : ∀ (H1 : Heap) (locs1 : List Loc), gC E G H1 → va_S (gx_C E) s.heap H1 locs1 → WC E p l e (gRm lev0 (cBx Gz) (cBs Gz)) s m args below meth c H1 locs1 Q (F0 m (pc + 5) ls (.ref r :: rest))) : WC E p l e (gRm lev0 (cBx Gz) (cBs Gz)) s m args below meth c H locs Q (F0 m pc ls st) := by
  unfold cd_Turns_spin at h
  by_cases c14 : cT G a = 14
  · have h := g_it c14 h
    exact c_cF (y := yX7_spin) (As := []) 43 rfl hdg w1 q1424 q1422 q149 q1426 hx_Turns_spin S hE hG hS hC0 hls rfl (hE.K.1 13 _ rfl).2 (c_recv hE hG (ci := 13) rfl (by decide) c14) (wm_X7_spin E l a G _ h) hst hW ⟨by omega, by omega⟩ (fun H1 locs1 h1 h2 => kk H1 locs1 h1 h2)
  have h := g_if c14 h
  by_cases c20 : cT G a = 20
  · have h := g_it c20 h
    exact c_cF (y := yX13_spin) (As := []) 44 rfl hdg w1 q1412 q1410 q155 q1414 hx_Turns_spin S hE hG hS hC0 hls rfl (hE.K.1 19 _ rfl).2 (c_recv hE hG (ci := 19) rfl (by decide) c20) (wm_X13_spin E l a G _ h) hst hW ⟨by omega, by omega⟩ (fun H1 locs1 h1 h2 => kk H1 locs1 h1 h2)
  have h := g_if c20 h
  by_cases c21 : cT G a = 21
  · have h := g_it c21 h
    exact c_cF (y := yX14_spin) (As := []) 45 rfl hdg w1 q1400 q1398 q156 q1402 hx_Turns_spin S hE hG hS hC0 hls rfl (hE.K.1 20 _ rfl).2 (c_recv hE hG (ci := 20) rfl (by decide) c21) (wm_X14_spin E l a G _ h) hst hW ⟨by omega, by omega⟩ (fun H1 locs1 h1 h2 => kk H1 locs1 h1 h2)
  have h := g_if c21 h
  by_cases c27 : cT G a = 27
  · have h := g_it c27 h
    exact c_cF (y := yX20_spin) (As := []) 46 rfl hdg w1 q1406 q1404 q162 q1408 hx_Turns_spin S hE hG hS hC0 hls rfl (hE.K.1 26 _ rfl).2 (c_recv hE hG (ci := 26) rfl (by decide) c27) (wm_X20_spin E l a G _ h) hst hW ⟨by omega, by omega⟩ (fun H1 locs1 h1 h2 => kk H1 locs1 h1 h2)
  have h := g_if c27 h
  by_cases c28 : cT G a = 28
  · have h := g_it c28 h
    exact c_cF (y := yX21_spin) (As := []) 47 rfl hdg w1 q1418 q1416 q163 q1420 hx_Turns_spin S hE hG hS hC0 hls rfl (hE.K.1 27 _ rfl).2 (c_recv hE hG (ci := 27) rfl (by decide) c28) (wm_X21_spin E l a G _ h) hst hW ⟨by omega, by omega⟩ (fun H1 locs1 h1 h2 => kk H1 locs1 h1 h2)
  have h := g_if c28 h
  cases h
end DSP
theorem hc_X11_hoist : cHd yX11_hoist 0 := by decide +kernel
set_option maxHeartbeats 4000000 in
set_option maxRecDepth 100000 in
theorem wm_X11_hoist (E : gX) (l : Launch) (x0 : Nat) (Gz : GH) (r : Nat) (h : cm_X11_hoist x0 Gz = some r) : gMetC E l yX11_hoist cX11_hoist 1 (some (Jvm.ClassFile.FieldType.object "FairHouse$Hoist")) 2 [.ref x0] Gz Gz (some (.ref r)) := by
  refine gMetC.of (own := RX11) (by decide +kernel) (Nat.le_of_ble_eq_true rfl) rfl ?_
  intro p e s m args below meth c S hr hk hnm hE hC0 hG hS ls hl
  have hl : lv_has ls 1 [(0, .ref x0)] := hl
  have hx := S.1
  have hb := S.2.1
  unfold cm_X11_hoist at h
  refine lv_aload_n hx hb dX11_hoist_0 rfl (lv_at hl 0 rfl) ?_
  obtain ⟨v1, e1, h⟩ := g_bd h
  refine cg_X11_12 dX11_hoist_1 S hE hG e1 ?_
  exact c_aretR dX11_hoist_4 (Or.inl ⟨_, rfl⟩) S hr hk hC0 hG hS h
theorem hc_X13_hoist : cHd yX13_hoist 0 := by decide +kernel
set_option maxHeartbeats 4000000 in
set_option maxRecDepth 100000 in
theorem wm_X13_hoist (E : gX) (l : Launch) (x0 : Nat) (Gz : GH) (r : Nat) (h : cm_X13_hoist x0 Gz = some r) : gMetC E l yX13_hoist cX13_hoist 1 (some (Jvm.ClassFile.FieldType.object "FairHouse$Hoist")) 2 [.ref x0] Gz Gz (some (.ref r)) := by
  refine gMetC.of (own := RX13) (by decide +kernel) (Nat.le_of_ble_eq_true rfl) rfl ?_
  intro p e s m args below meth c S hr hk hnm hE hC0 hG hS ls hl
  have hl : lv_has ls 1 [(0, .ref x0)] := hl
  have hx := S.1
  have hb := S.2.1
  unfold cm_X13_hoist at h
  refine lv_aload_n hx hb dX13_hoist_0 rfl (lv_at hl 0 rfl) ?_
  obtain ⟨v1, e1, h⟩ := g_bd h
  refine cg_X13_21 dX13_hoist_1 S hE hG e1 ?_
  exact c_aretR dX13_hoist_4 (Or.inl ⟨_, rfl⟩) S hr hk hC0 hG hS h
theorem hc_X18_hoist : cHd yX18_hoist 0 := by decide +kernel
set_option maxHeartbeats 4000000 in
set_option maxRecDepth 100000 in
theorem wm_X18_hoist (E : gX) (l : Launch) (x0 : Nat) (Gz : GH) (r : Nat) (h : cm_X18_hoist x0 Gz = some r) : gMetC E l yX18_hoist cX18_hoist 1 (some (Jvm.ClassFile.FieldType.object "FairHouse$Hoist")) 2 [.ref x0] Gz Gz (some (.ref r)) := by
  refine gMetC.of (own := RX18) (by decide +kernel) (Nat.le_of_ble_eq_true rfl) rfl ?_
  intro p e s m args below meth c S hr hk hnm hE hC0 hG hS ls hl
  have hl : lv_has ls 1 [(0, .ref x0)] := hl
  have hx := S.1
  have hb := S.2.1
  unfold cm_X18_hoist at h
  refine lv_aload_n hx hb dX18_hoist_0 rfl (lv_at hl 0 rfl) ?_
  obtain ⟨v1, e1, h⟩ := g_bd h
  refine cg_X18_23 dX18_hoist_1 S hE hG e1 ?_
  exact c_aretR dX18_hoist_4 (Or.inl ⟨_, rfl⟩) S hr hk hC0 hG hS h
theorem hc_X20_hoist : cHd yX20_hoist 0 := by decide +kernel
set_option maxHeartbeats 4000000 in
set_option maxRecDepth 100000 in
theorem wm_X20_hoist (E : gX) (l : Launch) (x0 : Nat) (Gz : GH) (r : Nat) (h : cm_X20_hoist x0 Gz = some r) : gMetC E l yX20_hoist cX20_hoist 1 (some (Jvm.ClassFile.FieldType.object "FairHouse$Hoist")) 2 [.ref x0] Gz Gz (some (.ref r)) := by
  refine gMetC.of (own := RX20) (by decide +kernel) (Nat.le_of_ble_eq_true rfl) rfl ?_
  intro p e s m args below meth c S hr hk hnm hE hC0 hG hS ls hl
  have hl : lv_has ls 1 [(0, .ref x0)] := hl
  have hx := S.1
  have hb := S.2.1
  unfold cm_X20_hoist at h
  refine lv_aload_n hx hb dX20_hoist_0 rfl (lv_at hl 0 rfl) ?_
  obtain ⟨v1, e1, h⟩ := g_bd h
  refine cg_X20_30 dX20_hoist_1 S hE hG e1 ?_
  exact c_aretR dX20_hoist_4 (Or.inl ⟨_, rfl⟩) S hr hk hC0 hG hS h
section DSP
variable {p : Program} {l : Launch} {e : Env} {R : Room} {s : State} {m : MethodId} {args : Array Value} {below : List Frame} {meth : Method} {c : Code} {H : Heap} {locs : List Loc} {cells slots : Nat} {Q : State → Prop}
variable {cc : ByteArray} {pc nL lev0 : Nat} {ls : Array Slot} {rest st : List Value} {E : gX} {G Gz G1 : GH}
theorem hx_Lifts_hoist : cHd ⟨"FairHouse$Lifts", "hoist", "()LFairHouse$Hoist;"⟩ 0 := by decide +kernel
set_option maxHeartbeats 4000000 in
set_option maxRecDepth 100000 in
theorem wd_Lifts_hoist {own : String} {a idx count : Nat} {r : Nat} (w1 : Cond.methodLink own idx ⟨"FairHouse$Lifts", "hoist", "()LFairHouse$Hoist;"⟩ ∈ lw_all) (hdg : decode cc pc = .ok (.invokeinterface idx count, 5)) (S : CallFix p m c cc nL s args lw_all own) (hE : gEnv E s) (hG : gC E G H) (hS : va_S (gx_C E) s.heap H locs) (hC0 : gC E Gz s.heap) (hls : ls.size = nL) (h : cd_Lifts_hoist a G = some r) (hst : st = [] ++ .ref a :: rest) (hW : (rest.map fun v => v.category).sum ≤ 8) (hroom : 2 + 1 ≤ lev0)
    (kk : ∀ (H1 : Heap) (locs1 : List Loc), gC E G H1 → va_S (gx_C E) s.heap H1 locs1 → WC E p l e (gRm lev0 (cBx Gz) (cBs Gz)) s m args below meth c H1 locs1 Q (F0 m (pc + 5) ls (.ref r :: rest))) : WC E p l e (gRm lev0 (cBx Gz) (cBs Gz)) s m args below meth c H locs Q (F0 m pc ls st) := by
  unfold cd_Lifts_hoist at h
  by_cases c18 : cT G a = 18
  · have h := g_it c18 h
    exact c_cF (y := yX11_hoist) (As := []) 5 rfl hdg w1 q1761 q1759 q153 q1763 hx_Lifts_hoist S hE hG hS hC0 hls rfl (hE.K.1 17 _ rfl).2 (c_recv hE hG (ci := 17) rfl (by decide) c18) (wm_X11_hoist E l a G _ h) hst hW ⟨by omega, by omega⟩ (fun H1 locs1 h1 h2 => kk H1 locs1 h1 h2)
  have h := g_if c18 h
  by_cases c20 : cT G a = 20
  · have h := g_it c20 h
    exact c_cF (y := yX13_hoist) (As := []) 6 rfl hdg w1 q1755 q1753 q155 q1757 hx_Lifts_hoist S hE hG hS hC0 hls rfl (hE.K.1 19 _ rfl).2 (c_recv hE hG (ci := 19) rfl (by decide) c20) (wm_X13_hoist E l a G _ h) hst hW ⟨by omega, by omega⟩ (fun H1 locs1 h1 h2 => kk H1 locs1 h1 h2)
  have h := g_if c20 h
  by_cases c25 : cT G a = 25
  · have h := g_it c25 h
    exact c_cF (y := yX18_hoist) (As := []) 7 rfl hdg w1 q1743 q1741 q160 q1745 hx_Lifts_hoist S hE hG hS hC0 hls rfl (hE.K.1 24 _ rfl).2 (c_recv hE hG (ci := 24) rfl (by decide) c25) (wm_X18_hoist E l a G _ h) hst hW ⟨by omega, by omega⟩ (fun H1 locs1 h1 h2 => kk H1 locs1 h1 h2)
  have h := g_if c25 h
  by_cases c27 : cT G a = 27
  · have h := g_it c27 h
    exact c_cF (y := yX20_hoist) (As := []) 8 rfl hdg w1 q1749 q1747 q162 q1751 hx_Lifts_hoist S hE hG hS hC0 hls rfl (hE.K.1 26 _ rfl).2 (c_recv hE hG (ci := 26) rfl (by decide) c27) (wm_X20_hoist E l a G _ h) hst hW ⟨by omega, by omega⟩ (fun H1 locs1 h1 h2 => kk H1 locs1 h1 h2)
  have h := g_if c27 h
  cases h
end DSP
theorem hc_J14_checkIndex : cHd yJ14_checkIndex 3 := by decide +kernel
set_option maxHeartbeats 4000000 in
set_option maxRecDepth 100000 in
theorem wm_J14_checkIndex (E : gX) (l : Launch) (x0 : Int32) (x1 : Int32) (x2 : Option Nat) (Gz : GH) (r : Int32) (h : cm_J14_checkIndex x0 x1 Gz = some r) : gMetC E l yJ14_checkIndex cJ14_checkIndex 3 (some Jvm.ClassFile.FieldType.int) 2 [.int x0, .int x1, va_rf x2] Gz Gz (some (.int r)) := by
  refine gMetC.of (own := RJ14) (by decide +kernel) (by cases x2 <;> exact Nat.le_of_ble_eq_true rfl) rfl ?_
  intro p e s m args below meth c S hr hk hnm hE hC0 hG hS ls hl
  have hl : lv_has ls 3 [(0, .int x0), (1, .int x1), (2, va_rf x2)] := hl
  have hx := S.1
  have hb := S.2.1
  have J9 : ∀ (x0 : Int32) (x1 : Int32) (H : Heap) (locs : List Loc) (ls : Array Slot), cm_J14_checkIndex_J9 x0 x1 Gz = some r → gC E Gz H → va_S (gx_C E) s.heap H locs → lv_has ls 3 [(0, .int x0), (1, .int x1)] → WC E p l e (gRm 2 (cBx Gz) (cBs Gz)) s m args below meth c H locs (MQ below (gQ (some (.int r)) (gC E Gz) (gx_C E)) args s (cBx Gz) (cBs Gz) (gx_C E)) (F0 m 9 ls []) := by
    intro x0 x1 H locs ls h hG hS hl
    unfold cm_J14_checkIndex_J9 at h
    cases h
  unfold cm_J14_checkIndex at h
  refine lv_iload_n hx hb dJ14_checkIndex_0 rfl (lv_at hl 0 rfl) ?_
  refine lv_if_lt (tgt := 9) hx hb dJ14_checkIndex_1 (by decide) (fun c1 => ?_) (fun c1 => ?_)
  · have h := g_it c1 h
    exact J9 x0 x1 _ _ _ h hG hS (lv_sub hl [0, 1] rfl)
  · have h := g_if c1 h
    refine lv_iload_n hx hb dJ14_checkIndex_4 rfl (lv_at hl 0 rfl) ?_
    refine lv_iload_n hx hb dJ14_checkIndex_5 rfl (lv_at hl 1 rfl) ?_
    refine lv_icmp_lt (tgt := 16) hx hb dJ14_checkIndex_6 (by decide) (fun c6 => ?_) (fun c6 => ?_)
    · have h := g_it c6 h
      refine lv_iload_n hx hb dJ14_checkIndex_16 rfl (lv_at hl 0 rfl) ?_
      exact c_iretR dJ14_checkIndex_17 S hr hk hC0 hG hS h
    · have h := g_if c6 h
      exact J9 x0 x1 _ _ _ h hG hS (lv_sub hl [0, 1] rfl)
theorem hc_J18_checkIndex : cHd yJ18_checkIndex 2 := by decide +kernel
set_option maxHeartbeats 4000000 in
set_option maxRecDepth 100000 in
theorem wm_J18_checkIndex (E : gX) (l : Launch) (x0 : Int32) (x1 : Int32) (Gz : GH) (r : Int32) (h : cm_J18_checkIndex x0 x1 Gz = some r) : gMetC E l yJ18_checkIndex cJ18_checkIndex 2 (some Jvm.ClassFile.FieldType.int) 3 [.int x0, .int x1] Gz Gz (some (.int r)) := by
  refine gMetC.of (own := RJ18) (by decide +kernel) (Nat.le_of_ble_eq_true rfl) rfl ?_
  intro p e s m args below meth c S hr hk hnm hE hC0 hG hS ls hl
  have hl : lv_has ls 2 [(0, .int x0), (1, .int x1)] := hl
  have hx := S.1
  have hb := S.2.1
  unfold cm_J18_checkIndex at h
  refine lv_iload_n hx hb dJ18_checkIndex_0 rfl (lv_at hl 0 rfl) ?_
  refine lv_iload_n hx hb dJ18_checkIndex_1 rfl (lv_at hl 1 rfl) ?_
  refine lv_null hx hb dJ18_checkIndex_2 ?_
  obtain ⟨v3, e3, h⟩ := g_bd h
  refine c_cS (y := yJ14_checkIndex) (rest := []) dJ18_checkIndex_3 q892 q808 q137 q809 hc_J14_checkIndex S hE hG hS hC0 hl.1 rfl (wm_J14_checkIndex E l x0 x1 none Gz _ e3) rfl (Nat.le_of_ble_eq_true rfl) ⟨Nat.le_of_ble_eq_true rfl, Nat.le_of_ble_eq_true rfl⟩ (fun H locs hG hS => ?_)
  exact c_iretR dJ18_checkIndex_6 S hr hk hC0 hG hS h
theorem hc_J6_elementData : cHd yJ6_elementData 1 := by decide +kernel
set_option maxHeartbeats 4000000 in
set_option maxRecDepth 100000 in
theorem wm_J6_elementData (E : gX) (l : Launch) (x0 : Nat) (x1 : Int32) (Gz : GH) (r : Option Nat) (h : cm_J6_elementData x0 x1 Gz = some r) : gMetC E l yJ6_elementData cJ6_elementData 2 (some (Jvm.ClassFile.FieldType.object "java/lang/Object")) 2 [.ref x0, .int x1] Gz Gz (some (va_rf r)) := by
  refine gMetC.of (own := RJ6) (by decide +kernel) (Nat.le_of_ble_eq_true rfl) rfl ?_
  intro p e s m args below meth c S hr hk hnm hE hC0 hG hS ls hl
  have hl : lv_has ls 2 [(0, .ref x0), (1, .int x1)] := hl
  have hx := S.1
  have hb := S.2.1
  unfold cm_J6_elementData at h
  refine lv_aload_n hx hb dJ6_elementData_0 rfl (lv_at hl 0 rfl) ?_
  obtain ⟨v1, e1, h⟩ := g_bd h
  refine cg_J6_9 dJ6_elementData_1 S hE hG e1 ?_
  refine lv_iload_n hx hb dJ6_elementData_4 rfl (lv_at hl 1 rfl) ?_
  obtain ⟨v5, e5, h⟩ := g_bd h
  refine c_aldR dJ6_elementData_5 S hE hG e5 ?_
  exact c_qretR dJ6_elementData_6 (Or.inl ⟨_, rfl⟩) S hr hk hC0 hG hS h
theorem hc_J6_get : cHd yJ6_get 1 := by decide +kernel
set_option maxHeartbeats 4000000 in
set_option maxRecDepth 100000 in
theorem wm_J6_get (E : gX) (l : Launch) (x0 : Nat) (x1 : Int32) (Gz : GH) (r : Option Nat) (h : cm_J6_get x0 x1 Gz = some r) : gMetC E l yJ6_get cJ6_get 2 (some (Jvm.ClassFile.FieldType.object "java/lang/Object")) 4 [.ref x0, .int x1] Gz Gz (some (va_rf r)) := by
  refine gMetC.of (own := RJ6) (by decide +kernel) (Nat.le_of_ble_eq_true rfl) rfl ?_
  intro p e s m args below meth c S hr hk hnm hE hC0 hG hS ls hl
  have hl : lv_has ls 2 [(0, .ref x0), (1, .int x1)] := hl
  have hx := S.1
  have hb := S.2.1
  unfold cm_J6_get at h
  refine lv_iload_n hx hb dJ6_get_0 rfl (lv_at hl 1 rfl) ?_
  refine lv_aload_n hx hb dJ6_get_1 rfl (lv_at hl 0 rfl) ?_
  obtain ⟨v2, e2, h⟩ := g_bd h
  refine cg_J6_48 dJ6_get_2 S hE hG e2 ?_
  obtain ⟨v5, e5, h⟩ := g_bd h
  refine c_cS (y := yJ18_checkIndex) (rest := []) dJ6_get_5 q889 q890 q145 q891 hc_J18_checkIndex S hE hG hS hC0 hl.1 rfl (wm_J18_checkIndex E l x1 v2 Gz _ e5) rfl (Nat.le_of_ble_eq_true rfl) ⟨Nat.le_of_ble_eq_true rfl, Nat.le_of_ble_eq_true rfl⟩ (fun H locs hG hS => ?_)
  refine lv_pop hx hb dJ6_get_8 rfl ?_
  refine lv_aload_n hx hb dJ6_get_9 rfl (lv_at hl 0 rfl) ?_
  refine lv_iload_n hx hb dJ6_get_10 rfl (lv_at hl 1 rfl) ?_
  obtain ⟨u11, t11, h⟩ := g_bd h
  obtain ⟨v11, e11, h⟩ := g_bd h
  refine c_cV (y := yJ6_elementData) (rest := []) dJ6_get_11 q893 q894 q895 q128 q896 hc_J6_elementData rfl S hE hG hS hC0 hl.1 rfl (c_recv hE hG (ci := 2) rfl (by decide) (c_castM t11)) (wm_J6_elementData E l x0 x1 Gz _ e11) rfl (Nat.le_of_ble_eq_true rfl) ⟨Nat.le_of_ble_eq_true rfl, Nat.le_of_ble_eq_true rfl⟩ (fun H locs hG hS => ?_)
  exact c_qretR dJ6_get_14 (Or.inl ⟨_, rfl⟩) S hr hk hC0 hG hS h
theorem hc_X8_now : cHd yX8_now 0 := by decide +kernel
set_option maxHeartbeats 4000000 in
set_option maxRecDepth 100000 in
theorem wm_X8_now (E : gX) (l : Launch) (x0 : Nat) (Gz : GH) (r : Nat) (h : cm_X8_now x0 Gz = some r) : gMetC E l yX8_now cX8_now 1 (some (Jvm.ClassFile.FieldType.object "FairHouse$Act")) 5 [.ref x0] Gz Gz (some (.ref r)) := by
  refine gMetC.of (own := RX8) (by decide +kernel) (Nat.le_of_ble_eq_true rfl) rfl ?_
  intro p e s m args below meth c S hr hk hnm hE hC0 hG hS ls hl
  have hl : lv_has ls 1 [(0, .ref x0)] := hl
  have hx := S.1
  have hb := S.2.1
  unfold cm_X8_now at h
  refine lv_aload_n hx hb dX8_now_0 rfl (lv_at hl 0 rfl) ?_
  obtain ⟨v1, e1, h⟩ := g_bd h
  refine cg_X8_12 dX8_now_1 S hE hG e1 ?_
  refine lv_aload_n hx hb dX8_now_4 rfl (lv_at hl 0 rfl) ?_
  obtain ⟨v5, e5, h⟩ := g_bd h
  refine cg_X8_43 dX8_now_5 S hE hG e5 ?_
  obtain ⟨u8, t8, h⟩ := g_bd h
  obtain ⟨v8, e8, h⟩ := g_bd h
  refine c_cV (y := yJ6_get) (rest := []) dX8_now_8 q2004 q886 q887 q128 q888 hc_J6_get rfl S hE hG hS hC0 hl.1 rfl (c_recv hE hG (ci := 2) rfl (by decide) (c_castM t8)) (wm_J6_get E l v1 v5 Gz _ e8) rfl (Nat.le_of_ble_eq_true rfl) ⟨Nat.le_of_ble_eq_true rfl, Nat.le_of_ble_eq_true rfl⟩ (fun H locs hG hS => ?_)
  obtain ⟨b11, eb11, h⟩ := g_bd h
  have rb11 : va_rf v8 = .ref b11 := by rw [eb11]; rfl
  (try rw [rb11] at hl)
  (try rw [rb11])
  obtain ⟨u11, e11, h⟩ := g_bd h
  refine ck_X8_51 dX8_now_11 S hE hG e11 ?_
  exact c_aretR dX8_now_14 (Or.inl ⟨_, rfl⟩) S hr hk hC0 hG hS h
theorem hc_X8_settles : cHd yX8_settles 0 := by decide +kernel
set_option maxHeartbeats 4000000 in
set_option maxRecDepth 100000 in
theorem wm_X8_settles (E : gX) (l : Launch) (x0 : Nat) (Gz G' : GH) (r : Int32) (h : cm_X8_settles x0 Gz = some (r, G')) : gMetC E l yX8_settles cX8_settles 2 (some Jvm.ClassFile.FieldType.boolean) 6 [.ref x0] Gz G' (some (.int r)) := by
  refine gMetC.of (own := RX8) (by decide +kernel) (Nat.le_of_ble_eq_true rfl) rfl ?_
  intro p e s m args below meth c S hr hk hnm hE hC0 hG hS ls hl
  have hl : lv_has ls 2 [(0, .ref x0)] := hl
  have hx := S.1
  have hb := S.2.1
  have L0 : ∀ (n : Nat) (x0 : Nat) (G : GH) (H : Heap) (locs : List Loc) (ls : Array Slot), cm_X8_settles_L0 n x0 G = some (r, G') → gC E G H → va_S (gx_C E) s.heap H locs → lv_has ls 2 [(0, .ref x0)] → WC E p l e (gRm 6 (cBx Gz) (cBs Gz)) s m args below meth c H locs (MQ below (gQ (some (.int r)) (gC E G') (gx_C E)) args s (cBx Gz) (cBs Gz) (gx_C E)) (F0 m 0 ls []) := by
    intro n0
    induction n0 with
    | zero =>
      intro x0 G H locs ls h
      cases h
    | succ n0 ih0 =>
      have J115 : ∀ (x0 : Nat) (G : GH) (H : Heap) (locs : List Loc) (ls : Array Slot), cm_X8_settles_J115 (cm_X8_settles_L0 n0) x0 G = some (r, G') → gC E G H → va_S (gx_C E) s.heap H locs → lv_has ls 2 [(0, .ref x0)] → WC E p l e (gRm 6 (cBx Gz) (cBs Gz)) s m args below meth c H locs (MQ below (gQ (some (.int r)) (gC E G') (gx_C E)) args s (cBx Gz) (cBs Gz) (gx_C E)) (F0 m 115 ls []) := by
        intro x0 G H locs ls h hG hS hl
        unfold cm_X8_settles_J115 at h
        refine lv_goto (tgt := 0) hx hb dX8_settles_115 (by decide) ?_
        exact ih0 x0 G _ _ _ h hG hS (lv_sub hl [0] rfl)
      intro x0 G H locs ls h hG hS hl
      have h : cm_X8_settles_B0 (cm_X8_settles_L0 n0) x0 G = some (r, G') := h
      unfold cm_X8_settles_B0 at h
      refine lv_aload_n hx hb dX8_settles_0 rfl (lv_at hl 0 rfl) ?_
      obtain ⟨u1, t1, h⟩ := g_bd h
      obtain ⟨v1, e1, h⟩ := g_bd h
      refine c_cV (y := yX8_now) (rest := []) dX8_settles_1 q2014 q2001 q2002 q150 q2003 hc_X8_now rfl S hE hG hS hC0 hl.1 rfl (c_recv hE hG (ci := 14) rfl (by decide) (c_castM t1)) (wm_X8_now E l x0 G _ e1) rfl (Nat.le_of_ble_eq_true rfl) ⟨Nat.le_of_ble_eq_true rfl, Nat.le_of_ble_eq_true rfl⟩ (fun H locs hG hS => ?_)
      refine lv_astore_n (lv' := [(1, .ref v1), (0, .ref x0)]) hx hb dX8_settles_4 rfl hl (by decide) rfl (fun ls hl => ?_)
      refine lv_aload_n hx hb dX8_settles_5 rfl (lv_at hl 0 rfl) ?_
      obtain ⟨v6, e6, h⟩ := g_bd h
      refine cg_X8_73 dX8_settles_6 S hE hG e6 ?_
      refine lv_bipush (v := 23) hx hb dX8_settles_9 (by decide) ?_
      refine lv_icmp_ne (tgt := 16) hx hb dX8_settles_11 (by decide) (fun c11 => ?_) (fun c11 => ?_)
      · have h := g_if c11 h
        refine lv_aload_n hx hb dX8_settles_16 rfl (lv_at hl 0 rfl) ?_
        obtain ⟨v17, e17, h⟩ := g_bd h
        refine cg_X8_73 dX8_settles_17 S hE hG e17 ?_
        refine lv_bipush (v := 21) hx hb dX8_settles_20 (by decide) ?_
        refine lv_icmp_ne (tgt := 36) hx hb dX8_settles_22 (by decide) (fun c22 => ?_) (fun c22 => ?_)
        · have h := g_if c22 h
          refine lv_aload_n hx hb dX8_settles_36 rfl (lv_at hl 0 rfl) ?_
          obtain ⟨v37, e37, h⟩ := g_bd h
          refine cg_X8_73 dX8_settles_37 S hE hG e37 ?_
          refine lv_bipush (v := 22) hx hb dX8_settles_40 (by decide) ?_
          refine lv_icmp_ne (tgt := 66) hx hb dX8_settles_42 (by decide) (fun c42 => ?_) (fun c42 => ?_)
          · have h := g_if c42 h
            refine lv_aload_n hx hb dX8_settles_66 rfl (lv_at hl 0 rfl) ?_
            obtain ⟨v67, e67, h⟩ := g_bd h
            refine cg_X8_73 dX8_settles_67 S hE hG e67 ?_
            refine lv_bipush (v := 20) hx hb dX8_settles_70 (by decide) ?_
            refine lv_icmp_ne (tgt := 113) hx hb dX8_settles_72 (by decide) (fun c72 => ?_) (fun c72 => ?_)
            · have h := g_if c72 h
              refine lv_iconst (v := 0) hx hb dX8_settles_113 (by decide) ?_
              exact c_zretW dX8_settles_114 S hr hk hC0 hG hS h
            · have h := g_it c72 h
              refine lv_aload_n hx hb dX8_settles_75 rfl (lv_at hl 1 rfl) ?_
              obtain ⟨v76, e76, h⟩ := g_bd h
              refine cg_X8_25 dX8_settles_76 S hE hG e76 ?_
              refine lv_aload_n hx hb dX8_settles_79 rfl (lv_at hl 1 rfl) ?_
              obtain ⟨v80, e80, h⟩ := g_bd h
              refine cg_X8_53 dX8_settles_80 S hE hG e80 ?_
              refine lv_iconst (v := 1) hx hb dX8_settles_83 (by decide) ?_
              refine lv_isub hx hb dX8_settles_84 ?_
              obtain ⟨v85, e85, h⟩ := g_bd h
              refine c_aldI dX8_settles_85 S hE hG e85 ?_
              refine lv_iconst (v := 1) hx hb dX8_settles_86 (by decide) ?_
              refine lv_icmp_ne (tgt := 113) hx hb dX8_settles_87 (by decide) (fun c87 => ?_) (fun c87 => ?_)
              · have h := g_if c87 h
                refine lv_iconst (v := 0) hx hb dX8_settles_113 (by decide) ?_
                exact c_zretW dX8_settles_114 S hr hk hC0 hG hS h
              · have h := g_it c87 h
                refine lv_aload_n hx hb dX8_settles_90 rfl (lv_at hl 1 rfl) ?_
                refine lv_dup hx hb dX8_settles_91 rfl ?_
                obtain ⟨v92, e92, h⟩ := g_bd h
                refine cg_X8_53 dX8_settles_92 S hE hG e92 ?_
                refine lv_iconst (v := 1) hx hb dX8_settles_95 (by decide) ?_
                refine lv_isub hx hb dX8_settles_96 ?_
                obtain ⟨G97, e97, h⟩ := g_bd h
                refine cp_X8_53 dX8_settles_97 S hE hG hS hC0 e97 (fun H locs hG hS => ?_)
                refine lv_aload_n hx hb dX8_settles_100 rfl (lv_at hl 1 rfl) ?_
                refine lv_dup hx hb dX8_settles_101 rfl ?_
                obtain ⟨v102, e102, h⟩ := g_bd h
                refine cg_X8_43 dX8_settles_102 S hE hG e102 ?_
                refine lv_iconst (v := 1) hx hb dX8_settles_105 (by decide) ?_
                refine lv_iadd hx hb dX8_settles_106 ?_
                obtain ⟨G107, e107, h⟩ := g_bd h
                refine cp_X8_43 dX8_settles_107 S hE hG hS hC0 e107 (fun H locs hG hS => ?_)
                refine lv_goto (tgt := 115) hx hb dX8_settles_110 (by decide) ?_
                exact J115 x0 G107 _ _ _ h hG hS (lv_sub hl [1] rfl)
          · have h := g_it c42 h
            refine lv_aload_n hx hb dX8_settles_45 rfl (lv_at hl 1 rfl) ?_
            refine lv_dup hx hb dX8_settles_46 rfl ?_
            obtain ⟨v47, e47, h⟩ := g_bd h
            refine cg_X8_53 dX8_settles_47 S hE hG e47 ?_
            refine lv_iconst (v := 1) hx hb dX8_settles_50 (by decide) ?_
            refine lv_isub hx hb dX8_settles_51 ?_
            obtain ⟨G52, e52, h⟩ := g_bd h
            refine cp_X8_53 dX8_settles_52 S hE hG hS hC0 e52 (fun H locs hG hS => ?_)
            refine lv_aload_n hx hb dX8_settles_55 rfl (lv_at hl 1 rfl) ?_
            refine lv_aload_n hx hb dX8_settles_56 rfl (lv_at hl 0 rfl) ?_
            obtain ⟨v57, e57, h⟩ := g_bd h
            refine cg_X8_76 dX8_settles_57 S hE hG e57 ?_
            obtain ⟨G60, e60, h⟩ := g_bd h
            refine cp_X8_43 dX8_settles_60 S hE hG hS hC0 e60 (fun H locs hG hS => ?_)
            refine lv_goto (tgt := 115) hx hb dX8_settles_63 (by decide) ?_
            exact J115 x0 G60 _ _ _ h hG hS (lv_sub hl [1] rfl)
        · have h := g_it c22 h
          refine lv_aload_n hx hb dX8_settles_25 rfl (lv_at hl 1 rfl) ?_
          refine lv_aload_n hx hb dX8_settles_26 rfl (lv_at hl 0 rfl) ?_
          obtain ⟨v27, e27, h⟩ := g_bd h
          refine cg_X8_76 dX8_settles_27 S hE hG e27 ?_
          obtain ⟨G30, e30, h⟩ := g_bd h
          refine cp_X8_43 dX8_settles_30 S hE hG hS hC0 e30 (fun H locs hG hS => ?_)
          refine lv_goto (tgt := 115) hx hb dX8_settles_33 (by decide) ?_
          exact J115 x0 G30 _ _ _ h hG hS (lv_sub hl [1] rfl)
      · have h := g_it c11 h
        refine lv_iconst (v := 1) hx hb dX8_settles_14 (by decide) ?_
        exact c_zretW dX8_settles_15 S hr hk hC0 hG hS h
  unfold cm_X8_settles at h
  exact L0 gF x0 Gz _ _ _ h hG hS (lv_sub hl [0] rfl)
theorem hc_X1_tell : cHd yX1_tell 3 := by decide +kernel
set_option maxHeartbeats 4000000 in
set_option maxRecDepth 100000 in
theorem wm_X1_tell (E : gX) (l : Launch) (x0 : Nat) (x1 : Int32) (x2 : Int32) (x3 : Int32) (Gz G' : GH) (h : cm_X1_tell x0 x1 x2 x3 Gz = some G') : gMetC E l yX1_tell cX1_tell 4 none 2 [.ref x0, .int x1, .int x2, .int x3] Gz G' none := by
  refine gMetC.of (own := RX1) (by decide +kernel) (Nat.le_of_ble_eq_true rfl) rfl ?_
  intro p e s m args below meth c S hr hk hnm hE hC0 hG hS ls hl
  have hl : lv_has ls 4 [(0, .ref x0), (1, .int x1), (2, .int x2), (3, .int x3)] := hl
  have hx := S.1
  have hb := S.2.1
  have J53 : ∀ (x0 : Nat) (G : GH) (H : Heap) (locs : List Loc) (ls : Array Slot), cm_X1_tell_J53 x0 G = some G' → gC E G H → va_S (gx_C E) s.heap H locs → lv_has ls 4 [(0, .ref x0)] → WC E p l e (gRm 2 (cBx Gz) (cBs Gz)) s m args below meth c H locs (MQ below (gQ none (gC E G') (gx_C E)) args s (cBx Gz) (cBs Gz) (gx_C E)) (F0 m 53 ls []) := by
    intro x0 G H locs ls h hG hS hl
    unfold cm_X1_tell_J53 at h
    refine lv_aload_n hx hb dX1_tell_53 rfl (lv_at hl 0 rfl) ?_
    refine lv_dup hx hb dX1_tell_54 rfl ?_
    obtain ⟨v55, e55, h⟩ := g_bd h
    refine cg_X1_145 dX1_tell_55 S hE hG e55 ?_
    refine lv_iconst (v := 1) hx hb dX1_tell_58 (by decide) ?_
    refine lv_iadd hx hb dX1_tell_59 ?_
    obtain ⟨G60, e60, h⟩ := g_bd h
    refine cp_X1_145 dX1_tell_60 S hE hG hS hC0 e60 (fun H locs hG hS => ?_)
    exact c_vretW dX1_tell_63 S hr hk hC0 hG hS h
  unfold cm_X1_tell at h
  refine lv_aload_n hx hb dX1_tell_0 rfl (lv_at hl 0 rfl) ?_
  obtain ⟨v1, e1, h⟩ := g_bd h
  refine cg_X1_145 dX1_tell_1 S hE hG e1 ?_
  refine lv_sipush (v := 400) hx hb dX1_tell_4 (by decide) ?_
  refine lv_icmp_ge (tgt := 53) hx hb dX1_tell_7 (by decide) (fun c7 => ?_) (fun c7 => ?_)
  · have h := g_it c7 h
    exact J53 x0 Gz _ _ _ h hG hS (lv_sub hl [0] rfl)
  · have h := g_if c7 h
    refine lv_aload_n hx hb dX1_tell_10 rfl (lv_at hl 0 rfl) ?_
    obtain ⟨v11, e11, h⟩ := g_bd h
    refine cg_X1_53 dX1_tell_11 S hE hG e11 ?_
    refine lv_aload_n hx hb dX1_tell_14 rfl (lv_at hl 0 rfl) ?_
    obtain ⟨v15, e15, h⟩ := g_bd h
    refine cg_X1_145 dX1_tell_15 S hE hG e15 ?_
    refine lv_iload_n hx hb dX1_tell_18 rfl (lv_at hl 1 rfl) ?_
    obtain ⟨G19, e19, h⟩ := g_bd h
    refine c_astI dX1_tell_19 S hE hG hS hC0 e19 (fun H locs hG hS => ?_)
    refine lv_aload_n hx hb dX1_tell_20 rfl (lv_at hl 0 rfl) ?_
    obtain ⟨v21, e21, h⟩ := g_bd h
    refine cg_X1_56 dX1_tell_21 S hE hG e21 ?_
    refine lv_aload_n hx hb dX1_tell_24 rfl (lv_at hl 0 rfl) ?_
    obtain ⟨v25, e25, h⟩ := g_bd h
    refine cg_X1_145 dX1_tell_25 S hE hG e25 ?_
    refine lv_iload_n hx hb dX1_tell_28 rfl (lv_at hl 2 rfl) ?_
    obtain ⟨G29, e29, h⟩ := g_bd h
    refine c_astI dX1_tell_29 S hE hG hS hC0 e29 (fun H locs hG hS => ?_)
    refine lv_aload_n hx hb dX1_tell_30 rfl (lv_at hl 0 rfl) ?_
    obtain ⟨v31, e31, h⟩ := g_bd h
    refine cg_X1_59 dX1_tell_31 S hE hG e31 ?_
    refine lv_aload_n hx hb dX1_tell_34 rfl (lv_at hl 0 rfl) ?_
    obtain ⟨v35, e35, h⟩ := g_bd h
    refine cg_X1_145 dX1_tell_35 S hE hG e35 ?_
    refine lv_iload_n hx hb dX1_tell_38 rfl (lv_at hl 3 rfl) ?_
    obtain ⟨G39, e39, h⟩ := g_bd h
    refine c_astI dX1_tell_39 S hE hG hS hC0 e39 (fun H locs hG hS => ?_)
    refine lv_aload_n hx hb dX1_tell_40 rfl (lv_at hl 0 rfl) ?_
    obtain ⟨v41, e41, h⟩ := g_bd h
    refine cg_X1_62 dX1_tell_41 S hE hG e41 ?_
    refine lv_aload_n hx hb dX1_tell_44 rfl (lv_at hl 0 rfl) ?_
    obtain ⟨v45, e45, h⟩ := g_bd h
    refine cg_X1_145 dX1_tell_45 S hE hG e45 ?_
    refine lv_aload_n hx hb dX1_tell_48 rfl (lv_at hl 0 rfl) ?_
    obtain ⟨v49, e49, h⟩ := g_bd h
    refine cg_X1_133 dX1_tell_49 S hE hG e49 ?_
    obtain ⟨G52, e52, h⟩ := g_bd h
    refine c_astI dX1_tell_52 S hE hG hS hC0 e52 (fun H locs hG hS => ?_)
    exact J53 x0 G52 _ _ _ h hG hS (lv_sub hl [0] rfl)
theorem hc_X1_settle : cHd yX1_settle 2 := by decide +kernel
set_option maxHeartbeats 4000000 in
set_option maxRecDepth 100000 in
theorem wm_X1_settle (E : gX) (l : Launch) (x0 : Nat) (x1 : Int32) (x2 : Nat) (Gz G' : GH) (h : cm_X1_settle x0 x1 x2 Gz = some G') : gMetC E l yX1_settle cX1_settle 3 none 7 [.ref x0, .int x1, .ref x2] Gz G' none := by
  refine gMetC.of (own := RX1) (by decide +kernel) (Nat.le_of_ble_eq_true rfl) rfl ?_
  intro p e s m args below meth c S hr hk hnm hE hC0 hG hS ls hl
  have hl : lv_has ls 3 [(0, .ref x0), (1, .int x1), (2, .ref x2)] := hl
  have hx := S.1
  have hb := S.2.1
  unfold cm_X1_settle at h
  refine lv_aload_n hx hb dX1_settle_0 rfl (lv_at hl 2 rfl) ?_
  obtain ⟨u1, t1, h⟩ := g_bd h
  obtain ⟨qx1, e1, h⟩ := g_bd h
  refine c_cV (y := yX8_settles) (rest := []) dX1_settle_1 q2010 q2011 q2012 q150 q2013 hc_X8_settles rfl S hE hG hS hC0 hl.1 rfl (c_recv hE hG (ci := 14) rfl (by decide) (c_castM t1)) (wm_X8_settles E l x2 Gz _ _ e1) rfl (Nat.le_of_ble_eq_true rfl) ⟨Nat.le_of_ble_eq_true rfl, Nat.le_of_ble_eq_true rfl⟩ (fun H locs hG hS => ?_)
  refine lv_if_ne (tgt := 8) hx hb dX1_settle_4 (by decide) (fun c4 => ?_) (fun c4 => ?_)
  · have h := g_if c4 h
    refine lv_aload_n hx hb dX1_settle_8 rfl (lv_at hl 2 rfl) ?_
    refine lv_iconst (v := 1) hx hb dX1_settle_9 (by decide) ?_
    obtain ⟨G10, e10, h⟩ := g_bd h
    refine cp_X1_272 dX1_settle_10 S hE hG hS hC0 e10 (fun H locs hG hS => ?_)
    refine lv_aload_n hx hb dX1_settle_13 rfl (lv_at hl 0 rfl) ?_
    refine lv_bipush (v := 6) hx hb dX1_settle_14 (by decide) ?_
    refine lv_iload_n hx hb dX1_settle_16 rfl (lv_at hl 1 rfl) ?_
    refine lv_aload_n hx hb dX1_settle_17 rfl (lv_at hl 0 rfl) ?_
    obtain ⟨v18, e18, h⟩ := g_bd h
    refine cg_X1_133 dX1_settle_18 S hE hG e18 ?_
    obtain ⟨u21, t21, h⟩ := g_bd h
    obtain ⟨G21, e21, h⟩ := g_bd h
    refine c_cV (y := yX1_tell) (rest := []) dX1_settle_21 q1992 q1994 qs43 q119 q1995 hc_X1_tell rfl S hE hG hS hC0 hl.1 rfl (c_recv hE hG (ci := 8) rfl (by decide) (c_castM t21)) (wm_X1_tell E l x0 6 x1 v18 G10 _ e21) rfl (Nat.le_of_ble_eq_true rfl) ⟨Nat.le_of_ble_eq_true rfl, Nat.le_of_ble_eq_true rfl⟩ (fun H locs hG hS => ?_)
    exact c_vretW dX1_settle_24 S hr hk hC0 hG hS h
  · have h := g_it c4 h
    exact c_vretW dX1_settle_7 S hr hk hC0 hG hS h
theorem hc_X1_done : cHd yX1_done 2 := by decide +kernel
set_option maxHeartbeats 4000000 in
set_option maxRecDepth 100000 in
theorem wm_X1_done (E : gX) (l : Launch) (x0 : Nat) (x1 : Int32) (x2 : Nat) (Gz G' : GH) (r : Int32) (h : cm_X1_done x0 x1 x2 Gz = some (r, G')) : gMetC E l yX1_done cX1_done 3 (some Jvm.ClassFile.FieldType.boolean) 8 [.ref x0, .int x1, .ref x2] Gz G' (some (.int r)) := by
  refine gMetC.of (own := RX1) (by decide +kernel) (Nat.le_of_ble_eq_true rfl) rfl ?_
  intro p e s m args below meth c S hr hk hnm hE hC0 hG hS ls hl
  have hl : lv_has ls 3 [(0, .ref x0), (1, .int x1), (2, .ref x2)] := hl
  have hx := S.1
  have hb := S.2.1
  unfold cm_X1_done at h
  refine lv_aload_n hx hb dX1_done_0 rfl (lv_at hl 2 rfl) ?_
  refine lv_iconst (v := 0) hx hb dX1_done_1 (by decide) ?_
  obtain ⟨G2, e2, h⟩ := g_bd h
  refine cp_X1_294 dX1_done_2 S hE hG hS hC0 e2 (fun H locs hG hS => ?_)
  refine lv_aload_n hx hb dX1_done_5 rfl (lv_at hl 2 rfl) ?_
  refine lv_dup hx hb dX1_done_6 rfl ?_
  obtain ⟨v7, e7, h⟩ := g_bd h
  refine cg_X1_334 dX1_done_7 S hE hG e7 ?_
  refine lv_iconst (v := 1) hx hb dX1_done_10 (by decide) ?_
  refine lv_iadd hx hb dX1_done_11 ?_
  obtain ⟨G12, e12, h⟩ := g_bd h
  refine cp_X1_334 dX1_done_12 S hE hG hS hC0 e12 (fun H locs hG hS => ?_)
  refine lv_aload_n hx hb dX1_done_15 rfl (lv_at hl 0 rfl) ?_
  refine lv_iload_n hx hb dX1_done_16 rfl (lv_at hl 1 rfl) ?_
  refine lv_aload_n hx hb dX1_done_17 rfl (lv_at hl 2 rfl) ?_
  obtain ⟨u18, t18, h⟩ := g_bd h
  obtain ⟨G18, e18, h⟩ := g_bd h
  refine c_cV (y := yX1_settle) (rest := []) dX1_done_18 q2006 q2008 qs45 q119 q2009 hc_X1_settle rfl S hE hG hS hC0 hl.1 rfl (c_recv hE hG (ci := 8) rfl (by decide) (c_castM t18)) (wm_X1_settle E l x0 x1 x2 G12 _ e18) rfl (Nat.le_of_ble_eq_true rfl) ⟨Nat.le_of_ble_eq_true rfl, Nat.le_of_ble_eq_true rfl⟩ (fun H locs hG hS => ?_)
  refine lv_iconst (v := 1) hx hb dX1_done_21 (by decide) ?_
  exact c_zretW dX1_done_22 S hr hk hC0 hG hS h
theorem hc_X1_aims : cHd yX1_aims 5 := by decide +kernel
set_option maxHeartbeats 4000000 in
set_option maxRecDepth 100000 in
theorem wm_X1_aims (E : gX) (l : Launch) (x0 : Nat) (x1 : Int32) (x2 : Nat) (x3 : Nat) (x4 : Int32) (x5 : Int32) (Gz G' : GH) (r : Int32) (h : cm_X1_aims x0 x1 x2 x3 x4 x5 Gz = some (r, G')) : gMetC E l yX1_aims cX1_aims 7 (some Jvm.ClassFile.FieldType.boolean) 9 [.ref x0, .int x1, .ref x2, .ref x3, .int x4, .int x5] Gz G' (some (.int r)) := by
  refine gMetC.of (own := RX1) (by decide +kernel) (Nat.le_of_ble_eq_true rfl) rfl ?_
  intro p e s m args below meth c S hr hk hnm hE hC0 hG hS ls hl
  have hl : lv_has ls 7 [(0, .ref x0), (1, .int x1), (2, .ref x2), (3, .ref x3), (4, .int x4), (5, .int x5)] := hl
  have hx := S.1
  have hb := S.2.1
  have J116 : ∀ (x0 : Nat) (x1 : Int32) (x3 : Nat) (G : GH) (H : Heap) (locs : List Loc) (ls : Array Slot), cm_X1_aims_J116 x0 x1 x3 G = some (r, G') → gC E G H → va_S (gx_C E) s.heap H locs → lv_has ls 7 [(0, .ref x0), (1, .int x1), (3, .ref x3)] → WC E p l e (gRm 9 (cBx Gz) (cBs Gz)) s m args below meth c H locs (MQ below (gQ (some (.int r)) (gC E G') (gx_C E)) args s (cBx Gz) (cBs Gz) (gx_C E)) (F0 m 116 ls []) := by
    intro x0 x1 x3 G H locs ls h hG hS hl
    unfold cm_X1_aims_J116 at h
    refine lv_aload_n hx hb dX1_aims_116 rfl (lv_at hl 0 rfl) ?_
    refine lv_iload_n hx hb dX1_aims_117 rfl (lv_at hl 1 rfl) ?_
    refine lv_aload_n hx hb dX1_aims_118 rfl (lv_at hl 2 rfl) ?_
    obtain ⟨u119, t119, h⟩ := g_bd h
    obtain ⟨qx119, e119, h⟩ := g_bd h
    refine c_cV (y := yX1_done) (rest := []) dX1_aims_119 q2051 q2053 qs48 q119 q2054 hc_X1_done rfl S hE hG hS hC0 hl.1 rfl (c_recv hE hG (ci := 8) rfl (by decide) (c_castM t119)) (wm_X1_done E l x0 x1 x3 G _ _ e119) rfl (Nat.le_of_ble_eq_true rfl) ⟨Nat.le_of_ble_eq_true rfl, Nat.le_of_ble_eq_true rfl⟩ (fun H locs hG hS => ?_)
    exact c_zretW dX1_aims_122 S hr hk hC0 hG hS h
  have J63 : ∀ (x0 : Nat) (x1 : Int32) (x2 : Nat) (x3 : Nat) (x4 : Int32) (x5 : Int32) (G : GH) (H : Heap) (locs : List Loc) (ls : Array Slot), cm_X1_aims_J63 x0 x1 x2 x3 x4 x5 G = some (r, G') → gC E G H → va_S (gx_C E) s.heap H locs → lv_has ls 7 [(0, .ref x0), (1, .int x1), (2, .ref x2), (3, .ref x3), (4, .int x4), (5, .int x5)] → WC E p l e (gRm 9 (cBx Gz) (cBs Gz)) s m args below meth c H locs (MQ below (gQ (some (.int r)) (gC E G') (gx_C E)) args s (cBx Gz) (cBs Gz) (gx_C E)) (F0 m 63 ls []) := by
    intro x0 x1 x2 x3 x4 x5 G H locs ls h hG hS hl
    unfold cm_X1_aims_J63 at h
    refine lv_aload_n hx hb dX1_aims_63 rfl (lv_at hl 0 rfl) ?_
    obtain ⟨v64, e64, h⟩ := g_bd h
    refine cg_X1_327 dX1_aims_64 S hE hG e64 ?_
    refine lv_if_eq (tgt := 72) hx hb dX1_aims_67 (by decide) (fun c67 => ?_) (fun c67 => ?_)
    · have h := g_it c67 h
      refine lv_iload hx hb dX1_aims_72 (lv_at hl 4 rfl) ?_
      refine lv_if_eq (tgt := 98) hx hb dX1_aims_74 (by decide) (fun c74 => ?_) (fun c74 => ?_)
      · have h := g_it c74 h
        refine lv_aload_n hx hb dX1_aims_98 rfl (lv_at hl 2 rfl) ?_
        obtain ⟨u99, e99, h⟩ := g_bd h
        refine ck_X1_178 dX1_aims_99 S hE hG e99 ?_
        refine lv_astore (lv' := [(6, .ref x2), (0, .ref x0), (1, .int x1), (2, .ref x2), (3, .ref x3), (4, .int x4), (5, .int x5)]) hx hb dX1_aims_102 hl (by decide) rfl (fun ls hl => ?_)
        refine lv_aload hx hb dX1_aims_104 (lv_at hl 0 rfl) ?_
        obtain ⟨v106, e106, h⟩ := g_bd h
        refine wd_Lifts_hoist (rest := []) q1737 dX1_aims_106 S hE hG hS hC0 hl.1 e106 rfl (Nat.le_of_ble_eq_true rfl) (by decide) (fun H locs hG hS => ?_)
        refine lv_iload hx hb dX1_aims_111 (lv_at hl 6 rfl) ?_
        obtain ⟨G113, e113, h⟩ := g_bd h
        refine cp_X1_207 dX1_aims_113 S hE hG hS hC0 e113 (fun H locs hG hS => ?_)
        exact J116 x0 x1 x3 G113 _ _ _ h hG hS (lv_sub hl [1, 2, 4] rfl)
      · have h := g_if c74 h
        refine lv_aload_n hx hb dX1_aims_77 rfl (lv_at hl 2 rfl) ?_
        obtain ⟨u78, e78, h⟩ := g_bd h
        refine ck_X1_167 dX1_aims_78 S hE hG e78 ?_
        refine lv_astore (lv' := [(6, .ref x2), (0, .ref x0), (1, .int x1), (2, .ref x2), (3, .ref x3), (4, .int x4), (5, .int x5)]) hx hb dX1_aims_81 hl (by decide) rfl (fun ls hl => ?_)
        refine lv_aload hx hb dX1_aims_83 (lv_at hl 0 rfl) ?_
        obtain ⟨v85, e85, h⟩ := g_bd h
        refine wd_Turns_spin (rest := []) q1734 dX1_aims_85 S hE hG hS hC0 hl.1 e85 rfl (Nat.le_of_ble_eq_true rfl) (by decide) (fun H locs hG hS => ?_)
        refine lv_iload hx hb dX1_aims_90 (lv_at hl 6 rfl) ?_
        obtain ⟨G92, e92, h⟩ := g_bd h
        refine cp_X1_204 dX1_aims_92 S hE hG hS hC0 e92 (fun H locs hG hS => ?_)
        refine lv_goto (tgt := 116) hx hb dX1_aims_95 (by decide) ?_
        exact J116 x0 x1 x3 G92 _ _ _ h hG hS (lv_sub hl [1, 2, 4] rfl)
    · have h := g_if c67 h
      refine lv_iconst (v := 1) hx hb dX1_aims_70 (by decide) ?_
      exact c_zretW dX1_aims_71 S hr hk hC0 hG hS h
  have J35 : ∀ (x0 : Nat) (x1 : Int32) (x2 : Nat) (x3 : Nat) (x4 : Int32) (x5 : Int32) (G : GH) (H : Heap) (locs : List Loc) (ls : Array Slot), cm_X1_aims_J35 x0 x1 x2 x3 x4 x5 G = some (r, G') → gC E G H → va_S (gx_C E) s.heap H locs → lv_has ls 7 [(0, .ref x0), (1, .int x1), (2, .ref x2), (3, .ref x3), (4, .int x4), (5, .int x5)] → WC E p l e (gRm 9 (cBx Gz) (cBs Gz)) s m args below meth c H locs (MQ below (gQ (some (.int r)) (gC E G') (gx_C E)) args s (cBx Gz) (cBs Gz) (gx_C E)) (F0 m 35 ls []) := by
    intro x0 x1 x2 x3 x4 x5 G H locs ls h hG hS hl
    unfold cm_X1_aims_J35 at h
    refine lv_aload_n hx hb dX1_aims_35 rfl (lv_at hl 0 rfl) ?_
    refine lv_iconst (v := 2) hx hb dX1_aims_36 (by decide) ?_
    obtain ⟨G37, e37, h⟩ := g_bd h
    refine cp_X1_327 dX1_aims_37 S hE hG hS hC0 e37 (fun H locs hG hS => ?_)
    refine lv_goto (tgt := 63) hx hb dX1_aims_40 (by decide) ?_
    exact J63 x0 x1 x2 x3 x4 x5 G37 _ _ _ h hG hS (lv_sub hl [0, 1, 2, 3, 4, 5] rfl)
  have J43 : ∀ (x0 : Nat) (x1 : Int32) (x2 : Nat) (x3 : Nat) (x4 : Int32) (x5 : Int32) (G : GH) (H : Heap) (locs : List Loc) (ls : Array Slot), cm_X1_aims_J43 x0 x1 x2 x3 x4 x5 G = some (r, G') → gC E G H → va_S (gx_C E) s.heap H locs → lv_has ls 7 [(0, .ref x0), (1, .int x1), (2, .ref x2), (3, .ref x3), (4, .int x4), (5, .int x5)] → WC E p l e (gRm 9 (cBx Gz) (cBs Gz)) s m args below meth c H locs (MQ below (gQ (some (.int r)) (gC E G') (gx_C E)) args s (cBx Gz) (cBs Gz) (gx_C E)) (F0 m 43 ls []) := by
    intro x0 x1 x2 x3 x4 x5 G H locs ls h hG hS hl
    unfold cm_X1_aims_J43 at h
    refine lv_iload hx hb dX1_aims_43 (lv_at hl 5 rfl) ?_
    refine lv_if_eq (tgt := 63) hx hb dX1_aims_45 (by decide) (fun c45 => ?_) (fun c45 => ?_)
    · have h := g_it c45 h
      exact J63 x0 x1 x2 x3 x4 x5 G _ _ _ h hG hS (lv_sub hl [0, 1, 2, 3, 4, 5] rfl)
    · have h := g_if c45 h
      refine lv_aload_n hx hb dX1_aims_48 rfl (lv_at hl 2 rfl) ?_
      obtain ⟨v49, e49, h⟩ := g_bd h
      refine cg_X1_151 dX1_aims_49 S hE hG e49 ?_
      refine lv_sipush (v := 1000) hx hb dX1_aims_52 (by decide) ?_
      refine lv_icmp_le (tgt := 63) hx hb dX1_aims_55 (by decide) (fun c55 => ?_) (fun c55 => ?_)
      · have h := g_it c55 h
        exact J63 x0 x1 x2 x3 x4 x5 G _ _ _ h hG hS (lv_sub hl [0, 1, 2, 3, 4, 5] rfl)
      · have h := g_if c55 h
        refine lv_aload_n hx hb dX1_aims_58 rfl (lv_at hl 0 rfl) ?_
        refine lv_iconst (v := 5) hx hb dX1_aims_59 (by decide) ?_
        obtain ⟨G60, e60, h⟩ := g_bd h
        refine cp_X1_327 dX1_aims_60 S hE hG hS hC0 e60 (fun H locs hG hS => ?_)
        exact J63 x0 x1 x2 x3 x4 x5 G60 _ _ _ h hG hS (lv_sub hl [0, 1, 2, 3, 4, 5] rfl)
  unfold cm_X1_aims at h
  refine lv_iload hx hb dX1_aims_0 (lv_at hl 4 rfl) ?_
  refine lv_if_eq (tgt := 22) hx hb dX1_aims_2 (by decide) (fun c2 => ?_) (fun c2 => ?_)
  · have h := g_it c2 h
    refine lv_iload hx hb dX1_aims_22 (lv_at hl 5 rfl) ?_
    refine lv_if_lt (tgt := 35) hx hb dX1_aims_24 (by decide) (fun c24 => ?_) (fun c24 => ?_)
    · have h := g_it c24 h
      exact J35 x0 x1 x2 x3 x4 x5 Gz _ _ _ h hG hS (lv_sub hl [0, 1, 2, 3, 4, 5] rfl)
    · have h := g_if c24 h
      refine lv_iload hx hb dX1_aims_27 (lv_at hl 5 rfl) ?_
      refine lv_sipush (v := 1000) hx hb dX1_aims_29 (by decide) ?_
      refine lv_icmp_le (tgt := 43) hx hb dX1_aims_32 (by decide) (fun c32 => ?_) (fun c32 => ?_)
      · have h := g_it c32 h
        exact J43 x0 x1 x2 x3 x4 x5 Gz _ _ _ h hG hS (lv_sub hl [0, 1, 2, 3, 4, 5] rfl)
      · have h := g_if c32 h
        exact J35 x0 x1 x2 x3 x4 x5 Gz _ _ _ h hG hS (lv_sub hl [0, 1, 2, 3, 4, 5] rfl)
  · have h := g_if c2 h
    refine lv_iload hx hb dX1_aims_5 (lv_at hl 5 rfl) ?_
    refine lv_bipush (v := (-100)) hx hb dX1_aims_7 (by decide) ?_
    refine lv_icmp_lt (tgt := 35) hx hb dX1_aims_9 (by decide) (fun c9 => ?_) (fun c9 => ?_)
    · have h := g_it c9 h
      exact J35 x0 x1 x2 x3 x4 x5 Gz _ _ _ h hG hS (lv_sub hl [0, 1, 2, 3, 4, 5] rfl)
    · have h := g_if c9 h
      refine lv_iload hx hb dX1_aims_12 (lv_at hl 5 rfl) ?_
      refine lv_bipush (v := 100) hx hb dX1_aims_14 (by decide) ?_
      refine lv_icmp_le (tgt := 43) hx hb dX1_aims_16 (by decide) (fun c16 => ?_) (fun c16 => ?_)
      · have h := g_it c16 h
        exact J43 x0 x1 x2 x3 x4 x5 Gz _ _ _ h hG hS (lv_sub hl [0, 1, 2, 3, 4, 5] rfl)
      · have h := g_if c16 h
        refine lv_goto (tgt := 35) hx hb dX1_aims_19 (by decide) ?_
        exact J35 x0 x1 x2 x3 x4 x5 Gz _ _ _ h hG hS (lv_sub hl [0, 1, 2, 3, 4, 5] rfl)
theorem hc_J9_coder : cHd yJ9_coder 0 := by decide +kernel
set_option maxHeartbeats 4000000 in
set_option maxRecDepth 100000 in
theorem wm_J9_coder (E : gX) (l : Launch) (x0 : Nat) (Gz : GH) (r : Int32) (h : cm_J9_coder x0 Gz = some r) : gMetC E l yJ9_coder cJ9_coder 1 (some Jvm.ClassFile.FieldType.byte) 2 [.ref x0] Gz Gz (some (.int r)) := by
  refine gMetC.of (own := RJ9) (by decide +kernel) (Nat.le_of_ble_eq_true rfl) rfl ?_
  intro p e s m args below meth c S hr hk hnm hE hC0 hG hS ls hl
  have hl : lv_has ls 1 [(0, .ref x0)] := hl
  have hx := S.1
  have hb := S.2.1
  unfold cm_J9_coder at h
  refine c_gets q488 rfl hE.stat.2.1 dJ9_coder_0 S hS ?_
  refine lv_if_eq (tgt := 13) hx hb dJ9_coder_3 (by decide) (fun c3 => ?_) (fun c3 => ?_)
  · have h := g_it c3 h
    refine lv_iconst (v := 1) hx hb dJ9_coder_13 (by decide) ?_
    exact c_bretR dJ9_coder_14 S hr hk hC0 hG hS h
  · have h := g_if c3 h
    refine lv_aload_n hx hb dJ9_coder_6 rfl (lv_at hl 0 rfl) ?_
    obtain ⟨v7, e7, h⟩ := g_bd h
    refine cg_J9_15 dJ9_coder_7 S hE hG e7 ?_
    refine lv_goto (tgt := 14) hx hb dJ9_coder_10 (by decide) ?_
    exact c_bretR dJ9_coder_14 S hr hk hC0 hG hS h
theorem hc_J9_length : cHd yJ9_length 0 := by decide +kernel
set_option maxHeartbeats 4000000 in
set_option maxRecDepth 100000 in
theorem wm_J9_length (E : gX) (l : Launch) (x0 : Nat) (Gz : GH) (r : Int32) (h : cm_J9_length x0 Gz = some r) : gMetC E l yJ9_length cJ9_length 1 (some Jvm.ClassFile.FieldType.int) 3 [.ref x0] Gz Gz (some (.int r)) := by
  refine gMetC.of (own := RJ9) (by decide +kernel) (Nat.le_of_ble_eq_true rfl) rfl ?_
  intro p e s m args below meth c S hr hk hnm hE hC0 hG hS ls hl
  have hl : lv_has ls 1 [(0, .ref x0)] := hl
  have hx := S.1
  have hb := S.2.1
  unfold cm_J9_length at h
  refine lv_aload_n hx hb dJ9_length_0 rfl (lv_at hl 0 rfl) ?_
  obtain ⟨v1, e1, h⟩ := g_bd h
  refine cg_J9_9 dJ9_length_1 S hE hG e1 ?_
  obtain ⟨v4, e4, h⟩ := g_bd h
  refine c_len dJ9_length_4 S hE hG e4 ?_
  refine lv_aload_n hx hb dJ9_length_5 rfl (lv_at hl 0 rfl) ?_
  obtain ⟨u6, t6, h⟩ := g_bd h
  obtain ⟨v6, e6, h⟩ := g_bd h
  refine c_cV (y := yJ9_coder) (rest := [.int v4]) dJ9_length_6 q484 q485 q486 q131 q487 hc_J9_coder rfl S hE hG hS hC0 hl.1 rfl (c_recvS hE hG (c_castM t6)) (wm_J9_coder E l x0 Gz _ e6) rfl (Nat.le_of_ble_eq_true rfl) ⟨Nat.le_of_ble_eq_true rfl, Nat.le_of_ble_eq_true rfl⟩ (fun H locs hG hS => ?_)
  refine lv_ishr hx hb dJ9_length_9 ?_
  exact c_iretR dJ9_length_10 S hr hk hC0 hG hS h
theorem hc_J9_isLatin1 : cHd yJ9_isLatin1 0 := by decide +kernel
set_option maxHeartbeats 4000000 in
set_option maxRecDepth 100000 in
theorem wm_J9_isLatin1 (E : gX) (l : Launch) (x0 : Nat) (Gz : GH) (r : Int32) (h : cm_J9_isLatin1 x0 Gz = some r) : gMetC E l yJ9_isLatin1 cJ9_isLatin1 1 (some Jvm.ClassFile.FieldType.boolean) 2 [.ref x0] Gz Gz (some (.int r)) := by
  refine gMetC.of (own := RJ9) (by decide +kernel) (Nat.le_of_ble_eq_true rfl) rfl ?_
  intro p e s m args below meth c S hr hk hnm hE hC0 hG hS ls hl
  have hl : lv_has ls 1 [(0, .ref x0)] := hl
  have hx := S.1
  have hb := S.2.1
  unfold cm_J9_isLatin1 at h
  refine c_gets q488 rfl hE.stat.2.1 dJ9_isLatin1_0 S hS ?_
  refine lv_if_eq (tgt := 17) hx hb dJ9_isLatin1_3 (by decide) (fun c3 => ?_) (fun c3 => ?_)
  · have h := g_it c3 h
    refine lv_iconst (v := 0) hx hb dJ9_isLatin1_17 (by decide) ?_
    exact c_zretR dJ9_isLatin1_18 S hr hk hC0 hG hS h
  · have h := g_if c3 h
    refine lv_aload_n hx hb dJ9_isLatin1_6 rfl (lv_at hl 0 rfl) ?_
    obtain ⟨v7, e7, h⟩ := g_bd h
    refine cg_J9_15 dJ9_isLatin1_7 S hE hG e7 ?_
    refine lv_if_ne (tgt := 17) hx hb dJ9_isLatin1_10 (by decide) (fun c10 => ?_) (fun c10 => ?_)
    · have h := g_if c10 h
      refine lv_iconst (v := 0) hx hb dJ9_isLatin1_17 (by decide) ?_
      exact c_zretR dJ9_isLatin1_18 S hr hk hC0 hG hS h
    · have h := g_it c10 h
      refine lv_iconst (v := 1) hx hb dJ9_isLatin1_13 (by decide) ?_
      refine lv_goto (tgt := 18) hx hb dJ9_isLatin1_14 (by decide) ?_
      exact c_zretR dJ9_isLatin1_18 S hr hk hC0 hG hS h
theorem hc_J9_checkIndex : cHd yJ9_checkIndex 2 := by decide +kernel
set_option maxHeartbeats 4000000 in
set_option maxRecDepth 100000 in
theorem wm_J9_checkIndex (E : gX) (l : Launch) (x0 : Int32) (x1 : Int32) (Gz G' : GH) (h : cm_J9_checkIndex x0 x1 Gz = some G') : gMetC E l yJ9_checkIndex cJ9_checkIndex 2 none 3 [.int x0, .int x1] Gz G' none := by
  refine gMetC.of (own := RJ9) (by decide +kernel) (Nat.le_of_ble_eq_true rfl) rfl ?_
  intro p e s m args below meth c S hr hk hnm hE hC0 hG hS ls hl
  have hl : lv_has ls 2 [(0, .int x0), (1, .int x1)] := hl
  have hx := S.1
  have hb := S.2.1
  unfold cm_J9_checkIndex at h
  refine lv_iload_n hx hb dJ9_checkIndex_0 rfl (lv_at hl 0 rfl) ?_
  refine lv_iload_n hx hb dJ9_checkIndex_1 rfl (lv_at hl 1 rfl) ?_
  obtain ⟨o2, z2⟩ := c_opq hE.stat.2.2.2.2.1
  refine c_gets q466 rfl z2 dJ9_checkIndex_2 S hS ?_
  obtain ⟨v5, e5, h⟩ := g_bd h
  refine c_cS (y := yJ14_checkIndex) (rest := []) dJ9_checkIndex_5 q807 q808 q137 q809 hc_J14_checkIndex S hE hG hS hC0 hl.1 rfl (wm_J14_checkIndex E l x0 x1 o2 Gz _ e5) rfl (Nat.le_of_ble_eq_true rfl) ⟨Nat.le_of_ble_eq_true rfl, Nat.le_of_ble_eq_true rfl⟩ (fun H locs hG hS => ?_)
  refine lv_pop hx hb dJ9_checkIndex_8 rfl ?_
  exact c_vretW dJ9_checkIndex_9 S hr hk hC0 hG hS h
theorem hc_J15_charAt : cHd yJ15_charAt 2 := by decide +kernel
set_option maxHeartbeats 4000000 in
set_option maxRecDepth 100000 in
theorem wm_J15_charAt (E : gX) (l : Launch) (x0 : Nat) (x1 : Int32) (Gz G' : GH) (r : Int32) (h : cm_J15_charAt x0 x1 Gz = some (r, G')) : gMetC E l yJ15_charAt cJ15_charAt 2 (some Jvm.ClassFile.FieldType.char) 4 [.ref x0, .int x1] Gz G' (some (.int r)) := by
  refine gMetC.of (own := RJ15) (by decide +kernel) (Nat.le_of_ble_eq_true rfl) rfl ?_
  intro p e s m args below meth c S hr hk hnm hE hC0 hG hS ls hl
  have hl : lv_has ls 2 [(0, .ref x0), (1, .int x1)] := hl
  have hx := S.1
  have hb := S.2.1
  unfold cm_J15_charAt at h
  refine lv_iload_n hx hb dJ15_charAt_0 rfl (lv_at hl 1 rfl) ?_
  refine lv_aload_n hx hb dJ15_charAt_1 rfl (lv_at hl 0 rfl) ?_
  obtain ⟨v2, e2, h⟩ := g_bd h
  refine c_len dJ15_charAt_2 S hE hG e2 ?_
  obtain ⟨G3, e3, h⟩ := g_bd h
  refine c_cS (y := yJ9_checkIndex) (rest := []) dJ15_charAt_3 q804 q805 q131 q806 hc_J9_checkIndex S hE hG hS hC0 hl.1 rfl (wm_J9_checkIndex E l x1 v2 Gz _ e3) rfl (Nat.le_of_ble_eq_true rfl) ⟨Nat.le_of_ble_eq_true rfl, Nat.le_of_ble_eq_true rfl⟩ (fun H locs hG hS => ?_)
  refine lv_aload_n hx hb dJ15_charAt_6 rfl (lv_at hl 0 rfl) ?_
  refine lv_iload_n hx hb dJ15_charAt_7 rfl (lv_at hl 1 rfl) ?_
  obtain ⟨v8, e8, h⟩ := g_bd h
  refine c_aldB dJ15_charAt_8 S hE hG e8 ?_
  refine lv_sipush (v := 255) hx hb dJ15_charAt_9 (by decide) ?_
  refine lv_iand hx hb dJ15_charAt_12 ?_
  refine lv_i2c (v := ((v8 &&& 255).toUInt32 % 65536).toInt32) hx hb dJ15_charAt_13 rfl ?_
  exact c_cretW dJ15_charAt_14 S hr hk hC0 hG hS h
theorem hc_J9_charAt : cHd yJ9_charAt 1 := by decide +kernel
set_option maxHeartbeats 4000000 in
set_option maxRecDepth 100000 in
theorem wm_J9_charAt (E : gX) (l : Launch) (x0 : Nat) (x1 : Int32) (Gz G' : GH) (r : Int32) (h : cm_J9_charAt x0 x1 Gz = some (r, G')) : gMetC E l yJ9_charAt cJ9_charAt 2 (some Jvm.ClassFile.FieldType.char) 5 [.ref x0, .int x1] Gz G' (some (.int r)) := by
  refine gMetC.of (own := RJ9) (by decide +kernel) (Nat.le_of_ble_eq_true rfl) rfl ?_
  intro p e s m args below meth c S hr hk hnm hE hC0 hG hS ls hl
  have hl : lv_has ls 2 [(0, .ref x0), (1, .int x1)] := hl
  have hx := S.1
  have hb := S.2.1
  unfold cm_J9_charAt at h
  refine lv_aload_n hx hb dJ9_charAt_0 rfl (lv_at hl 0 rfl) ?_
  obtain ⟨u1, t1, h⟩ := g_bd h
  obtain ⟨v1, e1, h⟩ := g_bd h
  refine c_cV (y := yJ9_isLatin1) (rest := []) dJ9_charAt_1 q746 q747 q748 q131 q749 hc_J9_isLatin1 rfl S hE hG hS hC0 hl.1 rfl (c_recvS hE hG (c_castM t1)) (wm_J9_isLatin1 E l x0 Gz _ e1) rfl (Nat.le_of_ble_eq_true rfl) ⟨Nat.le_of_ble_eq_true rfl, Nat.le_of_ble_eq_true rfl⟩ (fun H locs hG hS => ?_)
  refine lv_if_eq (tgt := 16) hx hb dJ9_charAt_4 (by decide) (fun c4 => ?_) (fun c4 => ?_)
  · have h := g_it c4 h
    refine lv_aload_n hx hb dJ9_charAt_16 rfl (lv_at hl 0 rfl) ?_
    obtain ⟨v17, e17, h⟩ := g_bd h
    refine cg_J9_9 dJ9_charAt_17 S hE hG e17 ?_
    refine lv_iload_n hx hb dJ9_charAt_20 rfl (lv_at hl 1 rfl) ?_
    cases h
  · have h := g_if c4 h
    refine lv_aload_n hx hb dJ9_charAt_7 rfl (lv_at hl 0 rfl) ?_
    obtain ⟨v8, e8, h⟩ := g_bd h
    refine cg_J9_9 dJ9_charAt_8 S hE hG e8 ?_
    refine lv_iload_n hx hb dJ9_charAt_11 rfl (lv_at hl 1 rfl) ?_
    obtain ⟨qx12, e12, h⟩ := g_bd h
    refine c_cS (y := yJ15_charAt) (rest := []) dJ9_charAt_12 q801 q802 q138 q803 hc_J15_charAt S hE hG hS hC0 hl.1 rfl (wm_J15_charAt E l v8 x1 Gz _ _ e12) rfl (Nat.le_of_ble_eq_true rfl) ⟨Nat.le_of_ble_eq_true rfl, Nat.le_of_ble_eq_true rfl⟩ (fun H locs hG hS => ?_)
    exact c_cretW dJ9_charAt_15 S hr hk hC0 hG hS h
theorem hc_X1_among : cHd yX1_among 2 := by decide +kernel
set_option maxHeartbeats 4000000 in
set_option maxRecDepth 100000 in
theorem wm_X1_among (E : gX) (l : Launch) (x0 : Nat) (x1 : Int64) (Gz G' : GH) (r : Int32) (h : cm_X1_among x0 x1 Gz = some (r, G')) : gMetC E l yX1_among cX1_among 7 (some Jvm.ClassFile.FieldType.int) 6 [.ref x0, .long x1] Gz G' (some (.int r)) := by
  refine gMetC.of (own := RX1) (by decide +kernel) (Nat.le_of_ble_eq_true rfl) rfl ?_
  intro p e s m args below meth c S hr hk hnm hE hC0 hG hS ls hl
  have hl : lv_has ls 7 [(0, .ref x0), (1, .long x1)] := hl
  have hx := S.1
  have hb := S.2.1
  have L8 : ∀ (n : Nat) (x0 : Nat) (x1 : Int64) (x3 : Int64) (x5 : Int32) (x6 : Int32) (G : GH) (H : Heap) (locs : List Loc) (ls : Array Slot), cm_X1_among_L8 n x0 x1 x3 x5 x6 G = some (r, G') → gC E G H → va_S (gx_C E) s.heap H locs → lv_has ls 7 [(0, .ref x0), (1, .long x1), (3, .long x3), (5, .int x5), (6, .int x6)] → WC E p l e (gRm 6 (cBx Gz) (cBs Gz)) s m args below meth c H locs (MQ below (gQ (some (.int r)) (gC E G') (gx_C E)) args s (cBx Gz) (cBs Gz) (gx_C E)) (F0 m 8 ls []) := by
    intro n8
    induction n8 with
    | zero =>
      intro x0 x1 x3 x5 x6 G H locs ls h
      cases h
    | succ n8 ih8 =>
      have J58 : ∀ (x0 : Nat) (x1 : Int64) (x3 : Int64) (x5 : Int32) (x6 : Int32) (G : GH) (H : Heap) (locs : List Loc) (ls : Array Slot), cm_X1_among_J58 (cm_X1_among_L8 n8) x0 x1 x3 x5 x6 G = some (r, G') → gC E G H → va_S (gx_C E) s.heap H locs → lv_has ls 7 [(0, .ref x0), (1, .long x1), (3, .long x3), (5, .int x5), (6, .int x6)] → WC E p l e (gRm 6 (cBx Gz) (cBs Gz)) s m args below meth c H locs (MQ below (gQ (some (.int r)) (gC E G') (gx_C E)) args s (cBx Gz) (cBs Gz) (gx_C E)) (F0 m 58 ls []) := by
        intro x0 x1 x3 x5 x6 G H locs ls h hG hS hl
        unfold cm_X1_among_J58 at h
        refine lv_iinc (k := 4) (v := (x6 + 1)) (lv' := [(6, .int (x6 + 1)), (0, .ref x0), (1, .long x1), (3, .long x3), (5, .int x5)]) hx hb dX1_among_58 hl rfl rfl (by decide) rfl (fun ls hl => ?_)
        refine lv_goto (tgt := 8) hx hb dX1_among_61 (by decide) ?_
        exact ih8 x0 x1 x3 x5 (x6 + 1) G _ _ _ h hG hS (lv_sub hl [1, 2, 3, 4, 0] rfl)
      intro x0 x1 x3 x5 x6 G H locs ls h hG hS hl
      have h : cm_X1_among_B8 (cm_X1_among_L8 n8) x0 x1 x3 x5 x6 G = some (r, G') := h
      unfold cm_X1_among_B8 at h
      refine lv_iload hx hb dX1_among_8 (lv_at hl 4 rfl) ?_
      refine lv_aload_n hx hb dX1_among_10 rfl (lv_at hl 0 rfl) ?_
      obtain ⟨u11, t11, h⟩ := g_bd h
      obtain ⟨v11, e11, h⟩ := g_bd h
      refine c_cV (y := yJ9_length) (rest := [.int x6]) dX1_among_11 q796 q481 q482 q131 q483 hc_J9_length rfl S hE hG hS hC0 hl.1 rfl (c_recvS hE hG (c_castM t11)) (wm_J9_length E l x0 G _ e11) rfl (Nat.le_of_ble_eq_true rfl) ⟨Nat.le_of_ble_eq_true rfl, Nat.le_of_ble_eq_true rfl⟩ (fun H locs hG hS => ?_)
      refine lv_icmp_ge (tgt := 64) hx hb dX1_among_14 (by decide) (fun c14 => ?_) (fun c14 => ?_)
      · have h := g_it c14 h
        refine lv_iconst (v := (-1)) hx hb dX1_among_64 (by decide) ?_
        exact c_iretW dX1_among_65 S hr hk hC0 hG hS h
      · have h := g_if c14 h
        refine lv_aload_n hx hb dX1_among_17 rfl (lv_at hl 0 rfl) ?_
        refine lv_iload hx hb dX1_among_18 (lv_at hl 4 rfl) ?_
        obtain ⟨u20, t20, h⟩ := g_bd h
        obtain ⟨qx20, e20, h⟩ := g_bd h
        refine c_cV (y := yJ9_charAt) (rest := []) dX1_among_20 q797 q798 q799 q131 q800 hc_J9_charAt rfl S hE hG hS hC0 hl.1 rfl (c_recvS hE hG (c_castM t20)) (wm_J9_charAt E l x0 x6 G _ _ e20) rfl (Nat.le_of_ble_eq_true rfl) ⟨Nat.le_of_ble_eq_true rfl, Nat.le_of_ble_eq_true rfl⟩ (fun H locs hG hS => ?_)
        refine lv_bipush (v := 32) hx hb dX1_among_23 (by decide) ?_
        refine lv_icmp_eq (tgt := 44) hx hb dX1_among_25 (by decide) (fun c25 => ?_) (fun c25 => ?_)
        · have h := g_it c25 h
          refine lv_lload_n hx hb dX1_among_44 rfl (lv_at hl 2 rfl) ?_
          refine lv_lload_n hx hb dX1_among_45 rfl (lv_at hl 1 rfl) ?_
          refine W.lcmp hx hb dX1_among_46 ?_
          refine lv_if_ne (tgt := 53) hx hb dX1_among_47 (by decide) (fun c47 => ?_) (fun c47 => ?_)
          · have h := g_if c47 h
            refine lv_lconst (v := 0) hx hb dX1_among_53 rfl ?_
            refine lv_lstore_n (lv' := [(3, .long 0), (0, .ref x0), (1, .long x1), (5, .int x5), (6, .int x6)]) hx hb dX1_among_54 rfl hl (by decide) rfl (fun ls hl => ?_)
            refine lv_iinc (k := 3) (v := (x5 + 1)) (lv' := [(5, .int (x5 + 1)), (3, .long 0), (0, .ref x0), (1, .long x1), (6, .int x6)]) hx hb dX1_among_55 hl rfl rfl (by decide) rfl (fun ls hl => ?_)
            exact J58 x0 x1 0 (x5 + 1) x6 qx20.2 _ _ _ h hG hS (lv_sub hl [2, 3, 1, 0, 4] rfl)
          · have h := g_it c47 h
            refine lv_iload hx hb dX1_among_50 (lv_at hl 3 rfl) ?_
            exact c_iretW dX1_among_52 S hr hk hC0 hG hS h
        · have h := g_if c25 h
          refine lv_lload_n hx hb dX1_among_28 rfl (lv_at hl 2 rfl) ?_
          refine lv_bipush (v := 8) hx hb dX1_among_29 (by decide) ?_
          refine lv_lshl (v := (x3 <<< ((8 : Int32).toInt64 &&& 63))) hx hb dX1_among_31 rfl ?_
          refine lv_aload_n hx hb dX1_among_32 rfl (lv_at hl 0 rfl) ?_
          refine lv_iload hx hb dX1_among_33 (lv_at hl 4 rfl) ?_
          obtain ⟨u35, t35, h⟩ := g_bd h
          obtain ⟨qx35, e35, h⟩ := g_bd h
          refine c_cV (y := yJ9_charAt) (rest := [.long (x3 <<< ((8 : Int32).toInt64 &&& 63))]) dX1_among_35 q797 q798 q799 q131 q800 hc_J9_charAt rfl S hE hG hS hC0 hl.1 rfl (c_recvS hE hG (c_castM t35)) (wm_J9_charAt E l x0 x6 qx20.2 _ _ e35) rfl (Nat.le_of_ble_eq_true rfl) ⟨Nat.le_of_ble_eq_true rfl, Nat.le_of_ble_eq_true rfl⟩ (fun H locs hG hS => ?_)
          refine lv_i2l (v := qx35.1.toInt64) hx hb dX1_among_38 rfl ?_
          refine lv_lor hx hb dX1_among_39 ?_
          refine lv_lstore_n (lv' := [(3, .long ((x3 <<< ((8 : Int32).toInt64 &&& 63)) ||| qx35.1.toInt64)), (0, .ref x0), (1, .long x1), (5, .int x5), (6, .int x6)]) hx hb dX1_among_40 rfl hl (by decide) rfl (fun ls hl => ?_)
          refine lv_goto (tgt := 58) hx hb dX1_among_41 (by decide) ?_
          exact J58 x0 x1 ((x3 <<< ((8 : Int32).toInt64 &&& 63)) ||| qx35.1.toInt64) x5 x6 qx35.2 _ _ _ h hG hS (lv_sub hl [1, 2, 0, 3, 4] rfl)
  unfold cm_X1_among at h
  refine lv_lconst (v := 0) hx hb dX1_among_0 rfl ?_
  refine lv_lstore_n (lv' := [(3, .long 0), (0, .ref x0), (1, .long x1)]) hx hb dX1_among_1 rfl hl (by decide) rfl (fun ls hl => ?_)
  refine lv_iconst (v := 0) hx hb dX1_among_2 (by decide) ?_
  refine lv_istore (lv' := [(5, .int 0), (3, .long 0), (0, .ref x0), (1, .long x1)]) hx hb dX1_among_3 hl (by decide) rfl (fun ls hl => ?_)
  refine lv_iconst (v := 0) hx hb dX1_among_5 (by decide) ?_
  refine lv_istore (lv' := [(6, .int 0), (5, .int 0), (3, .long 0), (0, .ref x0), (1, .long x1)]) hx hb dX1_among_6 hl (by decide) rfl (fun ls hl => ?_)
  exact L8 gF x0 x1 0 0 0 Gz _ _ _ h hG hS (lv_sub hl [3, 4, 2, 1, 0] rfl)
theorem hc_J6_size : cHd yJ6_size 0 := by decide +kernel
set_option maxHeartbeats 4000000 in
set_option maxRecDepth 100000 in
theorem wm_J6_size (E : gX) (l : Launch) (x0 : Nat) (Gz : GH) (r : Int32) (h : cm_J6_size x0 Gz = some r) : gMetC E l yJ6_size cJ6_size 1 (some Jvm.ClassFile.FieldType.int) 2 [.ref x0] Gz Gz (some (.int r)) := by
  refine gMetC.of (own := RJ6) (by decide +kernel) (Nat.le_of_ble_eq_true rfl) rfl ?_
  intro p e s m args below meth c S hr hk hnm hE hC0 hG hS ls hl
  have hl : lv_has ls 1 [(0, .ref x0)] := hl
  have hx := S.1
  have hb := S.2.1
  unfold cm_J6_size at h
  refine lv_aload_n hx hb dJ6_size_0 rfl (lv_at hl 0 rfl) ?_
  obtain ⟨v1, e1, h⟩ := g_bd h
  refine cg_J6_48 dJ6_size_1 S hE hG e1 ?_
  exact c_iretR dJ6_size_4 S hr hk hC0 hG hS h
theorem hc_X8_clear : cHd yX8_clear 0 := by decide +kernel
set_option maxHeartbeats 4000000 in
set_option maxRecDepth 100000 in
theorem wm_X8_clear (E : gX) (l : Launch) (x0 : Nat) (Gz G' : GH) (h : cm_X8_clear x0 Gz = some G') : gMetC E l yX8_clear cX8_clear 2 none 2 [.ref x0] Gz G' none := by
  refine gMetC.of (own := RX8) (by decide +kernel) (Nat.le_of_ble_eq_true rfl) rfl ?_
  intro p e s m args below meth c S hr hk hnm hE hC0 hG hS ls hl
  have hl : lv_has ls 2 [(0, .ref x0)] := hl
  have hx := S.1
  have hb := S.2.1
  have L22 : ∀ (n : Nat) (x0 : Nat) (x1 : Int32) (G : GH) (H : Heap) (locs : List Loc) (ls : Array Slot), cm_X8_clear_L22 n x0 x1 G = some G' → gC E G H → va_S (gx_C E) s.heap H locs → lv_has ls 2 [(0, .ref x0), (1, .int x1)] → WC E p l e (gRm 2 (cBx Gz) (cBs Gz)) s m args below meth c H locs (MQ below (gQ none (gC E G') (gx_C E)) args s (cBx Gz) (cBs Gz) (gx_C E)) (F0 m 22 ls []) := by
    intro n22
    induction n22 with
    | zero =>
      intro x0 x1 G H locs ls h
      cases h
    | succ n22 ih22 =>
      intro x0 x1 G H locs ls h hG hS hl
      have h : cm_X8_clear_B22 (cm_X8_clear_L22 n22) x0 x1 G = some G' := h
      unfold cm_X8_clear_B22 at h
      refine lv_iload_n hx hb dX8_clear_22 rfl (lv_at hl 1 rfl) ?_
      refine lv_bipush (v := 6) hx hb dX8_clear_23 (by decide) ?_
      refine lv_icmp_ge (tgt := 41) hx hb dX8_clear_25 (by decide) (fun c25 => ?_) (fun c25 => ?_)
      · have h := g_it c25 h
        refine lv_aload_n hx hb dX8_clear_41 rfl (lv_at hl 0 rfl) ?_
        refine lv_iconst (v := 0) hx hb dX8_clear_42 (by decide) ?_
        obtain ⟨G43, e43, h⟩ := g_bd h
        refine cp_X8_53 dX8_clear_43 S hE hG hS hC0 e43 (fun H locs hG hS => ?_)
        refine lv_aload_n hx hb dX8_clear_46 rfl (lv_at hl 0 rfl) ?_
        refine lv_iconst (v := 0) hx hb dX8_clear_47 (by decide) ?_
        obtain ⟨G48, e48, h⟩ := g_bd h
        refine cp_X8_43 dX8_clear_48 S hE hG hS hC0 e48 (fun H locs hG hS => ?_)
        refine lv_aload_n hx hb dX8_clear_51 rfl (lv_at hl 0 rfl) ?_
        refine lv_iconst (v := 0) hx hb dX8_clear_52 (by decide) ?_
        obtain ⟨G53, e53, h⟩ := g_bd h
        refine cp_X8_56 dX8_clear_53 S hE hG hS hC0 e53 (fun H locs hG hS => ?_)
        refine lv_aload_n hx hb dX8_clear_56 rfl (lv_at hl 0 rfl) ?_
        refine lv_iconst (v := 0) hx hb dX8_clear_57 (by decide) ?_
        obtain ⟨G58, e58, h⟩ := g_bd h
        refine cp_X8_60 dX8_clear_58 S hE hG hS hC0 e58 (fun H locs hG hS => ?_)
        refine lv_aload_n hx hb dX8_clear_61 rfl (lv_at hl 0 rfl) ?_
        refine lv_iconst (v := 0) hx hb dX8_clear_62 (by decide) ?_
        obtain ⟨G63, e63, h⟩ := g_bd h
        refine cp_X8_63 dX8_clear_63 S hE hG hS hC0 e63 (fun H locs hG hS => ?_)
        refine lv_aload_n hx hb dX8_clear_66 rfl (lv_at hl 0 rfl) ?_
        refine lv_iconst (v := 0) hx hb dX8_clear_67 (by decide) ?_
        obtain ⟨G68, e68, h⟩ := g_bd h
        refine cp_X8_66 dX8_clear_68 S hE hG hS hC0 e68 (fun H locs hG hS => ?_)
        exact c_vretW dX8_clear_71 S hr hk hC0 hG hS h
      · have h := g_if c25 h
        refine lv_aload_n hx hb dX8_clear_28 rfl (lv_at hl 0 rfl) ?_
        obtain ⟨v29, e29, h⟩ := g_bd h
        refine cg_X8_22 dX8_clear_29 S hE hG e29 ?_
        refine lv_iload_n hx hb dX8_clear_32 rfl (lv_at hl 1 rfl) ?_
        refine lv_iconst (v := 0) hx hb dX8_clear_33 (by decide) ?_
        obtain ⟨G34, e34, h⟩ := g_bd h
        refine c_astI dX8_clear_34 S hE hG hS hC0 e34 (fun H locs hG hS => ?_)
        refine lv_iinc (k := 1) (v := (x1 + 1)) (lv' := [(1, .int (x1 + 1)), (0, .ref x0)]) hx hb dX8_clear_35 hl rfl rfl (by decide) rfl (fun ls hl => ?_)
        refine lv_goto (tgt := 22) hx hb dX8_clear_38 (by decide) ?_
        exact ih22 x0 (x1 + 1) G34 _ _ _ h hG hS (lv_sub hl [1, 0] rfl)
  have L2 : ∀ (n : Nat) (x0 : Nat) (x1 : Int32) (G : GH) (H : Heap) (locs : List Loc) (ls : Array Slot), cm_X8_clear_L2 n x0 x1 G = some G' → gC E G H → va_S (gx_C E) s.heap H locs → lv_has ls 2 [(0, .ref x0), (1, .int x1)] → WC E p l e (gRm 2 (cBx Gz) (cBs Gz)) s m args below meth c H locs (MQ below (gQ none (gC E G') (gx_C E)) args s (cBx Gz) (cBs Gz) (gx_C E)) (F0 m 2 ls []) := by
    intro n2
    induction n2 with
    | zero =>
      intro x0 x1 G H locs ls h
      cases h
    | succ n2 ih2 =>
      intro x0 x1 G H locs ls h hG hS hl
      have h : cm_X8_clear_B2 (cm_X8_clear_L2 n2) x0 x1 G = some G' := h
      unfold cm_X8_clear_B2 at h
      refine lv_iload_n hx hb dX8_clear_2 rfl (lv_at hl 1 rfl) ?_
      refine lv_iconst (v := 4) hx hb dX8_clear_3 (by decide) ?_
      refine lv_icmp_ge (tgt := 20) hx hb dX8_clear_4 (by decide) (fun c4 => ?_) (fun c4 => ?_)
      · have h := g_it c4 h
        refine lv_iconst (v := 0) hx hb dX8_clear_20 (by decide) ?_
        refine lv_istore_n (lv' := [(1, .int 0), (0, .ref x0)]) hx hb dX8_clear_21 rfl hl (by decide) rfl (fun ls hl => ?_)
        exact L22 gF x0 0 G _ _ _ h hG hS (lv_sub hl [1, 0] rfl)
      · have h := g_if c4 h
        refine lv_aload_n hx hb dX8_clear_7 rfl (lv_at hl 0 rfl) ?_
        obtain ⟨v8, e8, h⟩ := g_bd h
        refine cg_X8_18 dX8_clear_8 S hE hG e8 ?_
        refine lv_iload_n hx hb dX8_clear_11 rfl (lv_at hl 1 rfl) ?_
        refine lv_iconst (v := 0) hx hb dX8_clear_12 (by decide) ?_
        obtain ⟨G13, e13, h⟩ := g_bd h
        refine c_astI dX8_clear_13 S hE hG hS hC0 e13 (fun H locs hG hS => ?_)
        refine lv_iinc (k := 1) (v := (x1 + 1)) (lv' := [(1, .int (x1 + 1)), (0, .ref x0)]) hx hb dX8_clear_14 hl rfl rfl (by decide) rfl (fun ls hl => ?_)
        refine lv_goto (tgt := 2) hx hb dX8_clear_17 (by decide) ?_
        exact ih2 x0 (x1 + 1) G13 _ _ _ h hG hS (lv_sub hl [1, 0] rfl)
  unfold cm_X8_clear at h
  refine lv_iconst (v := 0) hx hb dX8_clear_0 (by decide) ?_
  refine lv_istore_n (lv' := [(1, .int 0), (0, .ref x0)]) hx hb dX8_clear_1 rfl hl (by decide) rfl (fun ls hl => ?_)
  exact L2 gF x0 0 Gz _ _ _ h hG hS (lv_sub hl [1, 0] rfl)
theorem hc_X1_goals : cHd yX1_goals 1 := by decide +kernel
set_option maxHeartbeats 4000000 in
set_option maxRecDepth 100000 in
theorem wm_X1_goals (E : gX) (l : Launch) (x0 : Nat) (Gz G' : GH) (h : cm_X1_goals x0 Gz = some G') : gMetC E l yX1_goals cX1_goals 2 none 3 [.ref x0] Gz G' none := by
  refine gMetC.of (own := RX1) (by decide +kernel) (Nat.le_of_ble_eq_true rfl) rfl ?_
  intro p e s m args below meth c S hr hk hnm hE hC0 hG hS ls hl
  have hl : lv_has ls 2 [(0, .ref x0)] := hl
  have hx := S.1
  have hb := S.2.1
  have J22 : ∀ (x0 : Nat) (G : GH) (H : Heap) (locs : List Loc) (ls : Array Slot), cm_X1_goals_J22 x0 G = some G' → gC E G H → va_S (gx_C E) s.heap H locs → lv_has ls 2 [(0, .ref x0)] → WC E p l e (gRm 3 (cBx Gz) (cBs Gz)) s m args below meth c H locs (MQ below (gQ none (gC E G') (gx_C E)) args s (cBx Gz) (cBs Gz) (gx_C E)) (F0 m 22 ls []) := by
    intro x0 G H locs ls h hG hS hl
    unfold cm_X1_goals_J22 at h
    refine lv_aload_n hx hb dX1_goals_22 rfl (lv_at hl 0 rfl) ?_
    obtain ⟨v23, e23, h⟩ := g_bd h
    refine ci_X1_178 dX1_goals_23 S hE hG e23 ?_
    refine lv_if_eq (tgt := 44) hx hb dX1_goals_26 (by decide) (fun c26 => ?_) (fun c26 => ?_)
    · have h := g_it c26 h
      exact c_vretW dX1_goals_44 S hr hk hC0 hG hS h
    · have h := g_if c26 h
      refine lv_aload_n hx hb dX1_goals_29 rfl (lv_at hl 0 rfl) ?_
      obtain ⟨u30, e30, h⟩ := g_bd h
      refine ck_X1_178 dX1_goals_30 S hE hG e30 ?_
      refine lv_astore_n (lv' := [(1, .ref x0), (0, .ref x0)]) hx hb dX1_goals_33 rfl hl (by decide) rfl (fun ls hl => ?_)
      refine lv_aload_n hx hb dX1_goals_34 rfl (lv_at hl 0 rfl) ?_
      obtain ⟨v35, e35, h⟩ := g_bd h
      refine wd_Lifts_hoist (rest := []) q1737 dX1_goals_35 S hE hG hS hC0 hl.1 e35 rfl (Nat.le_of_ble_eq_true rfl) (by decide) (fun H locs hG hS => ?_)
      refine lv_iconst (v := 0) hx hb dX1_goals_40 (by decide) ?_
      obtain ⟨G41, e41, h⟩ := g_bd h
      refine cp_X1_207 dX1_goals_41 S hE hG hS hC0 e41 (fun H locs hG hS => ?_)
      exact c_vretW dX1_goals_44 S hr hk hC0 hG hS h
  unfold cm_X1_goals at h
  refine lv_aload_n hx hb dX1_goals_0 rfl (lv_at hl 0 rfl) ?_
  obtain ⟨v1, e1, h⟩ := g_bd h
  refine ci_X1_167 dX1_goals_1 S hE hG e1 ?_
  refine lv_if_eq (tgt := 22) hx hb dX1_goals_4 (by decide) (fun c4 => ?_) (fun c4 => ?_)
  · have h := g_it c4 h
    exact J22 x0 Gz _ _ _ h hG hS (lv_sub hl [0] rfl)
  · have h := g_if c4 h
    refine lv_aload_n hx hb dX1_goals_7 rfl (lv_at hl 0 rfl) ?_
    obtain ⟨u8, e8, h⟩ := g_bd h
    refine ck_X1_167 dX1_goals_8 S hE hG e8 ?_
    refine lv_astore_n (lv' := [(1, .ref x0), (0, .ref x0)]) hx hb dX1_goals_11 rfl hl (by decide) rfl (fun ls hl => ?_)
    refine lv_aload_n hx hb dX1_goals_12 rfl (lv_at hl 0 rfl) ?_
    obtain ⟨v13, e13, h⟩ := g_bd h
    refine wd_Turns_spin (rest := []) q1734 dX1_goals_13 S hE hG hS hC0 hl.1 e13 rfl (Nat.le_of_ble_eq_true rfl) (by decide) (fun H locs hG hS => ?_)
    refine lv_iconst (v := 0) hx hb dX1_goals_18 (by decide) ?_
    obtain ⟨G19, e19, h⟩ := g_bd h
    refine cp_X1_204 dX1_goals_19 S hE hG hS hC0 e19 (fun H locs hG hS => ?_)
    exact J22 x0 G19 _ _ _ h hG hS (lv_sub hl [1] rfl)
theorem hc_X16_light : cHd yX16_light 0 := by decide +kernel
set_option maxHeartbeats 4000000 in
set_option maxRecDepth 100000 in
theorem wm_X16_light (E : gX) (l : Launch) (x0 : Nat) (Gz : GH) (r : Nat) (h : cm_X16_light x0 Gz = some r) : gMetC E l yX16_light cX16_light 1 (some (Jvm.ClassFile.FieldType.object "FairHouse$Light")) 2 [.ref x0] Gz Gz (some (.ref r)) := by
  refine gMetC.of (own := RX16) (by decide +kernel) (Nat.le_of_ble_eq_true rfl) rfl ?_
  intro p e s m args below meth c S hr hk hnm hE hC0 hG hS ls hl
  have hl : lv_has ls 1 [(0, .ref x0)] := hl
  have hx := S.1
  have hb := S.2.1
  unfold cm_X16_light at h
  refine lv_aload_n hx hb dX16_light_0 rfl (lv_at hl 0 rfl) ?_
  obtain ⟨v1, e1, h⟩ := g_bd h
  refine cg_X16_10 dX16_light_1 S hE hG e1 ?_
  exact c_aretR dX16_light_4 (Or.inl ⟨_, rfl⟩) S hr hk hC0 hG hS h
theorem hc_X18_light : cHd yX18_light 0 := by decide +kernel
set_option maxHeartbeats 4000000 in
set_option maxRecDepth 100000 in
theorem wm_X18_light (E : gX) (l : Launch) (x0 : Nat) (Gz : GH) (r : Nat) (h : cm_X18_light x0 Gz = some r) : gMetC E l yX18_light cX18_light 1 (some (Jvm.ClassFile.FieldType.object "FairHouse$Light")) 2 [.ref x0] Gz Gz (some (.ref r)) := by
  refine gMetC.of (own := RX18) (by decide +kernel) (Nat.le_of_ble_eq_true rfl) rfl ?_
  intro p e s m args below meth c S hr hk hnm hE hC0 hG hS ls hl
  have hl : lv_has ls 1 [(0, .ref x0)] := hl
  have hx := S.1
  have hb := S.2.1
  unfold cm_X18_light at h
  refine lv_aload_n hx hb dX18_light_0 rfl (lv_at hl 0 rfl) ?_
  obtain ⟨v1, e1, h⟩ := g_bd h
  refine cg_X18_30 dX18_light_1 S hE hG e1 ?_
  exact c_aretR dX18_light_4 (Or.inl ⟨_, rfl⟩) S hr hk hC0 hG hS h
theorem hc_X19_light : cHd yX19_light 0 := by decide +kernel
set_option maxHeartbeats 4000000 in
set_option maxRecDepth 100000 in
theorem wm_X19_light (E : gX) (l : Launch) (x0 : Nat) (Gz : GH) (r : Nat) (h : cm_X19_light x0 Gz = some r) : gMetC E l yX19_light cX19_light 1 (some (Jvm.ClassFile.FieldType.object "FairHouse$Light")) 2 [.ref x0] Gz Gz (some (.ref r)) := by
  refine gMetC.of (own := RX19) (by decide +kernel) (Nat.le_of_ble_eq_true rfl) rfl ?_
  intro p e s m args below meth c S hr hk hnm hE hC0 hG hS ls hl
  have hl : lv_has ls 1 [(0, .ref x0)] := hl
  have hx := S.1
  have hb := S.2.1
  unfold cm_X19_light at h
  refine lv_aload_n hx hb dX19_light_0 rfl (lv_at hl 0 rfl) ?_
  obtain ⟨v1, e1, h⟩ := g_bd h
  refine cg_X19_28 dX19_light_1 S hE hG e1 ?_
  exact c_aretR dX19_light_4 (Or.inl ⟨_, rfl⟩) S hr hk hC0 hG hS h
theorem hc_X20_light : cHd yX20_light 0 := by decide +kernel
set_option maxHeartbeats 4000000 in
set_option maxRecDepth 100000 in
theorem wm_X20_light (E : gX) (l : Launch) (x0 : Nat) (Gz : GH) (r : Nat) (h : cm_X20_light x0 Gz = some r) : gMetC E l yX20_light cX20_light 1 (some (Jvm.ClassFile.FieldType.object "FairHouse$Light")) 2 [.ref x0] Gz Gz (some (.ref r)) := by
  refine gMetC.of (own := RX20) (by decide +kernel) (Nat.le_of_ble_eq_true rfl) rfl ?_
  intro p e s m args below meth c S hr hk hnm hE hC0 hG hS ls hl
  have hl : lv_has ls 1 [(0, .ref x0)] := hl
  have hx := S.1
  have hb := S.2.1
  unfold cm_X20_light at h
  refine lv_aload_n hx hb dX20_light_0 rfl (lv_at hl 0 rfl) ?_
  obtain ⟨v1, e1, h⟩ := g_bd h
  refine cg_X20_44 dX20_light_1 S hE hG e1 ?_
  exact c_aretR dX20_light_4 (Or.inl ⟨_, rfl⟩) S hr hk hC0 hG hS h
section DSP
variable {p : Program} {l : Launch} {e : Env} {R : Room} {s : State} {m : MethodId} {args : Array Value} {below : List Frame} {meth : Method} {c : Code} {H : Heap} {locs : List Loc} {cells slots : Nat} {Q : State → Prop}
variable {cc : ByteArray} {pc nL lev0 : Nat} {ls : Array Slot} {rest st : List Value} {E : gX} {G Gz G1 : GH}
theorem hx_Lamps_light : cHd ⟨"FairHouse$Lamps", "light", "()LFairHouse$Light;"⟩ 0 := by decide +kernel
set_option maxHeartbeats 4000000 in
set_option maxRecDepth 100000 in
theorem wd_Lamps_light {own : String} {a idx count : Nat} {r : Nat} (w1 : Cond.methodLink own idx ⟨"FairHouse$Lamps", "light", "()LFairHouse$Light;"⟩ ∈ lw_all) (hdg : decode cc pc = .ok (.invokeinterface idx count, 5)) (S : CallFix p m c cc nL s args lw_all own) (hE : gEnv E s) (hG : gC E G H) (hS : va_S (gx_C E) s.heap H locs) (hC0 : gC E Gz s.heap) (hls : ls.size = nL) (h : cd_Lamps_light a G = some r) (hst : st = [] ++ .ref a :: rest) (hW : (rest.map fun v => v.category).sum ≤ 8) (hroom : 2 + 1 ≤ lev0)
    (kk : ∀ (H1 : Heap) (locs1 : List Loc), gC E G H1 → va_S (gx_C E) s.heap H1 locs1 → WC E p l e (gRm lev0 (cBx Gz) (cBs Gz)) s m args below meth c H1 locs1 Q (F0 m (pc + 5) ls (.ref r :: rest))) : WC E p l e (gRm lev0 (cBx Gz) (cBs Gz)) s m args below meth c H locs Q (F0 m pc ls st) := by
  unfold cd_Lamps_light at h
  by_cases c23 : cT G a = 23
  · have h := g_it c23 h
    exact c_cF (y := yX16_light) (As := []) 1 rfl hdg w1 q1775 q1773 q158 q1777 hx_Lamps_light S hE hG hS hC0 hls rfl (hE.K.1 22 _ rfl).2 (c_recv hE hG (ci := 22) rfl (by decide) c23) (wm_X16_light E l a G _ h) hst hW ⟨by omega, by omega⟩ (fun H1 locs1 h1 h2 => kk H1 locs1 h1 h2)
  have h := g_if c23 h
  by_cases c25 : cT G a = 25
  · have h := g_it c25 h
    exact c_cF (y := yX18_light) (As := []) 2 rfl hdg w1 q1781 q1779 q160 q1783 hx_Lamps_light S hE hG hS hC0 hls rfl (hE.K.1 24 _ rfl).2 (c_recv hE hG (ci := 24) rfl (by decide) c25) (wm_X18_light E l a G _ h) hst hW ⟨by omega, by omega⟩ (fun H1 locs1 h1 h2 => kk H1 locs1 h1 h2)
  have h := g_if c25 h
  by_cases c26 : cT G a = 26
  · have h := g_it c26 h
    exact c_cF (y := yX19_light) (As := []) 3 rfl hdg w1 q1787 q1785 q161 q1789 hx_Lamps_light S hE hG hS hC0 hls rfl (hE.K.1 25 _ rfl).2 (c_recv hE hG (ci := 25) rfl (by decide) c26) (wm_X19_light E l a G _ h) hst hW ⟨by omega, by omega⟩ (fun H1 locs1 h1 h2 => kk H1 locs1 h1 h2)
  have h := g_if c26 h
  by_cases c27 : cT G a = 27
  · have h := g_it c27 h
    exact c_cF (y := yX20_light) (As := []) 4 rfl hdg w1 q1793 q1791 q162 q1795 hx_Lamps_light S hE hG hS hC0 hls rfl (hE.K.1 26 _ rfl).2 (c_recv hE hG (ci := 26) rfl (by decide) c27) (wm_X20_light E l a G _ h) hst hW ⟨by omega, by omega⟩ (fun H1 locs1 h1 h2 => kk H1 locs1 h1 h2)
  have h := g_if c27 h
  cases h
end DSP
theorem hc_X14_voice : cHd yX14_voice 0 := by decide +kernel
set_option maxHeartbeats 4000000 in
set_option maxRecDepth 100000 in
theorem wm_X14_voice (E : gX) (l : Launch) (x0 : Nat) (Gz : GH) (r : Nat) (h : cm_X14_voice x0 Gz = some r) : gMetC E l yX14_voice cX14_voice 1 (some (Jvm.ClassFile.FieldType.object "FairHouse$Voice")) 2 [.ref x0] Gz Gz (some (.ref r)) := by
  refine gMetC.of (own := RX14) (by decide +kernel) (Nat.le_of_ble_eq_true rfl) rfl ?_
  intro p e s m args below meth c S hr hk hnm hE hC0 hG hS ls hl
  have hl : lv_has ls 1 [(0, .ref x0)] := hl
  have hx := S.1
  have hb := S.2.1
  unfold cm_X14_voice at h
  refine lv_aload_n hx hb dX14_voice_0 rfl (lv_at hl 0 rfl) ?_
  obtain ⟨v1, e1, h⟩ := g_bd h
  refine cg_X14_12 dX14_voice_1 S hE hG e1 ?_
  exact c_aretR dX14_voice_4 (Or.inl ⟨_, rfl⟩) S hr hk hC0 hG hS h
theorem hc_X18_voice : cHd yX18_voice 0 := by decide +kernel
set_option maxHeartbeats 4000000 in
set_option maxRecDepth 100000 in
theorem wm_X18_voice (E : gX) (l : Launch) (x0 : Nat) (Gz : GH) (r : Nat) (h : cm_X18_voice x0 Gz = some r) : gMetC E l yX18_voice cX18_voice 1 (some (Jvm.ClassFile.FieldType.object "FairHouse$Voice")) 2 [.ref x0] Gz Gz (some (.ref r)) := by
  refine gMetC.of (own := RX18) (by decide +kernel) (Nat.le_of_ble_eq_true rfl) rfl ?_
  intro p e s m args below meth c S hr hk hnm hE hC0 hG hS ls hl
  have hl : lv_has ls 1 [(0, .ref x0)] := hl
  have hx := S.1
  have hb := S.2.1
  unfold cm_X18_voice at h
  refine lv_aload_n hx hb dX18_voice_0 rfl (lv_at hl 0 rfl) ?_
  obtain ⟨v1, e1, h⟩ := g_bd h
  refine cg_X18_12 dX18_voice_1 S hE hG e1 ?_
  exact c_aretR dX18_voice_4 (Or.inl ⟨_, rfl⟩) S hr hk hC0 hG hS h
theorem hc_X19_voice : cHd yX19_voice 0 := by decide +kernel
set_option maxHeartbeats 4000000 in
set_option maxRecDepth 100000 in
theorem wm_X19_voice (E : gX) (l : Launch) (x0 : Nat) (Gz : GH) (r : Nat) (h : cm_X19_voice x0 Gz = some r) : gMetC E l yX19_voice cX19_voice 1 (some (Jvm.ClassFile.FieldType.object "FairHouse$Voice")) 2 [.ref x0] Gz Gz (some (.ref r)) := by
  refine gMetC.of (own := RX19) (by decide +kernel) (Nat.le_of_ble_eq_true rfl) rfl ?_
  intro p e s m args below meth c S hr hk hnm hE hC0 hG hS ls hl
  have hl : lv_has ls 1 [(0, .ref x0)] := hl
  have hx := S.1
  have hb := S.2.1
  unfold cm_X19_voice at h
  refine lv_aload_n hx hb dX19_voice_0 rfl (lv_at hl 0 rfl) ?_
  obtain ⟨v1, e1, h⟩ := g_bd h
  refine cg_X19_12 dX19_voice_1 S hE hG e1 ?_
  exact c_aretR dX19_voice_4 (Or.inl ⟨_, rfl⟩) S hr hk hC0 hG hS h
theorem hc_X20_voice : cHd yX20_voice 0 := by decide +kernel
set_option maxHeartbeats 4000000 in
set_option maxRecDepth 100000 in
theorem wm_X20_voice (E : gX) (l : Launch) (x0 : Nat) (Gz : GH) (r : Nat) (h : cm_X20_voice x0 Gz = some r) : gMetC E l yX20_voice cX20_voice 1 (some (Jvm.ClassFile.FieldType.object "FairHouse$Voice")) 2 [.ref x0] Gz Gz (some (.ref r)) := by
  refine gMetC.of (own := RX20) (by decide +kernel) (Nat.le_of_ble_eq_true rfl) rfl ?_
  intro p e s m args below meth c S hr hk hnm hE hC0 hG hS ls hl
  have hl : lv_has ls 1 [(0, .ref x0)] := hl
  have hx := S.1
  have hb := S.2.1
  unfold cm_X20_voice at h
  refine lv_aload_n hx hb dX20_voice_0 rfl (lv_at hl 0 rfl) ?_
  obtain ⟨v1, e1, h⟩ := g_bd h
  refine cg_X20_12 dX20_voice_1 S hE hG e1 ?_
  exact c_aretR dX20_voice_4 (Or.inl ⟨_, rfl⟩) S hr hk hC0 hG hS h
section DSP
variable {p : Program} {l : Launch} {e : Env} {R : Room} {s : State} {m : MethodId} {args : Array Value} {below : List Frame} {meth : Method} {c : Code} {H : Heap} {locs : List Loc} {cells slots : Nat} {Q : State → Prop}
variable {cc : ByteArray} {pc nL lev0 : Nat} {ls : Array Slot} {rest st : List Value} {E : gX} {G Gz G1 : GH}
theorem hx_Sounds_voice : cHd ⟨"FairHouse$Sounds", "voice", "()LFairHouse$Voice;"⟩ 0 := by decide +kernel
set_option maxHeartbeats 4000000 in
set_option maxRecDepth 100000 in
theorem wd_Sounds_voice {own : String} {a idx count : Nat} {r : Nat} (w1 : Cond.methodLink own idx ⟨"FairHouse$Sounds", "voice", "()LFairHouse$Voice;"⟩ ∈ lw_all) (hdg : decode cc pc = .ok (.invokeinterface idx count, 5)) (S : CallFix p m c cc nL s args lw_all own) (hE : gEnv E s) (hG : gC E G H) (hS : va_S (gx_C E) s.heap H locs) (hC0 : gC E Gz s.heap) (hls : ls.size = nL) (h : cd_Sounds_voice a G = some r) (hst : st = [] ++ .ref a :: rest) (hW : (rest.map fun v => v.category).sum ≤ 8) (hroom : 2 + 1 ≤ lev0)
    (kk : ∀ (H1 : Heap) (locs1 : List Loc), gC E G H1 → va_S (gx_C E) s.heap H1 locs1 → WC E p l e (gRm lev0 (cBx Gz) (cBs Gz)) s m args below meth c H1 locs1 Q (F0 m (pc + 5) ls (.ref r :: rest))) : WC E p l e (gRm lev0 (cBx Gz) (cBs Gz)) s m args below meth c H locs Q (F0 m pc ls st) := by
  unfold cd_Sounds_voice at h
  by_cases c21 : cT G a = 21
  · have h := g_it c21 h
    exact c_cF (y := yX14_voice) (As := []) 39 rfl hdg w1 q1816 q1814 q156 q1818 hx_Sounds_voice S hE hG hS hC0 hls rfl (hE.K.1 20 _ rfl).2 (c_recv hE hG (ci := 20) rfl (by decide) c21) (wm_X14_voice E l a G _ h) hst hW ⟨by omega, by omega⟩ (fun H1 locs1 h1 h2 => kk H1 locs1 h1 h2)
  have h := g_if c21 h
  by_cases c25 : cT G a = 25
  · have h := g_it c25 h
    exact c_cF (y := yX18_voice) (As := []) 40 rfl hdg w1 q1804 q1802 q160 q1806 hx_Sounds_voice S hE hG hS hC0 hls rfl (hE.K.1 24 _ rfl).2 (c_recv hE hG (ci := 24) rfl (by decide) c25) (wm_X18_voice E l a G _ h) hst hW ⟨by omega, by omega⟩ (fun H1 locs1 h1 h2 => kk H1 locs1 h1 h2)
  have h := g_if c25 h
  by_cases c26 : cT G a = 26
  · have h := g_it c26 h
    exact c_cF (y := yX19_voice) (As := []) 41 rfl hdg w1 q1810 q1808 q161 q1812 hx_Sounds_voice S hE hG hS hC0 hls rfl (hE.K.1 25 _ rfl).2 (c_recv hE hG (ci := 25) rfl (by decide) c26) (wm_X19_voice E l a G _ h) hst hW ⟨by omega, by omega⟩ (fun H1 locs1 h1 h2 => kk H1 locs1 h1 h2)
  have h := g_if c26 h
  by_cases c27 : cT G a = 27
  · have h := g_it c27 h
    exact c_cF (y := yX20_voice) (As := []) 42 rfl hdg w1 q1822 q1820 q162 q1824 hx_Sounds_voice S hE hG hS hC0 hls rfl (hE.K.1 26 _ rfl).2 (c_recv hE hG (ci := 26) rfl (by decide) c27) (wm_X20_voice E l a G _ h) hst hW ⟨by omega, by omega⟩ (fun H1 locs1 h1 h2 => kk H1 locs1 h1 h2)
  have h := g_if c27 h
  cases h
end DSP
theorem hc_X1_dark : cHd yX1_dark 1 := by decide +kernel
set_option maxHeartbeats 4000000 in
set_option maxRecDepth 100000 in
theorem wm_X1_dark (E : gX) (l : Launch) (x0 : Nat) (Gz G' : GH) (h : cm_X1_dark x0 Gz = some G') : gMetC E l yX1_dark cX1_dark 2 none 3 [.ref x0] Gz G' none := by
  refine gMetC.of (own := RX1) (by decide +kernel) (Nat.le_of_ble_eq_true rfl) rfl ?_
  intro p e s m args below meth c S hr hk hnm hE hC0 hG hS ls hl
  have hl : lv_has ls 2 [(0, .ref x0)] := hl
  have hx := S.1
  have hb := S.2.1
  have J22 : ∀ (x0 : Nat) (G : GH) (H : Heap) (locs : List Loc) (ls : Array Slot), cm_X1_dark_J22 x0 G = some G' → gC E G H → va_S (gx_C E) s.heap H locs → lv_has ls 2 [(0, .ref x0)] → WC E p l e (gRm 3 (cBx Gz) (cBs Gz)) s m args below meth c H locs (MQ below (gQ none (gC E G') (gx_C E)) args s (cBx Gz) (cBs Gz) (gx_C E)) (F0 m 22 ls []) := by
    intro x0 G H locs ls h hG hS hl
    unfold cm_X1_dark_J22 at h
    refine lv_aload_n hx hb dX1_dark_22 rfl (lv_at hl 0 rfl) ?_
    obtain ⟨v23, e23, h⟩ := g_bd h
    refine ci_X1_219 dX1_dark_23 S hE hG e23 ?_
    refine lv_if_eq (tgt := 44) hx hb dX1_dark_26 (by decide) (fun c26 => ?_) (fun c26 => ?_)
    · have h := g_it c26 h
      exact c_vretW dX1_dark_44 S hr hk hC0 hG hS h
    · have h := g_if c26 h
      refine lv_aload_n hx hb dX1_dark_29 rfl (lv_at hl 0 rfl) ?_
      obtain ⟨u30, e30, h⟩ := g_bd h
      refine ck_X1_219 dX1_dark_30 S hE hG e30 ?_
      refine lv_astore_n (lv' := [(1, .ref x0), (0, .ref x0)]) hx hb dX1_dark_33 rfl hl (by decide) rfl (fun ls hl => ?_)
      refine lv_aload_n hx hb dX1_dark_34 rfl (lv_at hl 0 rfl) ?_
      obtain ⟨v35, e35, h⟩ := g_bd h
      refine wd_Sounds_voice (rest := []) q1798 dX1_dark_35 S hE hG hS hC0 hl.1 e35 rfl (Nat.le_of_ble_eq_true rfl) (by decide) (fun H locs hG hS => ?_)
      refine lv_iconst (v := 0) hx hb dX1_dark_40 (by decide) ?_
      obtain ⟨G41, e41, h⟩ := g_bd h
      refine cp_X1_225 dX1_dark_41 S hE hG hS hC0 e41 (fun H locs hG hS => ?_)
      exact c_vretW dX1_dark_44 S hr hk hC0 hG hS h
  unfold cm_X1_dark at h
  refine lv_aload_n hx hb dX1_dark_0 rfl (lv_at hl 0 rfl) ?_
  obtain ⟨v1, e1, h⟩ := g_bd h
  refine ci_X1_208 dX1_dark_1 S hE hG e1 ?_
  refine lv_if_eq (tgt := 22) hx hb dX1_dark_4 (by decide) (fun c4 => ?_) (fun c4 => ?_)
  · have h := g_it c4 h
    exact J22 x0 Gz _ _ _ h hG hS (lv_sub hl [0] rfl)
  · have h := g_if c4 h
    refine lv_aload_n hx hb dX1_dark_7 rfl (lv_at hl 0 rfl) ?_
    obtain ⟨u8, e8, h⟩ := g_bd h
    refine ck_X1_208 dX1_dark_8 S hE hG e8 ?_
    refine lv_astore_n (lv' := [(1, .ref x0), (0, .ref x0)]) hx hb dX1_dark_11 rfl hl (by decide) rfl (fun ls hl => ?_)
    refine lv_aload_n hx hb dX1_dark_12 rfl (lv_at hl 0 rfl) ?_
    obtain ⟨v13, e13, h⟩ := g_bd h
    refine wd_Lamps_light (rest := []) q1769 dX1_dark_13 S hE hG hS hC0 hl.1 e13 rfl (Nat.le_of_ble_eq_true rfl) (by decide) (fun H locs hG hS => ?_)
    refine lv_iconst (v := 0) hx hb dX1_dark_18 (by decide) ?_
    obtain ⟨G19, e19, h⟩ := g_bd h
    refine cp_X1_214 dX1_dark_19 S hE hG hS hC0 e19 (fun H locs hG hS => ?_)
    exact J22 x0 G19 _ _ _ h hG hS (lv_sub hl [1] rfl)
theorem hc_X7_bench : cHd yX7_bench 0 := by decide +kernel
set_option maxHeartbeats 4000000 in
set_option maxRecDepth 100000 in
theorem wm_X7_bench (E : gX) (l : Launch) (x0 : Nat) (Gz : GH) (r : Nat) (h : cm_X7_bench x0 Gz = some r) : gMetC E l yX7_bench cX7_bench 1 (some (Jvm.ClassFile.FieldType.object "FairHouse$Bench")) 2 [.ref x0] Gz Gz (some (.ref r)) := by
  refine gMetC.of (own := RX7) (by decide +kernel) (Nat.le_of_ble_eq_true rfl) rfl ?_
  intro p e s m args below meth c S hr hk hnm hE hC0 hG hS ls hl
  have hl : lv_has ls 1 [(0, .ref x0)] := hl
  have hx := S.1
  have hb := S.2.1
  unfold cm_X7_bench at h
  refine lv_aload_n hx hb dX7_bench_0 rfl (lv_at hl 0 rfl) ?_
  obtain ⟨v1, e1, h⟩ := g_bd h
  refine cg_X7_21 dX7_bench_1 S hE hG e1 ?_
  exact c_aretR dX7_bench_4 (Or.inl ⟨_, rfl⟩) S hr hk hC0 hG hS h
theorem hc_X11_bench : cHd yX11_bench 0 := by decide +kernel
set_option maxHeartbeats 4000000 in
set_option maxRecDepth 100000 in
theorem wm_X11_bench (E : gX) (l : Launch) (x0 : Nat) (Gz : GH) (r : Nat) (h : cm_X11_bench x0 Gz = some r) : gMetC E l yX11_bench cX11_bench 1 (some (Jvm.ClassFile.FieldType.object "FairHouse$Bench")) 2 [.ref x0] Gz Gz (some (.ref r)) := by
  refine gMetC.of (own := RX11) (by decide +kernel) (Nat.le_of_ble_eq_true rfl) rfl ?_
  intro p e s m args below meth c S hr hk hnm hE hC0 hG hS ls hl
  have hl : lv_has ls 1 [(0, .ref x0)] := hl
  have hx := S.1
  have hb := S.2.1
  unfold cm_X11_bench at h
  refine lv_aload_n hx hb dX11_bench_0 rfl (lv_at hl 0 rfl) ?_
  obtain ⟨v1, e1, h⟩ := g_bd h
  refine cg_X11_21 dX11_bench_1 S hE hG e1 ?_
  exact c_aretR dX11_bench_4 (Or.inl ⟨_, rfl⟩) S hr hk hC0 hG hS h
theorem hc_X13_bench : cHd yX13_bench 0 := by decide +kernel
set_option maxHeartbeats 4000000 in
set_option maxRecDepth 100000 in
theorem wm_X13_bench (E : gX) (l : Launch) (x0 : Nat) (Gz : GH) (r : Nat) (h : cm_X13_bench x0 Gz = some r) : gMetC E l yX13_bench cX13_bench 1 (some (Jvm.ClassFile.FieldType.object "FairHouse$Bench")) 2 [.ref x0] Gz Gz (some (.ref r)) := by
  refine gMetC.of (own := RX13) (by decide +kernel) (Nat.le_of_ble_eq_true rfl) rfl ?_
  intro p e s m args below meth c S hr hk hnm hE hC0 hG hS ls hl
  have hl : lv_has ls 1 [(0, .ref x0)] := hl
  have hx := S.1
  have hb := S.2.1
  unfold cm_X13_bench at h
  refine lv_aload_n hx hb dX13_bench_0 rfl (lv_at hl 0 rfl) ?_
  obtain ⟨v1, e1, h⟩ := g_bd h
  refine cg_X13_28 dX13_bench_1 S hE hG e1 ?_
  exact c_aretR dX13_bench_4 (Or.inl ⟨_, rfl⟩) S hr hk hC0 hG hS h
theorem hc_X19_bench : cHd yX19_bench 0 := by decide +kernel
set_option maxHeartbeats 4000000 in
set_option maxRecDepth 100000 in
theorem wm_X19_bench (E : gX) (l : Launch) (x0 : Nat) (Gz : GH) (r : Nat) (h : cm_X19_bench x0 Gz = some r) : gMetC E l yX19_bench cX19_bench 1 (some (Jvm.ClassFile.FieldType.object "FairHouse$Bench")) 2 [.ref x0] Gz Gz (some (.ref r)) := by
  refine gMetC.of (own := RX19) (by decide +kernel) (Nat.le_of_ble_eq_true rfl) rfl ?_
  intro p e s m args below meth c S hr hk hnm hE hC0 hG hS ls hl
  have hl : lv_has ls 1 [(0, .ref x0)] := hl
  have hx := S.1
  have hb := S.2.1
  unfold cm_X19_bench at h
  refine lv_aload_n hx hb dX19_bench_0 rfl (lv_at hl 0 rfl) ?_
  obtain ⟨v1, e1, h⟩ := g_bd h
  refine cg_X19_21 dX19_bench_1 S hE hG e1 ?_
  exact c_aretR dX19_bench_4 (Or.inl ⟨_, rfl⟩) S hr hk hC0 hG hS h
theorem hc_X20_bench : cHd yX20_bench 0 := by decide +kernel
set_option maxHeartbeats 4000000 in
set_option maxRecDepth 100000 in
theorem wm_X20_bench (E : gX) (l : Launch) (x0 : Nat) (Gz : GH) (r : Nat) (h : cm_X20_bench x0 Gz = some r) : gMetC E l yX20_bench cX20_bench 1 (some (Jvm.ClassFile.FieldType.object "FairHouse$Bench")) 2 [.ref x0] Gz Gz (some (.ref r)) := by
  refine gMetC.of (own := RX20) (by decide +kernel) (Nat.le_of_ble_eq_true rfl) rfl ?_
  intro p e s m args below meth c S hr hk hnm hE hC0 hG hS ls hl
  have hl : lv_has ls 1 [(0, .ref x0)] := hl
  have hx := S.1
  have hb := S.2.1
  unfold cm_X20_bench at h
  refine lv_aload_n hx hb dX20_bench_0 rfl (lv_at hl 0 rfl) ?_
  obtain ⟨v1, e1, h⟩ := g_bd h
  refine cg_X20_37 dX20_bench_1 S hE hG e1 ?_
  exact c_aretR dX20_bench_4 (Or.inl ⟨_, rfl⟩) S hr hk hC0 hG hS h
theorem hc_X21_bench : cHd yX21_bench 0 := by decide +kernel
set_option maxHeartbeats 4000000 in
set_option maxRecDepth 100000 in
theorem wm_X21_bench (E : gX) (l : Launch) (x0 : Nat) (Gz : GH) (r : Nat) (h : cm_X21_bench x0 Gz = some r) : gMetC E l yX21_bench cX21_bench 1 (some (Jvm.ClassFile.FieldType.object "FairHouse$Bench")) 2 [.ref x0] Gz Gz (some (.ref r)) := by
  refine gMetC.of (own := RX21) (by decide +kernel) (Nat.le_of_ble_eq_true rfl) rfl ?_
  intro p e s m args below meth c S hr hk hnm hE hC0 hG hS ls hl
  have hl : lv_has ls 1 [(0, .ref x0)] := hl
  have hx := S.1
  have hb := S.2.1
  unfold cm_X21_bench at h
  refine lv_aload_n hx hb dX21_bench_0 rfl (lv_at hl 0 rfl) ?_
  obtain ⟨v1, e1, h⟩ := g_bd h
  refine cg_X21_21 dX21_bench_1 S hE hG e1 ?_
  exact c_aretR dX21_bench_4 (Or.inl ⟨_, rfl⟩) S hr hk hC0 hG hS h
section DSP
variable {p : Program} {l : Launch} {e : Env} {R : Room} {s : State} {m : MethodId} {args : Array Value} {below : List Frame} {meth : Method} {c : Code} {H : Heap} {locs : List Loc} {cells slots : Nat} {Q : State → Prop}
variable {cc : ByteArray} {pc nL lev0 : Nat} {ls : Array Slot} {rest st : List Value} {E : gX} {G Gz G1 : GH}
theorem hx_Seats_bench : cHd ⟨"FairHouse$Seats", "bench", "()LFairHouse$Bench;"⟩ 0 := by decide +kernel
set_option maxHeartbeats 4000000 in
set_option maxRecDepth 100000 in
theorem wd_Seats_bench {own : String} {a idx count : Nat} {r : Nat} (w1 : Cond.methodLink own idx ⟨"FairHouse$Seats", "bench", "()LFairHouse$Bench;"⟩ ∈ lw_all) (hdg : decode cc pc = .ok (.invokeinterface idx count, 5)) (S : CallFix p m c cc nL s args lw_all own) (hE : gEnv E s) (hG : gC E G H) (hS : va_S (gx_C E) s.heap H locs) (hC0 : gC E Gz s.heap) (hls : ls.size = nL) (h : cd_Seats_bench a G = some r) (hst : st = [] ++ .ref a :: rest) (hW : (rest.map fun v => v.category).sum ≤ 8) (hroom : 2 + 1 ≤ lev0)
    (kk : ∀ (H1 : Heap) (locs1 : List Loc), gC E G H1 → va_S (gx_C E) s.heap H1 locs1 → WC E p l e (gRm lev0 (cBx Gz) (cBs Gz)) s m args below meth c H1 locs1 Q (F0 m (pc + 5) ls (.ref r :: rest))) : WC E p l e (gRm lev0 (cBx Gz) (cBs Gz)) s m args below meth c H locs Q (F0 m pc ls st) := by
  unfold cd_Seats_bench at h
  by_cases c14 : cT G a = 14
  · have h := g_it c14 h
    exact c_cF (y := yX7_bench) (As := []) 33 rfl hdg w1 q1863 q1861 q149 q1865 hx_Seats_bench S hE hG hS hC0 hls rfl (hE.K.1 13 _ rfl).2 (c_recv hE hG (ci := 13) rfl (by decide) c14) (wm_X7_bench E l a G _ h) hst hW ⟨by omega, by omega⟩ (fun H1 locs1 h1 h2 => kk H1 locs1 h1 h2)
  have h := g_if c14 h
  by_cases c18 : cT G a = 18
  · have h := g_it c18 h
    exact c_cF (y := yX11_bench) (As := []) 34 rfl hdg w1 q1857 q1855 q153 q1859 hx_Seats_bench S hE hG hS hC0 hls rfl (hE.K.1 17 _ rfl).2 (c_recv hE hG (ci := 17) rfl (by decide) c18) (wm_X11_bench E l a G _ h) hst hW ⟨by omega, by omega⟩ (fun H1 locs1 h1 h2 => kk H1 locs1 h1 h2)
  have h := g_if c18 h
  by_cases c20 : cT G a = 20
  · have h := g_it c20 h
    exact c_cF (y := yX13_bench) (As := []) 35 rfl hdg w1 q1845 q1843 q155 q1847 hx_Seats_bench S hE hG hS hC0 hls rfl (hE.K.1 19 _ rfl).2 (c_recv hE hG (ci := 19) rfl (by decide) c20) (wm_X13_bench E l a G _ h) hst hW ⟨by omega, by omega⟩ (fun H1 locs1 h1 h2 => kk H1 locs1 h1 h2)
  have h := g_if c20 h
  by_cases c26 : cT G a = 26
  · have h := g_it c26 h
    exact c_cF (y := yX19_bench) (As := []) 36 rfl hdg w1 q1833 q1831 q161 q1835 hx_Seats_bench S hE hG hS hC0 hls rfl (hE.K.1 25 _ rfl).2 (c_recv hE hG (ci := 25) rfl (by decide) c26) (wm_X19_bench E l a G _ h) hst hW ⟨by omega, by omega⟩ (fun H1 locs1 h1 h2 => kk H1 locs1 h1 h2)
  have h := g_if c26 h
  by_cases c27 : cT G a = 27
  · have h := g_it c27 h
    exact c_cF (y := yX20_bench) (As := []) 37 rfl hdg w1 q1839 q1837 q162 q1841 hx_Seats_bench S hE hG hS hC0 hls rfl (hE.K.1 26 _ rfl).2 (c_recv hE hG (ci := 26) rfl (by decide) c27) (wm_X20_bench E l a G _ h) hst hW ⟨by omega, by omega⟩ (fun H1 locs1 h1 h2 => kk H1 locs1 h1 h2)
  have h := g_if c27 h
  by_cases c28 : cT G a = 28
  · have h := g_it c28 h
    exact c_cF (y := yX21_bench) (As := []) 38 rfl hdg w1 q1851 q1849 q163 q1853 hx_Seats_bench S hE hG hS hC0 hls rfl (hE.K.1 27 _ rfl).2 (c_recv hE hG (ci := 27) rfl (by decide) c28) (wm_X21_bench E l a G _ h) hst hW ⟨by omega, by omega⟩ (fun H1 locs1 h1 h2 => kk H1 locs1 h1 h2)
  have h := g_if c28 h
  cases h
end DSP
theorem hc_X10_clear : cHd yX10_clear 0 := by decide +kernel
set_option maxHeartbeats 4000000 in
set_option maxRecDepth 100000 in
theorem wm_X10_clear (E : gX) (l : Launch) (x0 : Nat) (Gz G' : GH) (h : cm_X10_clear x0 Gz = some G') : gMetC E l yX10_clear cX10_clear 1 none 2 [.ref x0] Gz G' none := by
  refine gMetC.of (own := RX10) (by decide +kernel) (Nat.le_of_ble_eq_true rfl) rfl ?_
  intro p e s m args below meth c S hr hk hnm hE hC0 hG hS ls hl
  have hl : lv_has ls 1 [(0, .ref x0)] := hl
  have hx := S.1
  have hb := S.2.1
  unfold cm_X10_clear at h
  refine lv_aload_n hx hb dX10_clear_0 rfl (lv_at hl 0 rfl) ?_
  refine lv_iconst (v := 0) hx hb dX10_clear_1 (by decide) ?_
  obtain ⟨G2, e2, h⟩ := g_bd h
  refine cp_X10_22 dX10_clear_2 S hE hG hS hC0 e2 (fun H locs hG hS => ?_)
  refine lv_aload_n hx hb dX10_clear_5 rfl (lv_at hl 0 rfl) ?_
  refine lv_iconst (v := 0) hx hb dX10_clear_6 (by decide) ?_
  obtain ⟨G7, e7, h⟩ := g_bd h
  refine cp_X10_25 dX10_clear_7 S hE hG hS hC0 e7 (fun H locs hG hS => ?_)
  refine lv_aload_n hx hb dX10_clear_10 rfl (lv_at hl 0 rfl) ?_
  refine lv_iconst (v := 0) hx hb dX10_clear_11 (by decide) ?_
  obtain ⟨G12, e12, h⟩ := g_bd h
  refine cp_X10_28 dX10_clear_12 S hE hG hS hC0 e12 (fun H locs hG hS => ?_)
  refine lv_aload_n hx hb dX10_clear_15 rfl (lv_at hl 0 rfl) ?_
  refine lv_iconst (v := 0) hx hb dX10_clear_16 (by decide) ?_
  obtain ⟨G17, e17, h⟩ := g_bd h
  refine cp_X10_31 dX10_clear_17 S hE hG hS hC0 e17 (fun H locs hG hS => ?_)
  refine lv_aload_n hx hb dX10_clear_20 rfl (lv_at hl 0 rfl) ?_
  refine lv_iconst (v := 0) hx hb dX10_clear_21 (by decide) ?_
  obtain ⟨G22, e22, h⟩ := g_bd h
  refine cp_X10_34 dX10_clear_22 S hE hG hS hC0 e22 (fun H locs hG hS => ?_)
  exact c_vretW dX10_clear_25 S hr hk hC0 hG hS h
theorem hc_X1_begin : cHd yX1_begin 0 := by decide +kernel
set_option maxHeartbeats 4000000 in
set_option maxRecDepth 100000 in
theorem wm_X1_begin (E : gX) (l : Launch) (x0 : Nat) (Gz G' : GH) (h : cm_X1_begin x0 Gz = some G') : gMetC E l yX1_begin cX1_begin 4 none 5 [.ref x0] Gz G' none := by
  refine gMetC.of (own := RX1) (by decide +kernel) (Nat.le_of_ble_eq_true rfl) rfl ?_
  intro p e s m args below meth c S hr hk hnm hE hC0 hG hS ls hl
  have hl : lv_has ls 4 [(0, .ref x0)] := hl
  have hx := S.1
  have hb := S.2.1
  have L82 : ∀ (n : Nat) (x0 : Nat) (x1 : Int32) (G : GH) (H : Heap) (locs : List Loc) (ls : Array Slot), cm_X1_begin_L82 n x0 x1 G = some G' → gC E G H → va_S (gx_C E) s.heap H locs → lv_has ls 4 [(0, .ref x0), (1, .int x1)] → WC E p l e (gRm 5 (cBx Gz) (cBs Gz)) s m args below meth c H locs (MQ below (gQ none (gC E G') (gx_C E)) args s (cBx Gz) (cBs Gz) (gx_C E)) (F0 m 82 ls []) := by
    intro n82
    induction n82 with
    | zero =>
      intro x0 x1 G H locs ls h
      cases h
    | succ n82 ih82 =>
      have J206 : ∀ (x0 : Nat) (x1 : Int32) (G : GH) (H : Heap) (locs : List Loc) (ls : Array Slot), cm_X1_begin_J206 (cm_X1_begin_L82 n82) x0 x1 G = some G' → gC E G H → va_S (gx_C E) s.heap H locs → lv_has ls 4 [(0, .ref x0), (1, .int x1)] → WC E p l e (gRm 5 (cBx Gz) (cBs Gz)) s m args below meth c H locs (MQ below (gQ none (gC E G') (gx_C E)) args s (cBx Gz) (cBs Gz) (gx_C E)) (F0 m 206 ls []) := by
        intro x0 x1 G H locs ls h hG hS hl
        unfold cm_X1_begin_J206 at h
        refine lv_iinc (k := 1) (v := (x1 + 1)) (lv' := [(1, .int (x1 + 1)), (0, .ref x0)]) hx hb dX1_begin_206 hl rfl rfl (by decide) rfl (fun ls hl => ?_)
        refine lv_goto (tgt := 82) hx hb dX1_begin_209 (by decide) ?_
        exact ih82 x0 (x1 + 1) G _ _ _ h hG hS (lv_sub hl [1, 0] rfl)
      have J181 : ∀ (x0 : Nat) (x1 : Int32) (x2 : Nat) (G : GH) (H : Heap) (locs : List Loc) (ls : Array Slot), cm_X1_begin_J181 (cm_X1_begin_L82 n82) x0 x1 x2 G = some G' → gC E G H → va_S (gx_C E) s.heap H locs → lv_has ls 4 [(0, .ref x0), (1, .int x1), (2, .ref x2)] → WC E p l e (gRm 5 (cBx Gz) (cBs Gz)) s m args below meth c H locs (MQ below (gQ none (gC E G') (gx_C E)) args s (cBx Gz) (cBs Gz) (gx_C E)) (F0 m 181 ls []) := by
        intro x0 x1 x2 G H locs ls h hG hS hl
        unfold cm_X1_begin_J181 at h
        refine lv_aload_n hx hb dX1_begin_181 rfl (lv_at hl 2 rfl) ?_
        obtain ⟨G182, e182, h⟩ := g_bd h
        refine c_cS (y := yX1_dark) (rest := []) dX1_begin_182 q1764 q1765 q119 q1766 hc_X1_dark S hE hG hS hC0 hl.1 rfl (wm_X1_dark E l x2 G _ e182) rfl (Nat.le_of_ble_eq_true rfl) ⟨Nat.le_of_ble_eq_true rfl, Nat.le_of_ble_eq_true rfl⟩ (fun H locs hG hS => ?_)
        refine lv_aload_n hx hb dX1_begin_185 rfl (lv_at hl 2 rfl) ?_
        obtain ⟨v186, e186, h⟩ := g_bd h
        refine ci_X1_195 dX1_begin_186 S hE hG e186 ?_
        refine lv_if_eq (tgt := 206) hx hb dX1_begin_189 (by decide) (fun c189 => ?_) (fun c189 => ?_)
        · have h := g_it c189 h
          exact J206 x0 x1 G182 _ _ _ h hG hS (lv_sub hl [0, 1] rfl)
        · have h := g_if c189 h
          refine lv_aload_n hx hb dX1_begin_192 rfl (lv_at hl 2 rfl) ?_
          obtain ⟨u193, e193, h⟩ := g_bd h
          refine ck_X1_195 dX1_begin_193 S hE hG e193 ?_
          refine lv_astore_n (lv' := [(3, .ref x2), (0, .ref x0), (1, .int x1), (2, .ref x2)]) hx hb dX1_begin_196 rfl hl (by decide) rfl (fun ls hl => ?_)
          refine lv_aload_n hx hb dX1_begin_197 rfl (lv_at hl 0 rfl) ?_
          obtain ⟨v198, e198, h⟩ := g_bd h
          refine wd_Seats_bench (rest := []) q1827 dX1_begin_198 S hE hG hS hC0 hl.1 e198 rfl (Nat.le_of_ble_eq_true rfl) (by decide) (fun H locs hG hS => ?_)
          obtain ⟨u203, t203, h⟩ := g_bd h
          obtain ⟨G203, e203, h⟩ := g_bd h
          refine c_cV (y := yX10_clear) (rest := []) dX1_begin_203 q1866 q1867 q1868 q152 q1869 hc_X10_clear rfl S hE hG hS hC0 hl.1 rfl (c_recv hE hG (ci := 16) rfl (by decide) (c_castM t203)) (wm_X10_clear E l v198 G182 _ e203) rfl (Nat.le_of_ble_eq_true rfl) ⟨Nat.le_of_ble_eq_true rfl, Nat.le_of_ble_eq_true rfl⟩ (fun H locs hG hS => ?_)
          exact J206 x0 x1 G203 _ _ _ h hG hS (lv_sub hl [1, 2] rfl)
      have J149 : ∀ (x0 : Nat) (x1 : Int32) (x2 : Nat) (G : GH) (H : Heap) (locs : List Loc) (ls : Array Slot), cm_X1_begin_J149 (cm_X1_begin_L82 n82) x0 x1 x2 G = some G' → gC E G H → va_S (gx_C E) s.heap H locs → lv_has ls 4 [(0, .ref x0), (1, .int x1), (2, .ref x2)] → WC E p l e (gRm 5 (cBx Gz) (cBs Gz)) s m args below meth c H locs (MQ below (gQ none (gC E G') (gx_C E)) args s (cBx Gz) (cBs Gz) (gx_C E)) (F0 m 149 ls []) := by
        intro x0 x1 x2 G H locs ls h hG hS hl
        unfold cm_X1_begin_J149 at h
        refine lv_aload_n hx hb dX1_begin_149 rfl (lv_at hl 2 rfl) ?_
        obtain ⟨v150, e150, h⟩ := g_bd h
        refine ci_X1_178 dX1_begin_150 S hE hG e150 ?_
        refine lv_if_eq (tgt := 181) hx hb dX1_begin_153 (by decide) (fun c153 => ?_) (fun c153 => ?_)
        · have h := g_it c153 h
          exact J181 x0 x1 x2 G _ _ _ h hG hS (lv_sub hl [0, 1, 2] rfl)
        · have h := g_if c153 h
          refine lv_aload_n hx hb dX1_begin_156 rfl (lv_at hl 2 rfl) ?_
          obtain ⟨u157, e157, h⟩ := g_bd h
          refine ck_X1_178 dX1_begin_157 S hE hG e157 ?_
          refine lv_astore_n (lv' := [(3, .ref x2), (0, .ref x0), (1, .int x1), (2, .ref x2)]) hx hb dX1_begin_160 rfl hl (by decide) rfl (fun ls hl => ?_)
          refine lv_aload_n hx hb dX1_begin_161 rfl (lv_at hl 0 rfl) ?_
          obtain ⟨v162, e162, h⟩ := g_bd h
          refine wd_Lifts_hoist (rest := []) q1737 dX1_begin_162 S hE hG hS hC0 hl.1 e162 rfl (Nat.le_of_ble_eq_true rfl) (by decide) (fun H locs hG hS => ?_)
          refine lv_iconst (v := 0) hx hb dX1_begin_167 (by decide) ?_
          obtain ⟨G168, e168, h⟩ := g_bd h
          refine cp_X1_184 dX1_begin_168 S hE hG hS hC0 e168 (fun H locs hG hS => ?_)
          refine lv_aload_n hx hb dX1_begin_171 rfl (lv_at hl 0 rfl) ?_
          obtain ⟨v172, e172, h⟩ := g_bd h
          refine wd_Lifts_hoist (rest := []) q1737 dX1_begin_172 S hE hG hS hC0 hl.1 e172 rfl (Nat.le_of_ble_eq_true rfl) (by decide) (fun H locs hG hS => ?_)
          refine lv_iconst (v := 0) hx hb dX1_begin_177 (by decide) ?_
          obtain ⟨G178, e178, h⟩ := g_bd h
          refine cp_X1_189 dX1_begin_178 S hE hG hS hC0 e178 (fun H locs hG hS => ?_)
          exact J181 x0 x1 x2 G178 _ _ _ h hG hS (lv_sub hl [1, 2, 3] rfl)
      intro x0 x1 G H locs ls h hG hS hl
      have h : cm_X1_begin_B82 (cm_X1_begin_L82 n82) x0 x1 G = some G' := h
      unfold cm_X1_begin_B82 at h
      refine lv_iload_n hx hb dX1_begin_82 rfl (lv_at hl 1 rfl) ?_
      refine lv_aload_n hx hb dX1_begin_83 rfl (lv_at hl 0 rfl) ?_
      obtain ⟨v84, e84, h⟩ := g_bd h
      refine cg_X1_75 dX1_begin_84 S hE hG e84 ?_
      obtain ⟨b87, eb87, h⟩ := g_bd h
      have rb87 : va_rf v84 = .ref b87 := by rw [eb87]; rfl
      (try rw [rb87] at hl)
      (try rw [rb87])
      obtain ⟨v87, e87, h⟩ := g_bd h
      refine cg_X1_104 dX1_begin_87 S hE hG e87 ?_
      obtain ⟨u90, t90, h⟩ := g_bd h
      obtain ⟨v90, e90, h⟩ := g_bd h
      refine c_cV (y := yJ6_size) (rest := [.int x1]) dX1_begin_90 q1722 q882 q883 q128 q884 hc_J6_size rfl S hE hG hS hC0 hl.1 rfl (c_recv hE hG (ci := 2) rfl (by decide) (c_castM t90)) (wm_J6_size E l v87 G _ e90) rfl (Nat.le_of_ble_eq_true rfl) ⟨Nat.le_of_ble_eq_true rfl, Nat.le_of_ble_eq_true rfl⟩ (fun H locs hG hS => ?_)
      refine lv_icmp_ge (tgt := 212) hx hb dX1_begin_93 (by decide) (fun c93 => ?_) (fun c93 => ?_)
      · have h := g_it c93 h
        exact c_vretW dX1_begin_212 S hr hk hC0 hG hS h
      · have h := g_if c93 h
        refine lv_aload_n hx hb dX1_begin_96 rfl (lv_at hl 0 rfl) ?_
        obtain ⟨v97, e97, h⟩ := g_bd h
        refine cg_X1_75 dX1_begin_97 S hE hG e97 ?_
        obtain ⟨b100, eb100, h⟩ := g_bd h
        have rb100 : va_rf v97 = .ref b100 := by rw [eb100]; rfl
        (try rw [rb100] at hl)
        (try rw [rb100])
        obtain ⟨v100, e100, h⟩ := g_bd h
        refine cg_X1_104 dX1_begin_100 S hE hG e100 ?_
        refine lv_iload_n hx hb dX1_begin_103 rfl (lv_at hl 1 rfl) ?_
        obtain ⟨u104, t104, h⟩ := g_bd h
        obtain ⟨v104, e104, h⟩ := g_bd h
        refine c_cV (y := yJ6_get) (rest := []) dX1_begin_104 q1723 q886 q887 q128 q888 hc_J6_get rfl S hE hG hS hC0 hl.1 rfl (c_recv hE hG (ci := 2) rfl (by decide) (c_castM t104)) (wm_J6_get E l v100 x1 G _ e104) rfl (Nat.le_of_ble_eq_true rfl) ⟨Nat.le_of_ble_eq_true rfl, Nat.le_of_ble_eq_true rfl⟩ (fun H locs hG hS => ?_)
        obtain ⟨b107, eb107, h⟩ := g_bd h
        have rb107 : va_rf v104 = .ref b107 := by rw [eb107]; rfl
        (try rw [rb107] at hl)
        (try rw [rb107])
        obtain ⟨u107, e107, h⟩ := g_bd h
        refine ck_X1_131 dX1_begin_107 S hE hG e107 ?_
        refine lv_astore_n (lv' := [(2, .ref b107), (0, .ref x0), (1, .int x1)]) hx hb dX1_begin_110 rfl hl (by decide) rfl (fun ls hl => ?_)
        refine lv_aload_n hx hb dX1_begin_111 rfl (lv_at hl 0 rfl) ?_
        refine lv_iconst (v := 0) hx hb dX1_begin_112 (by decide) ?_
        obtain ⟨G113, e113, h⟩ := g_bd h
        refine cp_X1_151 dX1_begin_113 S hE hG hS hC0 e113 (fun H locs hG hS => ?_)
        refine lv_aload_n hx hb dX1_begin_116 rfl (lv_at hl 0 rfl) ?_
        obtain ⟨v117, e117, h⟩ := g_bd h
        refine cg_X1_154 dX1_begin_117 S hE hG e117 ?_
        obtain ⟨u120, t120, h⟩ := g_bd h
        obtain ⟨G120, e120, h⟩ := g_bd h
        refine c_cV (y := yX8_clear) (rest := []) dX1_begin_120 q1725 q1726 q1727 q150 q1728 hc_X8_clear rfl S hE hG hS hC0 hl.1 rfl (c_recv hE hG (ci := 14) rfl (by decide) (c_castM t120)) (wm_X8_clear E l v117 G113 _ e120) rfl (Nat.le_of_ble_eq_true rfl) ⟨Nat.le_of_ble_eq_true rfl, Nat.le_of_ble_eq_true rfl⟩ (fun H locs hG hS => ?_)
        refine lv_aload_n hx hb dX1_begin_123 rfl (lv_at hl 0 rfl) ?_
        obtain ⟨G124, e124, h⟩ := g_bd h
        refine c_cS (y := yX1_goals) (rest := []) dX1_begin_124 q1729 q1730 q119 q1731 hc_X1_goals S hE hG hS hC0 hl.1 rfl (wm_X1_goals E l b107 G120 _ e124) rfl (Nat.le_of_ble_eq_true rfl) ⟨Nat.le_of_ble_eq_true rfl, Nat.le_of_ble_eq_true rfl⟩ (fun H locs hG hS => ?_)
        refine lv_aload_n hx hb dX1_begin_127 rfl (lv_at hl 0 rfl) ?_
        obtain ⟨v128, e128, h⟩ := g_bd h
        refine ci_X1_167 dX1_begin_128 S hE hG e128 ?_
        refine lv_if_eq (tgt := 149) hx hb dX1_begin_131 (by decide) (fun c131 => ?_) (fun c131 => ?_)
        · have h := g_it c131 h
          exact J149 x0 x1 b107 G124 _ _ _ h hG hS (lv_sub hl [1, 2, 0] rfl)
        · have h := g_if c131 h
          refine lv_aload_n hx hb dX1_begin_134 rfl (lv_at hl 0 rfl) ?_
          obtain ⟨u135, e135, h⟩ := g_bd h
          refine ck_X1_167 dX1_begin_135 S hE hG e135 ?_
          refine lv_astore_n (lv' := [(3, .ref b107), (2, .ref b107), (0, .ref x0), (1, .int x1)]) hx hb dX1_begin_138 rfl hl (by decide) rfl (fun ls hl => ?_)
          refine lv_aload_n hx hb dX1_begin_139 rfl (lv_at hl 0 rfl) ?_
          obtain ⟨v140, e140, h⟩ := g_bd h
          refine wd_Turns_spin (rest := []) q1734 dX1_begin_140 S hE hG hS hC0 hl.1 e140 rfl (Nat.le_of_ble_eq_true rfl) (by decide) (fun H locs hG hS => ?_)
          refine lv_iconst (v := 0) hx hb dX1_begin_145 (by decide) ?_
          obtain ⟨G146, e146, h⟩ := g_bd h
          refine cp_X1_173 dX1_begin_146 S hE hG hS hC0 e146 (fun H locs hG hS => ?_)
          exact J149 x0 x1 b107 G146 _ _ _ h hG hS (lv_sub hl [2, 3, 1] rfl)
  have L61 : ∀ (n : Nat) (x0 : Nat) (x1 : Int32) (G : GH) (H : Heap) (locs : List Loc) (ls : Array Slot), cm_X1_begin_L61 n x0 x1 G = some G' → gC E G H → va_S (gx_C E) s.heap H locs → lv_has ls 4 [(0, .ref x0), (1, .int x1)] → WC E p l e (gRm 5 (cBx Gz) (cBs Gz)) s m args below meth c H locs (MQ below (gQ none (gC E G') (gx_C E)) args s (cBx Gz) (cBs Gz) (gx_C E)) (F0 m 61 ls []) := by
    intro n61
    induction n61 with
    | zero =>
      intro x0 x1 G H locs ls h
      cases h
    | succ n61 ih61 =>
      intro x0 x1 G H locs ls h hG hS hl
      have h : cm_X1_begin_B61 (cm_X1_begin_L61 n61) x0 x1 G = some G' := h
      unfold cm_X1_begin_B61 at h
      refine lv_iload_n hx hb dX1_begin_61 rfl (lv_at hl 1 rfl) ?_
      refine lv_bipush (v := 8) hx hb dX1_begin_62 (by decide) ?_
      refine lv_icmp_ge (tgt := 80) hx hb dX1_begin_64 (by decide) (fun c64 => ?_) (fun c64 => ?_)
      · have h := g_it c64 h
        refine lv_iconst (v := 0) hx hb dX1_begin_80 (by decide) ?_
        refine lv_istore_n (lv' := [(1, .int 0), (0, .ref x0)]) hx hb dX1_begin_81 rfl hl (by decide) rfl (fun ls hl => ?_)
        exact L82 gF x0 0 G _ _ _ h hG hS (lv_sub hl [1, 0] rfl)
      · have h := g_if c64 h
        refine lv_aload_n hx hb dX1_begin_67 rfl (lv_at hl 0 rfl) ?_
        obtain ⟨v68, e68, h⟩ := g_bd h
        refine cg_X1_49 dX1_begin_68 S hE hG e68 ?_
        refine lv_iload_n hx hb dX1_begin_71 rfl (lv_at hl 1 rfl) ?_
        refine lv_iconst (v := 0) hx hb dX1_begin_72 (by decide) ?_
        obtain ⟨G73, e73, h⟩ := g_bd h
        refine c_astB dX1_begin_73 S hE hG hS hC0 e73 (fun H locs hG hS => ?_)
        refine lv_iinc (k := 1) (v := (x1 + 1)) (lv' := [(1, .int (x1 + 1)), (0, .ref x0)]) hx hb dX1_begin_74 hl rfl rfl (by decide) rfl (fun ls hl => ?_)
        refine lv_goto (tgt := 61) hx hb dX1_begin_77 (by decide) ?_
        exact ih61 x0 (x1 + 1) G73 _ _ _ h hG hS (lv_sub hl [1, 0] rfl)
  have L27 : ∀ (n : Nat) (x0 : Nat) (x1 : Int32) (G : GH) (H : Heap) (locs : List Loc) (ls : Array Slot), cm_X1_begin_L27 n x0 x1 G = some G' → gC E G H → va_S (gx_C E) s.heap H locs → lv_has ls 4 [(0, .ref x0), (1, .int x1)] → WC E p l e (gRm 5 (cBx Gz) (cBs Gz)) s m args below meth c H locs (MQ below (gQ none (gC E G') (gx_C E)) args s (cBx Gz) (cBs Gz) (gx_C E)) (F0 m 27 ls []) := by
    intro n27
    induction n27 with
    | zero =>
      intro x0 x1 G H locs ls h
      cases h
    | succ n27 ih27 =>
      intro x0 x1 G H locs ls h hG hS hl
      have h : cm_X1_begin_B27 (cm_X1_begin_L27 n27) x0 x1 G = some G' := h
      unfold cm_X1_begin_B27 at h
      refine lv_iload_n hx hb dX1_begin_27 rfl (lv_at hl 1 rfl) ?_
      refine lv_aload_n hx hb dX1_begin_28 rfl (lv_at hl 0 rfl) ?_
      obtain ⟨v29, e29, h⟩ := g_bd h
      refine cg_X1_75 dX1_begin_29 S hE hG e29 ?_
      obtain ⟨b32, eb32, h⟩ := g_bd h
      have rb32 : va_rf v29 = .ref b32 := by rw [eb32]; rfl
      (try rw [rb32] at hl)
      (try rw [rb32])
      obtain ⟨v32, e32, h⟩ := g_bd h
      refine cg_X1_113 dX1_begin_32 S hE hG e32 ?_
      refine lv_icmp_ge (tgt := 59) hx hb dX1_begin_35 (by decide) (fun c35 => ?_) (fun c35 => ?_)
      · have h := g_it c35 h
        refine lv_iconst (v := 0) hx hb dX1_begin_59 (by decide) ?_
        refine lv_istore_n (lv' := [(1, .int 0), (0, .ref x0)]) hx hb dX1_begin_60 rfl hl (by decide) rfl (fun ls hl => ?_)
        exact L61 gF x0 0 G _ _ _ h hG hS (lv_sub hl [1, 0] rfl)
      · have h := g_if c35 h
        refine lv_aload_n hx hb dX1_begin_38 rfl (lv_at hl 0 rfl) ?_
        obtain ⟨v39, e39, h⟩ := g_bd h
        refine cg_X1_45 dX1_begin_39 S hE hG e39 ?_
        refine lv_iload_n hx hb dX1_begin_42 rfl (lv_at hl 1 rfl) ?_
        refine lv_aload_n hx hb dX1_begin_43 rfl (lv_at hl 0 rfl) ?_
        obtain ⟨v44, e44, h⟩ := g_bd h
        refine cg_X1_75 dX1_begin_44 S hE hG e44 ?_
        obtain ⟨b47, eb47, h⟩ := g_bd h
        have rb47 : va_rf v44 = .ref b47 := by rw [eb47]; rfl
        (try rw [rb47] at hl)
        (try rw [rb47])
        obtain ⟨v47, e47, h⟩ := g_bd h
        refine cg_X1_148 dX1_begin_47 S hE hG e47 ?_
        refine lv_iload_n hx hb dX1_begin_50 rfl (lv_at hl 1 rfl) ?_
        obtain ⟨v51, e51, h⟩ := g_bd h
        refine c_aldI dX1_begin_51 S hE hG e51 ?_
        obtain ⟨G52, e52, h⟩ := g_bd h
        refine c_astI dX1_begin_52 S hE hG hS hC0 e52 (fun H locs hG hS => ?_)
        refine lv_iinc (k := 1) (v := (x1 + 1)) (lv' := [(1, .int (x1 + 1)), (0, .ref x0)]) hx hb dX1_begin_53 hl rfl rfl (by decide) rfl (fun ls hl => ?_)
        refine lv_goto (tgt := 27) hx hb dX1_begin_56 (by decide) ?_
        exact ih27 x0 (x1 + 1) G52 _ _ _ h hG hS (lv_sub hl [1, 0] rfl)
  unfold cm_X1_begin at h
  refine lv_aload_n hx hb dX1_begin_0 rfl (lv_at hl 0 rfl) ?_
  refine lv_iconst (v := 0) hx hb dX1_begin_1 (by decide) ?_
  obtain ⟨G2, e2, h⟩ := g_bd h
  refine cp_X1_133 dX1_begin_2 S hE hG hS hC0 e2 (fun H locs hG hS => ?_)
  refine lv_aload_n hx hb dX1_begin_5 rfl (lv_at hl 0 rfl) ?_
  refine lv_iconst (v := 0) hx hb dX1_begin_6 (by decide) ?_
  obtain ⟨G7, e7, h⟩ := g_bd h
  refine cp_X1_136 dX1_begin_7 S hE hG hS hC0 e7 (fun H locs hG hS => ?_)
  refine lv_aload_n hx hb dX1_begin_10 rfl (lv_at hl 0 rfl) ?_
  refine lv_iconst (v := 0) hx hb dX1_begin_11 (by decide) ?_
  obtain ⟨G12, e12, h⟩ := g_bd h
  refine cp_X1_139 dX1_begin_12 S hE hG hS hC0 e12 (fun H locs hG hS => ?_)
  refine lv_aload_n hx hb dX1_begin_15 rfl (lv_at hl 0 rfl) ?_
  refine lv_iconst (v := 0) hx hb dX1_begin_16 (by decide) ?_
  obtain ⟨G17, e17, h⟩ := g_bd h
  refine cp_X1_142 dX1_begin_17 S hE hG hS hC0 e17 (fun H locs hG hS => ?_)
  refine lv_aload_n hx hb dX1_begin_20 rfl (lv_at hl 0 rfl) ?_
  refine lv_iconst (v := 0) hx hb dX1_begin_21 (by decide) ?_
  obtain ⟨G22, e22, h⟩ := g_bd h
  refine cp_X1_145 dX1_begin_22 S hE hG hS hC0 e22 (fun H locs hG hS => ?_)
  refine lv_iconst (v := 0) hx hb dX1_begin_25 (by decide) ?_
  refine lv_istore_n (lv' := [(1, .int 0), (0, .ref x0)]) hx hb dX1_begin_26 rfl hl (by decide) rfl (fun ls hl => ?_)
  exact L27 gF x0 0 G22 _ _ _ h hG hS (lv_sub hl [1, 0] rfl)
