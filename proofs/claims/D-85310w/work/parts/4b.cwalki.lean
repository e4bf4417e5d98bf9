/-! walks of the component's methods: printed by cgen.py -/
set_option maxRecDepth 100000
theorem hc_X7_init : cHd yX7_init 1 := by decide +kernel
set_option maxHeartbeats 4000000 in
set_option maxRecDepth 100000 in
theorem wm_X7_init (E : gX) (l : Launch) (x0 : Nat) (x1 : Nat) (Gz G' : GH) (h : cm_X7_init x0 x1 Gz = some G') : gMetC E l yX7_init cX7_init 2 none 7 [.ref x0, .ref x1] Gz G' none := by
  refine gMetC.of (own := RX7) (by decide +kernel) (Nat.le_of_ble_eq_true rfl) rfl ?_
  intro p e s m args below meth c S hr hk hnm hE hC0 hG hS ls hl
  have hl : lv_has ls 2 [(0, .ref x0), (1, .ref x1)] := hl
  have hx := S.1
  have hb := S.2.1
  unfold cm_X7_init at h
  refine lv_aload_n hx hb dX7_init_0 rfl (lv_at hl 0 rfl) ?_
  refine lv_iconst (v := 0) hx hb dX7_init_1 (by decide) ?_
  obtain ⟨G2, e2, h⟩ := g_bd h
  refine c_cI (y := yX6_init) (rest := []) dX7_init_2 q1008 q1009 q148 q1010 hc_X6_init rfl S hE hG hS hC0 hl.1 rfl (wm_X6_init E l x0 0 Gz _ e2) rfl (Nat.le_of_ble_eq_true rfl) ⟨Nat.le_of_ble_eq_true rfl, Nat.le_of_ble_eq_true rfl⟩ (fun H locs hG hS => ?_)
  refine lv_aload_n hx hb dX7_init_5 rfl (lv_at hl 0 rfl) ?_
  obtain ⟨qx6, e6, h⟩ := g_bd h
  refine c_new (n := 4) dX7_init_6 q1070 q1071 q151 rfl in_X9 tyX9_ok rfl (by decide) (by decide) S hE hG hS hC0 e6 (fun H locs hG hS => ?_)
  refine lv_dup hx hb dX7_init_9 rfl ?_
  refine lv_aload_n hx hb dX7_init_10 rfl (lv_at hl 1 rfl) ?_
  refine lv_iconst (v := 0) hx hb dX7_init_11 (by decide) ?_
  obtain ⟨v12, e12, h⟩ := g_bd h
  refine c_aldI dX7_init_12 S hE hG e12 ?_
  refine lv_aload_n hx hb dX7_init_13 rfl (lv_at hl 1 rfl) ?_
  refine lv_iconst (v := 1) hx hb dX7_init_14 (by decide) ?_
  obtain ⟨v15, e15, h⟩ := g_bd h
  refine c_aldI dX7_init_15 S hE hG e15 ?_
  obtain ⟨G16, e16, h⟩ := g_bd h
  refine c_cI (y := yX9_init) (rest := [.ref qx6.1, .ref x0]) dX7_init_16 q1072 q1073 q151 q1074 hc_X9_init rfl S hE hG hS hC0 hl.1 rfl (wm_X9_init E l qx6.1 v12 v15 qx6.2 _ e16) rfl (Nat.le_of_ble_eq_true rfl) ⟨Nat.le_of_ble_eq_true rfl, Nat.le_of_ble_eq_true rfl⟩ (fun H locs hG hS => ?_)
  obtain ⟨G19, e19, h⟩ := g_bd h
  refine cp_X7_12i dX7_init_19 S hE hG hS hC0 hnm e19 (fun H locs hG hS => ?_)
  refine lv_aload_n hx hb dX7_init_22 rfl (lv_at hl 0 rfl) ?_
  obtain ⟨qx23, e23, h⟩ := g_bd h
  refine c_new (n := 8) dX7_init_23 q1097 q1098 q152 rfl in_X10 tyX10_ok rfl (by decide) (by decide) S hE hG hS hC0 e23 (fun H locs hG hS => ?_)
  refine lv_dup hx hb dX7_init_26 rfl ?_
  refine lv_aload_n hx hb dX7_init_27 rfl (lv_at hl 1 rfl) ?_
  refine lv_iconst (v := 2) hx hb dX7_init_28 (by decide) ?_
  obtain ⟨v29, e29, h⟩ := g_bd h
  refine c_aldI dX7_init_29 S hE hG e29 ?_
  obtain ⟨G30, e30, h⟩ := g_bd h
  refine c_cI (y := yX10_init) (rest := [.ref qx23.1, .ref x0]) dX7_init_30 q1099 q1100 q152 q1101 hc_X10_init rfl S hE hG hS hC0 hl.1 rfl (wm_X10_init E l qx23.1 v29 qx23.2 _ e30) rfl (Nat.le_of_ble_eq_true rfl) ⟨Nat.le_of_ble_eq_true rfl, Nat.le_of_ble_eq_true rfl⟩ (fun H locs hG hS => ?_)
  obtain ⟨G33, e33, h⟩ := g_bd h
  refine cp_X7_21i dX7_init_33 S hE hG hS hC0 hnm e33 (fun H locs hG hS => ?_)
  exact c_vretW dX7_init_36 S hr hk hC0 hG hS h
theorem hc_X11_init : cHd yX11_init 1 := by decide +kernel
set_option maxHeartbeats 4000000 in
set_option maxRecDepth 100000 in
theorem wm_X11_init (E : gX) (l : Launch) (x0 : Nat) (x1 : Nat) (Gz G' : GH) (h : cm_X11_init x0 x1 Gz = some G') : gMetC E l yX11_init cX11_init 2 none 7 [.ref x0, .ref x1] Gz G' none := by
  refine gMetC.of (own := RX11) (by decide +kernel) (Nat.le_of_ble_eq_true rfl) rfl ?_
  intro p e s m args below meth c S hr hk hnm hE hC0 hG hS ls hl
  have hl : lv_has ls 2 [(0, .ref x0), (1, .ref x1)] := hl
  have hx := S.1
  have hb := S.2.1
  unfold cm_X11_init at h
  refine lv_aload_n hx hb dX11_init_0 rfl (lv_at hl 0 rfl) ?_
  refine lv_iconst (v := 1) hx hb dX11_init_1 (by decide) ?_
  obtain ⟨G2, e2, h⟩ := g_bd h
  refine c_cI (y := yX6_init) (rest := []) dX11_init_2 q1158 q1009 q148 q1010 hc_X6_init rfl S hE hG hS hC0 hl.1 rfl (wm_X6_init E l x0 1 Gz _ e2) rfl (Nat.le_of_ble_eq_true rfl) ⟨Nat.le_of_ble_eq_true rfl, Nat.le_of_ble_eq_true rfl⟩ (fun H locs hG hS => ?_)
  refine lv_aload_n hx hb dX11_init_5 rfl (lv_at hl 0 rfl) ?_
  obtain ⟨qx6, e6, h⟩ := g_bd h
  refine c_new (n := 5) dX11_init_6 q1159 q1160 q154 rfl in_X12 tyX12_ok rfl (by decide) (by decide) S hE hG hS hC0 e6 (fun H locs hG hS => ?_)
  refine lv_dup hx hb dX11_init_9 rfl ?_
  refine lv_aload_n hx hb dX11_init_10 rfl (lv_at hl 1 rfl) ?_
  refine lv_iconst (v := 0) hx hb dX11_init_11 (by decide) ?_
  obtain ⟨v12, e12, h⟩ := g_bd h
  refine c_aldI dX11_init_12 S hE hG e12 ?_
  refine lv_aload_n hx hb dX11_init_13 rfl (lv_at hl 1 rfl) ?_
  refine lv_iconst (v := 1) hx hb dX11_init_14 (by decide) ?_
  obtain ⟨v15, e15, h⟩ := g_bd h
  refine c_aldI dX11_init_15 S hE hG e15 ?_
  obtain ⟨G16, e16, h⟩ := g_bd h
  refine c_cI (y := yX12_init) (rest := [.ref qx6.1, .ref x0]) dX11_init_16 q1161 q1162 q154 q1163 hc_X12_init rfl S hE hG hS hC0 hl.1 rfl (wm_X12_init E l qx6.1 v12 v15 qx6.2 _ e16) rfl (Nat.le_of_ble_eq_true rfl) ⟨Nat.le_of_ble_eq_true rfl, Nat.le_of_ble_eq_true rfl⟩ (fun H locs hG hS => ?_)
  obtain ⟨G19, e19, h⟩ := g_bd h
  refine cp_X11_12i dX11_init_19 S hE hG hS hC0 hnm e19 (fun H locs hG hS => ?_)
  refine lv_aload_n hx hb dX11_init_22 rfl (lv_at hl 0 rfl) ?_
  obtain ⟨qx23, e23, h⟩ := g_bd h
  refine c_new (n := 8) dX11_init_23 q1191 q1098 q152 rfl in_X10 tyX10_ok rfl (by decide) (by decide) S hE hG hS hC0 e23 (fun H locs hG hS => ?_)
  refine lv_dup hx hb dX11_init_26 rfl ?_
  refine lv_aload_n hx hb dX11_init_27 rfl (lv_at hl 1 rfl) ?_
  refine lv_iconst (v := 2) hx hb dX11_init_28 (by decide) ?_
  obtain ⟨v29, e29, h⟩ := g_bd h
  refine c_aldI dX11_init_29 S hE hG e29 ?_
  obtain ⟨G30, e30, h⟩ := g_bd h
  refine c_cI (y := yX10_init) (rest := [.ref qx23.1, .ref x0]) dX11_init_30 q1192 q1100 q152 q1101 hc_X10_init rfl S hE hG hS hC0 hl.1 rfl (wm_X10_init E l qx23.1 v29 qx23.2 _ e30) rfl (Nat.le_of_ble_eq_true rfl) ⟨Nat.le_of_ble_eq_true rfl, Nat.le_of_ble_eq_true rfl⟩ (fun H locs hG hS => ?_)
  obtain ⟨G33, e33, h⟩ := g_bd h
  refine cp_X11_21i dX11_init_33 S hE hG hS hC0 hnm e33 (fun H locs hG hS => ?_)
  exact c_vretW dX11_init_36 S hr hk hC0 hG hS h
theorem hc_X13_init : cHd yX13_init 1 := by decide +kernel
set_option maxHeartbeats 4000000 in
set_option maxRecDepth 100000 in
theorem wm_X13_init (E : gX) (l : Launch) (x0 : Nat) (x1 : Nat) (Gz G' : GH) (h : cm_X13_init x0 x1 Gz = some G') : gMetC E l yX13_init cX13_init 2 none 7 [.ref x0, .ref x1] Gz G' none := by
  refine gMetC.of (own := RX13) (by decide +kernel) (Nat.le_of_ble_eq_true rfl) rfl ?_
  intro p e s m args below meth c S hr hk hnm hE hC0 hG hS ls hl
  have hl : lv_has ls 2 [(0, .ref x0), (1, .ref x1)] := hl
  have hx := S.1
  have hb := S.2.1
  unfold cm_X13_init at h
  refine lv_aload_n hx hb dX13_init_0 rfl (lv_at hl 0 rfl) ?_
  refine lv_iconst (v := 2) hx hb dX13_init_1 (by decide) ?_
  obtain ⟨G2, e2, h⟩ := g_bd h
  refine c_cI (y := yX6_init) (rest := []) dX13_init_2 q1208 q1009 q148 q1010 hc_X6_init rfl S hE hG hS hC0 hl.1 rfl (wm_X6_init E l x0 2 Gz _ e2) rfl (Nat.le_of_ble_eq_true rfl) ⟨Nat.le_of_ble_eq_true rfl, Nat.le_of_ble_eq_true rfl⟩ (fun H locs hG hS => ?_)
  refine lv_aload_n hx hb dX13_init_5 rfl (lv_at hl 0 rfl) ?_
  obtain ⟨qx6, e6, h⟩ := g_bd h
  refine c_new (n := 4) dX13_init_6 q1209 q1071 q151 rfl in_X9 tyX9_ok rfl (by decide) (by decide) S hE hG hS hC0 e6 (fun H locs hG hS => ?_)
  refine lv_dup hx hb dX13_init_9 rfl ?_
  refine lv_aload_n hx hb dX13_init_10 rfl (lv_at hl 1 rfl) ?_
  refine lv_iconst (v := 0) hx hb dX13_init_11 (by decide) ?_
  obtain ⟨v12, e12, h⟩ := g_bd h
  refine c_aldI dX13_init_12 S hE hG e12 ?_
  refine lv_aload_n hx hb dX13_init_13 rfl (lv_at hl 1 rfl) ?_
  refine lv_iconst (v := 1) hx hb dX13_init_14 (by decide) ?_
  obtain ⟨v15, e15, h⟩ := g_bd h
  refine c_aldI dX13_init_15 S hE hG e15 ?_
  obtain ⟨G16, e16, h⟩ := g_bd h
  refine c_cI (y := yX9_init) (rest := [.ref qx6.1, .ref x0]) dX13_init_16 q1210 q1073 q151 q1074 hc_X9_init rfl S hE hG hS hC0 hl.1 rfl (wm_X9_init E l qx6.1 v12 v15 qx6.2 _ e16) rfl (Nat.le_of_ble_eq_true rfl) ⟨Nat.le_of_ble_eq_true rfl, Nat.le_of_ble_eq_true rfl⟩ (fun H locs hG hS => ?_)
  obtain ⟨G19, e19, h⟩ := g_bd h
  refine cp_X13_12i dX13_init_19 S hE hG hS hC0 hnm e19 (fun H locs hG hS => ?_)
  refine lv_aload_n hx hb dX13_init_22 rfl (lv_at hl 0 rfl) ?_
  obtain ⟨qx23, e23, h⟩ := g_bd h
  refine c_new (n := 5) dX13_init_23 q1211 q1160 q154 rfl in_X12 tyX12_ok rfl (by decide) (by decide) S hE hG hS hC0 e23 (fun H locs hG hS => ?_)
  refine lv_dup hx hb dX13_init_26 rfl ?_
  refine lv_aload_n hx hb dX13_init_27 rfl (lv_at hl 1 rfl) ?_
  refine lv_iconst (v := 2) hx hb dX13_init_28 (by decide) ?_
  obtain ⟨v29, e29, h⟩ := g_bd h
  refine c_aldI dX13_init_29 S hE hG e29 ?_
  refine lv_aload_n hx hb dX13_init_30 rfl (lv_at hl 1 rfl) ?_
  refine lv_iconst (v := 3) hx hb dX13_init_31 (by decide) ?_
  obtain ⟨v32, e32, h⟩ := g_bd h
  refine c_aldI dX13_init_32 S hE hG e32 ?_
  obtain ⟨G33, e33, h⟩ := g_bd h
  refine c_cI (y := yX12_init) (rest := [.ref qx23.1, .ref x0]) dX13_init_33 q1212 q1162 q154 q1163 hc_X12_init rfl S hE hG hS hC0 hl.1 rfl (wm_X12_init E l qx23.1 v29 v32 qx23.2 _ e33) rfl (Nat.le_of_ble_eq_true rfl) ⟨Nat.le_of_ble_eq_true rfl, Nat.le_of_ble_eq_true rfl⟩ (fun H locs hG hS => ?_)
  obtain ⟨G36, e36, h⟩ := g_bd h
  refine cp_X13_21i dX13_init_36 S hE hG hS hC0 hnm e36 (fun H locs hG hS => ?_)
  refine lv_aload_n hx hb dX13_init_39 rfl (lv_at hl 0 rfl) ?_
  obtain ⟨qx40, e40, h⟩ := g_bd h
  refine c_new (n := 8) dX13_init_40 q1213 q1098 q152 rfl in_X10 tyX10_ok rfl (by decide) (by decide) S hE hG hS hC0 e40 (fun H locs hG hS => ?_)
  refine lv_dup hx hb dX13_init_43 rfl ?_
  refine lv_aload_n hx hb dX13_init_44 rfl (lv_at hl 1 rfl) ?_
  refine lv_iconst (v := 4) hx hb dX13_init_45 (by decide) ?_
  obtain ⟨v46, e46, h⟩ := g_bd h
  refine c_aldI dX13_init_46 S hE hG e46 ?_
  obtain ⟨G47, e47, h⟩ := g_bd h
  refine c_cI (y := yX10_init) (rest := [.ref qx40.1, .ref x0]) dX13_init_47 q1214 q1100 q152 q1101 hc_X10_init rfl S hE hG hS hC0 hl.1 rfl (wm_X10_init E l qx40.1 v46 qx40.2 _ e47) rfl (Nat.le_of_ble_eq_true rfl) ⟨Nat.le_of_ble_eq_true rfl, Nat.le_of_ble_eq_true rfl⟩ (fun H locs hG hS => ?_)
  obtain ⟨G50, e50, h⟩ := g_bd h
  refine cp_X13_28i dX13_init_50 S hE hG hS hC0 hnm e50 (fun H locs hG hS => ?_)
  exact c_vretW dX13_init_53 S hr hk hC0 hG hS h
theorem hc_X20_init : cHd yX20_init 1 := by decide +kernel
set_option maxHeartbeats 4000000 in
set_option maxRecDepth 100000 in
theorem wm_X20_init (E : gX) (l : Launch) (x0 : Nat) (x1 : Nat) (Gz G' : GH) (h : cm_X20_init x0 x1 Gz = some G') : gMetC E l yX20_init cX20_init 2 none 7 [.ref x0, .ref x1] Gz G' none := by
  refine gMetC.of (own := RX20) (by decide +kernel) (Nat.le_of_ble_eq_true rfl) rfl ?_
  intro p e s m args below meth c S hr hk hnm hE hC0 hG hS ls hl
  have hl : lv_has ls 2 [(0, .ref x0), (1, .ref x1)] := hl
  have hx := S.1
  have hb := S.2.1
  unfold cm_X20_init at h
  refine lv_aload_n hx hb dX20_init_0 rfl (lv_at hl 0 rfl) ?_
  refine lv_bipush (v := 7) hx hb dX20_init_1 (by decide) ?_
  obtain ⟨G3, e3, h⟩ := g_bd h
  refine c_cI (y := yX6_init) (rest := []) dX20_init_3 q1346 q1009 q148 q1010 hc_X6_init rfl S hE hG hS hC0 hl.1 rfl (wm_X6_init E l x0 7 Gz _ e3) rfl (Nat.le_of_ble_eq_true rfl) ⟨Nat.le_of_ble_eq_true rfl, Nat.le_of_ble_eq_true rfl⟩ (fun H locs hG hS => ?_)
  refine lv_aload_n hx hb dX20_init_6 rfl (lv_at hl 0 rfl) ?_
  obtain ⟨qx7, e7, h⟩ := g_bd h
  refine c_new (n := 1) dX20_init_7 q1347 q1235 q157 rfl in_X15 tyX15_ok rfl (by decide) (by decide) S hE hG hS hC0 e7 (fun H locs hG hS => ?_)
  refine lv_dup hx hb dX20_init_10 rfl ?_
  obtain ⟨G11, e11, h⟩ := g_bd h
  refine c_cIN (y := yX15_init) (rest := [.ref qx7.1, .ref x0]) dX20_init_11 (lw_nw q1348 rfl) q1237 q157 q1238 hc_X15_init rfl S hE hG hS hC0 hl.1 rfl (wm_X15_init E l qx7.1 qx7.2 _ e11) rfl (Nat.le_of_ble_eq_true rfl) ⟨Nat.le_of_ble_eq_true rfl, Nat.le_of_ble_eq_true rfl⟩ (fun H locs hG hS => ?_)
  obtain ⟨G14, e14, h⟩ := g_bd h
  refine cp_X20_12i dX20_init_14 S hE hG hS hC0 hnm e14 (fun H locs hG hS => ?_)
  refine lv_aload_n hx hb dX20_init_17 rfl (lv_at hl 0 rfl) ?_
  obtain ⟨qx18, e18, h⟩ := g_bd h
  refine c_new (n := 4) dX20_init_18 q1349 q1071 q151 rfl in_X9 tyX9_ok rfl (by decide) (by decide) S hE hG hS hC0 e18 (fun H locs hG hS => ?_)
  refine lv_dup hx hb dX20_init_21 rfl ?_
  refine lv_aload_n hx hb dX20_init_22 rfl (lv_at hl 1 rfl) ?_
  refine lv_iconst (v := 0) hx hb dX20_init_23 (by decide) ?_
  obtain ⟨v24, e24, h⟩ := g_bd h
  refine c_aldI dX20_init_24 S hE hG e24 ?_
  refine lv_aload_n hx hb dX20_init_25 rfl (lv_at hl 1 rfl) ?_
  refine lv_iconst (v := 1) hx hb dX20_init_26 (by decide) ?_
  obtain ⟨v27, e27, h⟩ := g_bd h
  refine c_aldI dX20_init_27 S hE hG e27 ?_
  obtain ⟨G28, e28, h⟩ := g_bd h
  refine c_cI (y := yX9_init) (rest := [.ref qx18.1, .ref x0]) dX20_init_28 q1350 q1073 q151 q1074 hc_X9_init rfl S hE hG hS hC0 hl.1 rfl (wm_X9_init E l qx18.1 v24 v27 qx18.2 _ e28) rfl (Nat.le_of_ble_eq_true rfl) ⟨Nat.le_of_ble_eq_true rfl, Nat.le_of_ble_eq_true rfl⟩ (fun H locs hG hS => ?_)
  obtain ⟨G31, e31, h⟩ := g_bd h
  refine cp_X20_23i dX20_init_31 S hE hG hS hC0 hnm e31 (fun H locs hG hS => ?_)
  refine lv_aload_n hx hb dX20_init_34 rfl (lv_at hl 0 rfl) ?_
  obtain ⟨qx35, e35, h⟩ := g_bd h
  refine c_new (n := 5) dX20_init_35 q1351 q1160 q154 rfl in_X12 tyX12_ok rfl (by decide) (by decide) S hE hG hS hC0 e35 (fun H locs hG hS => ?_)
  refine lv_dup hx hb dX20_init_38 rfl ?_
  refine lv_aload_n hx hb dX20_init_39 rfl (lv_at hl 1 rfl) ?_
  refine lv_iconst (v := 2) hx hb dX20_init_40 (by decide) ?_
  obtain ⟨v41, e41, h⟩ := g_bd h
  refine c_aldI dX20_init_41 S hE hG e41 ?_
  refine lv_aload_n hx hb dX20_init_42 rfl (lv_at hl 1 rfl) ?_
  refine lv_iconst (v := 3) hx hb dX20_init_43 (by decide) ?_
  obtain ⟨v44, e44, h⟩ := g_bd h
  refine c_aldI dX20_init_44 S hE hG e44 ?_
  obtain ⟨G45, e45, h⟩ := g_bd h
  refine c_cI (y := yX12_init) (rest := [.ref qx35.1, .ref x0]) dX20_init_45 q1352 q1162 q154 q1163 hc_X12_init rfl S hE hG hS hC0 hl.1 rfl (wm_X12_init E l qx35.1 v41 v44 qx35.2 _ e45) rfl (Nat.le_of_ble_eq_true rfl) ⟨Nat.le_of_ble_eq_true rfl, Nat.le_of_ble_eq_true rfl⟩ (fun H locs hG hS => ?_)
  obtain ⟨G48, e48, h⟩ := g_bd h
  refine cp_X20_30i dX20_init_48 S hE hG hS hC0 hnm e48 (fun H locs hG hS => ?_)
  refine lv_aload_n hx hb dX20_init_51 rfl (lv_at hl 0 rfl) ?_
  obtain ⟨qx52, e52, h⟩ := g_bd h
  refine c_new (n := 8) dX20_init_52 q1353 q1098 q152 rfl in_X10 tyX10_ok rfl (by decide) (by decide) S hE hG hS hC0 e52 (fun H locs hG hS => ?_)
  refine lv_dup hx hb dX20_init_55 rfl ?_
  refine lv_aload_n hx hb dX20_init_56 rfl (lv_at hl 1 rfl) ?_
  refine lv_iconst (v := 4) hx hb dX20_init_57 (by decide) ?_
  obtain ⟨v58, e58, h⟩ := g_bd h
  refine c_aldI dX20_init_58 S hE hG e58 ?_
  obtain ⟨G59, e59, h⟩ := g_bd h
  refine c_cI (y := yX10_init) (rest := [.ref qx52.1, .ref x0]) dX20_init_59 q1354 q1100 q152 q1101 hc_X10_init rfl S hE hG hS hC0 hl.1 rfl (wm_X10_init E l qx52.1 v58 qx52.2 _ e59) rfl (Nat.le_of_ble_eq_true rfl) ⟨Nat.le_of_ble_eq_true rfl, Nat.le_of_ble_eq_true rfl⟩ (fun H locs hG hS => ?_)
  obtain ⟨G62, e62, h⟩ := g_bd h
  refine cp_X20_37i dX20_init_62 S hE hG hS hC0 hnm e62 (fun H locs hG hS => ?_)
  refine lv_aload_n hx hb dX20_init_65 rfl (lv_at hl 0 rfl) ?_
  obtain ⟨qx66, e66, h⟩ := g_bd h
  refine c_new (n := 2) dX20_init_66 q1355 q1268 q159 rfl in_X17 tyX17_ok rfl (by decide) (by decide) S hE hG hS hC0 e66 (fun H locs hG hS => ?_)
  refine lv_dup hx hb dX20_init_69 rfl ?_
  refine lv_aload_n hx hb dX20_init_70 rfl (lv_at hl 1 rfl) ?_
  refine lv_iconst (v := 5) hx hb dX20_init_71 (by decide) ?_
  obtain ⟨v72, e72, h⟩ := g_bd h
  refine c_aldI dX20_init_72 S hE hG e72 ?_
  obtain ⟨G73, e73, h⟩ := g_bd h
  refine c_cI (y := yX17_init) (rest := [.ref qx66.1, .ref x0]) dX20_init_73 q1356 q1270 q159 q1271 hc_X17_init rfl S hE hG hS hC0 hl.1 rfl (wm_X17_init E l qx66.1 v72 qx66.2 _ e73) rfl (Nat.le_of_ble_eq_true rfl) ⟨Nat.le_of_ble_eq_true rfl, Nat.le_of_ble_eq_true rfl⟩ (fun H locs hG hS => ?_)
  obtain ⟨G76, e76, h⟩ := g_bd h
  refine cp_X20_44i dX20_init_76 S hE hG hS hC0 hnm e76 (fun H locs hG hS => ?_)
  exact c_vretW dX20_init_79 S hr hk hC0 hG hS h
theorem hc_X3_leader : cHd yX3_leader 0 := by decide +kernel
set_option maxHeartbeats 4000000 in
set_option maxRecDepth 100000 in
theorem wm_X3_leader (E : gX) (l : Launch) (hl9 : l.stackTraces = false) (x0 : Nat) (Gz : GH) (r : (GX Nat)) (h : cm_X3_leader x0 Gz = some r) : gMetX E l yX3_leader cX3_leader 4 (some (Jvm.ClassFile.FieldType.object "FairHouse$Spin")) 9 [.ref x0] Gz (gRs (fun r => some (.ref r)) r) := by
  refine gMetX.of (own := RX3) (by decide +kernel) (Nat.le_of_ble_eq_true rfl) rfl ?_
  intro p e s m args below meth c S hr hk hx9 hE hC0 hG hS ls hl
  have hl : lv_has ls 4 [(0, .ref x0)] := hl
  have hx := S.1
  have hb := S.2.1
  have J39 : ∀ (x0 : Nat) (G : GH) (H : Heap) (locs : List Loc) (ls : Array Slot), cm_X3_leader_J39 x0 G = some r → gC E G H → va_S (gx_C E) s.heap H locs → lv_has ls 4 [(0, .ref x0)] → WC E p l e (gRm 9 (cBx Gz) (cBs Gz)) s m args below meth c H locs (gXMQ E below (gRs (fun r => some (.ref r)) r) args s Gz) (F0 m 39 ls []) := by
    intro x0 G H locs ls h hG hS hl
    unfold cm_X3_leader_J39 at h
    refine lv_aload_n hx hb dX3_leader_39 rfl (lv_at hl 0 rfl) ?_
    refine lv_iconst (v := 3) hx hb dX3_leader_40 (by decide) ?_
    obtain ⟨u41, t41, h⟩ := g_bd h
    obtain ⟨qx41, e41, h⟩ := g_bd h
    refine c_cV (y := yX3_wrong) (rest := []) dX3_leader_41 q817 q819 qs8 q125 q820 hc_X3_wrong rfl S hE hG hS hC0 hl.1 rfl (c_recv hE hG (ci := 10) rfl (by decide) (c_castM t41)) (wm_X3_wrong E l hl9 x0 3 G _ _ e41) rfl (Nat.le_of_ble_eq_true rfl) ⟨Nat.le_of_ble_eq_true rfl, Nat.le_of_ble_eq_true rfl⟩ (fun H locs hG hS => ?_)
    exact c_throwW dX3_leader_44 S hE hG hS hC0 hx9 hk h
  have J74 : ∀ (x0 : Nat) (G : GH) (H : Heap) (locs : List Loc) (ls : Array Slot), cm_X3_leader_J74 x0 G = some r → gC E G H → va_S (gx_C E) s.heap H locs → lv_has ls 4 [(0, .ref x0)] → WC E p l e (gRm 9 (cBx Gz) (cBs Gz)) s m args below meth c H locs (gXMQ E below (gRs (fun r => some (.ref r)) r) args s Gz) (F0 m 74 ls []) := by
    intro x0 G H locs ls h hG hS hl
    unfold cm_X3_leader_J74 at h
    refine lv_aload_n hx hb dX3_leader_74 rfl (lv_at hl 0 rfl) ?_
    refine lv_iconst (v := 5) hx hb dX3_leader_75 (by decide) ?_
    obtain ⟨u76, t76, h⟩ := g_bd h
    obtain ⟨qx76, e76, h⟩ := g_bd h
    refine c_cV (y := yX3_wrong) (rest := []) dX3_leader_76 q817 q819 qs8 q125 q820 hc_X3_wrong rfl S hE hG hS hC0 hl.1 rfl (c_recv hE hG (ci := 10) rfl (by decide) (c_castM t76)) (wm_X3_wrong E l hl9 x0 5 G _ _ e76) rfl (Nat.le_of_ble_eq_true rfl) ⟨Nat.le_of_ble_eq_true rfl, Nat.le_of_ble_eq_true rfl⟩ (fun H locs hG hS => ?_)
    exact c_throwW dX3_leader_79 S hE hG hS hC0 hx9 hk h
  unfold cm_X3_leader at h
  refine lv_aload_n hx hb dX3_leader_0 rfl (lv_at hl 0 rfl) ?_
  obtain ⟨u1, t1, h⟩ := g_bd h
  rcases gXb_e h with ⟨qx1, e1, h⟩ | ⟨xx1, e1, rfl⟩
  rotate_left
  · exact c_xV (r := .inr xx1) (y := yX3_needWord) (rest := []) dX3_leader_1 q861 q863 qs13 q125 q864 hc_X3_needWord rfl S hE hG hS hC0 hl.1 rfl (c_recv hE hG (ci := 10) rfl (by decide) (c_castM t1)) (wm_X3_needWord E l hl9 x0 Gz _ e1) rfl (Nat.le_of_ble_eq_true rfl) ⟨Nat.le_of_ble_eq_true rfl, Nat.le_of_ble_eq_true rfl⟩ (fun hr9 => c_xthrew hC0 hr9 hS (fun H locs ce hG hS h1 h2 h3 => c_xout rfl hx9 hk hC0 hG hS h1 h2 h3))
  refine c_xV (r := .inl (none, qx1.2)) (y := yX3_needWord) (rest := []) dX3_leader_1 q861 q863 qs13 q125 q864 hc_X3_needWord rfl S hE hG hS hC0 hl.1 rfl (c_recv hE hG (ci := 10) rfl (by decide) (c_castM t1)) (wm_X3_needWord E l hl9 x0 Gz _ e1) rfl (Nat.le_of_ble_eq_true rfl) ⟨Nat.le_of_ble_eq_true rfl, Nat.le_of_ble_eq_true rfl⟩ (fun hr9 => c_xback hC0 hr9 hS (fun H locs hG hS => ?_))
  refine lv_aload_n hx hb dX3_leader_4 rfl (lv_at hl 0 rfl) ?_
  refine lv_aload_n hx hb dX3_leader_5 rfl (lv_at hl 0 rfl) ?_
  obtain ⟨v6, e6, h⟩ := g_bd h
  refine cg_X3_77 dX3_leader_6 S hE hG e6 ?_
  obtain ⟨u9, t9, h⟩ := g_bd h
  obtain ⟨v9, e9, h⟩ := g_bd h
  refine c_cV (y := yX3_named) (rest := []) dX3_leader_9 q877 q879 qs14 q125 q880 hc_X3_named rfl S hE hG hS hC0 hl.1 rfl (c_recv hE hG (ci := 10) rfl (by decide) (c_castM t9)) (wm_X3_named E l x0 v6 qx1.2 _ e9) rfl (Nat.le_of_ble_eq_true rfl) ⟨Nat.le_of_ble_eq_true rfl, Nat.le_of_ble_eq_true rfl⟩ (fun H locs hG hS => ?_)
  refine c_astoreQ_n (lv' := [(1, va_rf v9), (0, .ref x0)]) hx hb dX3_leader_12 rfl hl (by decide) (by cases v9 <;> rfl) (fun ls hl => ?_)
  refine c_aloadQ_n hx hb dX3_leader_13 rfl (lv_at hl 0 rfl) ?_
  refine c_ifnull (tgt := 39) hx hb dX3_leader_14 (by decide) (fun c14 => ?_) (fun c14 => ?_)
  · have h := g_it c14 h
    exact J39 x0 qx1.2 _ _ _ h hG hS (lv_sub hl [1] rfl)
  · have h := g_if c14 h
    refine c_aloadQ_n hx hb dX3_leader_17 rfl (lv_at hl 0 rfl) ?_
    obtain ⟨b18, eb18, h⟩ := g_bd h
    have rb18 : va_rf v9 = .ref b18 := by rw [eb18]; rfl
    (try rw [rb18] at hl)
    (try rw [rb18])
    obtain ⟨u18, t18, h⟩ := g_bd h
    obtain ⟨v18, e18, h⟩ := g_bd h
    refine c_cV (y := yX5_sort) (rest := []) dX3_leader_18 q1382 q1383 q1384 q147 q1385 hc_X5_sort rfl S hE hG hS hC0 hl.1 rfl (c_recv hE hG (ci := 12) rfl (by decide) (c_castM t18)) (wm_X5_sort E l b18 qx1.2 _ e18) rfl (Nat.le_of_ble_eq_true rfl) ⟨Nat.le_of_ble_eq_true rfl, Nat.le_of_ble_eq_true rfl⟩ (fun H locs hG hS => ?_)
    refine lv_iconst (v := 2) hx hb dX3_leader_21 (by decide) ?_
    refine lv_icmp_ne (tgt := 39) hx hb dX3_leader_22 (by decide) (fun c22 => ?_) (fun c22 => ?_)
    · have h := g_if c22 h
      exact J39 x0 qx1.2 _ _ _ h hG hS (lv_sub hl [1] rfl)
    · have h := g_it c22 h
      refine lv_aload_n hx hb dX3_leader_25 rfl (lv_at hl 0 rfl) ?_
      obtain ⟨u26, t26, h⟩ := g_bd h
      obtain ⟨v26, e26, h⟩ := g_bd h
      refine c_cV (y := yX5_number) (rest := []) dX3_leader_26 q1386 q1387 q1388 q147 q1389 hc_X5_number rfl S hE hG hS hC0 hl.1 rfl (c_recv hE hG (ci := 12) rfl (by decide) (c_castM t26)) (wm_X5_number E l b18 qx1.2 _ e26) rfl (Nat.le_of_ble_eq_true rfl) ⟨Nat.le_of_ble_eq_true rfl, Nat.le_of_ble_eq_true rfl⟩ (fun H locs hG hS => ?_)
      refine lv_aload_n hx hb dX3_leader_29 rfl (lv_at hl 1 rfl) ?_
      obtain ⟨v30, e30, h⟩ := g_bd h
      refine cg_X3_24 dX3_leader_30 S hE hG e30 ?_
      obtain ⟨u33, t33, h⟩ := g_bd h
      obtain ⟨v33, e33, h⟩ := g_bd h
      refine c_cV (y := yJ6_size) (rest := [.int v26]) dX3_leader_33 q881 q882 q883 q128 q884 hc_J6_size rfl S hE hG hS hC0 hl.1 rfl (c_recv hE hG (ci := 2) rfl (by decide) (c_castM t33)) (wm_J6_size E l v30 qx1.2 _ e33) rfl (Nat.le_of_ble_eq_true rfl) ⟨Nat.le_of_ble_eq_true rfl, Nat.le_of_ble_eq_true rfl⟩ (fun H locs hG hS => ?_)
      refine lv_icmp_ne (tgt := 45) hx hb dX3_leader_36 (by decide) (fun c36 => ?_) (fun c36 => ?_)
      · have h := g_if c36 h
        refine lv_aload_n hx hb dX3_leader_45 rfl (lv_at hl 1 rfl) ?_
        obtain ⟨v46, e46, h⟩ := g_bd h
        refine cg_X3_24 dX3_leader_46 S hE hG e46 ?_
        refine lv_aload_n hx hb dX3_leader_49 rfl (lv_at hl 0 rfl) ?_
        obtain ⟨u50, t50, h⟩ := g_bd h
        obtain ⟨v50, e50, h⟩ := g_bd h
        refine c_cV (y := yX5_number) (rest := [.ref v46]) dX3_leader_50 q1386 q1387 q1388 q147 q1389 hc_X5_number rfl S hE hG hS hC0 hl.1 rfl (c_recv hE hG (ci := 12) rfl (by decide) (c_castM t50)) (wm_X5_number E l b18 qx1.2 _ e50) rfl (Nat.le_of_ble_eq_true rfl) ⟨Nat.le_of_ble_eq_true rfl, Nat.le_of_ble_eq_true rfl⟩ (fun H locs hG hS => ?_)
        obtain ⟨u53, t53, h⟩ := g_bd h
        obtain ⟨v53, e53, h⟩ := g_bd h
        refine c_cV (y := yJ6_get) (rest := []) dX3_leader_53 q885 q886 q887 q128 q888 hc_J6_get rfl S hE hG hS hC0 hl.1 rfl (c_recv hE hG (ci := 2) rfl (by decide) (c_castM t53)) (wm_J6_get E l v46 v50 qx1.2 _ e53) rfl (Nat.le_of_ble_eq_true rfl) ⟨Nat.le_of_ble_eq_true rfl, Nat.le_of_ble_eq_true rfl⟩ (fun H locs hG hS => ?_)
        obtain ⟨b56, eb56, h⟩ := g_bd h
        have rb56 : va_rf v53 = .ref b56 := by rw [eb56]; rfl
        (try rw [rb56] at hl)
        (try rw [rb56])
        obtain ⟨u56, e56, h⟩ := g_bd h
        refine ck_X3_197 dX3_leader_56 S hE hG e56 ?_
        refine lv_astore_n (lv' := [(2, .ref b56), (1, .ref b18), (0, .ref x0)]) hx hb dX3_leader_59 rfl hl (by decide) rfl (fun ls hl => ?_)
        refine lv_aload_n hx hb dX3_leader_60 rfl (lv_at hl 0 rfl) ?_
        obtain ⟨v61, e61, h⟩ := g_bd h
        refine ci_X3_276 dX3_leader_61 S hE hG e61 ?_
        refine lv_if_eq (tgt := 74) hx hb dX3_leader_64 (by decide) (fun c64 => ?_) (fun c64 => ?_)
        · have h := g_it c64 h
          exact J74 x0 qx1.2 _ _ _ h hG hS (lv_sub hl [2] rfl)
        · have h := g_if c64 h
          refine lv_aload_n hx hb dX3_leader_67 rfl (lv_at hl 0 rfl) ?_
          obtain ⟨v68, e68, h⟩ := g_bd h
          refine ci_X3_278 dX3_leader_68 S hE hG e68 ?_
          refine lv_if_eq (tgt := 80) hx hb dX3_leader_71 (by decide) (fun c71 => ?_) (fun c71 => ?_)
          · have h := g_it c71 h
            refine lv_aload_n hx hb dX3_leader_80 rfl (lv_at hl 0 rfl) ?_
            obtain ⟨u81, e81, h⟩ := g_bd h
            refine ck_X3_276 dX3_leader_81 S hE hG e81 ?_
            refine lv_astore_n (lv' := [(3, .ref b56), (2, .ref b56), (1, .ref b18), (0, .ref x0)]) hx hb dX3_leader_84 rfl hl (by decide) rfl (fun ls hl => ?_)
            refine lv_aload_n hx hb dX3_leader_85 rfl (lv_at hl 3 rfl) ?_
            obtain ⟨u86, t86, h⟩ := g_bd h
            obtain ⟨G86, e86, h⟩ := g_bd h
            refine c_cV (y := yX3_go) (rest := []) dX3_leader_86 q701 q703 qs2 q125 q704 hc_X3_go rfl S hE hG hS hC0 hl.1 rfl (c_recv hE hG (ci := 10) rfl (by decide) (c_castM t86)) (wm_X3_go E l x0 qx1.2 _ e86) rfl (Nat.le_of_ble_eq_true rfl) ⟨Nat.le_of_ble_eq_true rfl, Nat.le_of_ble_eq_true rfl⟩ (fun H locs hG hS => ?_)
            refine lv_aload_n hx hb dX3_leader_89 rfl (lv_at hl 0 rfl) ?_
            obtain ⟨v90, e90, h⟩ := g_bd h
            refine wd_Turns_spin (rest := []) q1394 dX3_leader_90 S hE hG hS hC0 hl.1 e90 rfl (Nat.le_of_ble_eq_true rfl) (by decide) (fun H locs hG hS => ?_)
            cases h
            exact c_xret (v := some (.ref v90)) (G1 := G86) rfl (c_aretW dX3_leader_95 (Or.inl ⟨_, rfl⟩) S hr hk hC0 hG hS rfl)
          · have h := g_if c71 h
            exact J74 x0 qx1.2 _ _ _ h hG hS (lv_sub hl [2] rfl)
      · have h := g_it c36 h
        exact J39 x0 qx1.2 _ _ _ h hG hS (lv_sub hl [1] rfl)
theorem hc_X21_init : cHd yX21_init 2 := by decide +kernel
set_option maxHeartbeats 4000000 in
set_option maxRecDepth 100000 in
theorem wm_X21_init (E : gX) (l : Launch) (x0 : Nat) (x1 : Nat) (x2 : Nat) (Gz G' : GH) (h : cm_X21_init x0 x1 x2 Gz = some G') : gMetC E l yX21_init cX21_init 3 none 7 [.ref x0, .ref x1, .ref x2] Gz G' none := by
  refine gMetC.of (own := RX21) (by decide +kernel) (Nat.le_of_ble_eq_true rfl) rfl ?_
  intro p e s m args below meth c S hr hk hnm hE hC0 hG hS ls hl
  have hl : lv_has ls 3 [(0, .ref x0), (1, .ref x1), (2, .ref x2)] := hl
  have hx := S.1
  have hb := S.2.1
  unfold cm_X21_init at h
  refine lv_aload_n hx hb dX21_init_0 rfl (lv_at hl 0 rfl) ?_
  refine lv_bipush (v := 8) hx hb dX21_init_1 (by decide) ?_
  obtain ⟨G3, e3, h⟩ := g_bd h
  refine c_cI (y := yX6_init) (rest := []) dX21_init_3 q1430 q1009 q148 q1010 hc_X6_init rfl S hE hG hS hC0 hl.1 rfl (wm_X6_init E l x0 8 Gz _ e3) rfl (Nat.le_of_ble_eq_true rfl) ⟨Nat.le_of_ble_eq_true rfl, Nat.le_of_ble_eq_true rfl⟩ (fun H locs hG hS => ?_)
  refine lv_aload_n hx hb dX21_init_6 rfl (lv_at hl 0 rfl) ?_
  obtain ⟨qx7, e7, h⟩ := g_bd h
  refine c_new (n := 4) dX21_init_7 q1431 q1071 q151 rfl in_X9 tyX9_ok rfl (by decide) (by decide) S hE hG hS hC0 e7 (fun H locs hG hS => ?_)
  refine lv_dup hx hb dX21_init_10 rfl ?_
  refine lv_aload_n hx hb dX21_init_11 rfl (lv_at hl 1 rfl) ?_
  refine lv_iconst (v := 0) hx hb dX21_init_12 (by decide) ?_
  obtain ⟨v13, e13, h⟩ := g_bd h
  refine c_aldI dX21_init_13 S hE hG e13 ?_
  refine lv_aload_n hx hb dX21_init_14 rfl (lv_at hl 1 rfl) ?_
  refine lv_iconst (v := 1) hx hb dX21_init_15 (by decide) ?_
  obtain ⟨v16, e16, h⟩ := g_bd h
  refine c_aldI dX21_init_16 S hE hG e16 ?_
  obtain ⟨G17, e17, h⟩ := g_bd h
  refine c_cI (y := yX9_init) (rest := [.ref qx7.1, .ref x0]) dX21_init_17 q1432 q1073 q151 q1074 hc_X9_init rfl S hE hG hS hC0 hl.1 rfl (wm_X9_init E l qx7.1 v13 v16 qx7.2 _ e17) rfl (Nat.le_of_ble_eq_true rfl) ⟨Nat.le_of_ble_eq_true rfl, Nat.le_of_ble_eq_true rfl⟩ (fun H locs hG hS => ?_)
  obtain ⟨G20, e20, h⟩ := g_bd h
  refine cp_X21_12i dX21_init_20 S hE hG hS hC0 hnm e20 (fun H locs hG hS => ?_)
  refine lv_aload_n hx hb dX21_init_23 rfl (lv_at hl 0 rfl) ?_
  obtain ⟨qx24, e24, h⟩ := g_bd h
  refine c_new (n := 8) dX21_init_24 q1433 q1098 q152 rfl in_X10 tyX10_ok rfl (by decide) (by decide) S hE hG hS hC0 e24 (fun H locs hG hS => ?_)
  refine lv_dup hx hb dX21_init_27 rfl ?_
  refine lv_aload_n hx hb dX21_init_28 rfl (lv_at hl 1 rfl) ?_
  refine lv_iconst (v := 2) hx hb dX21_init_29 (by decide) ?_
  obtain ⟨v30, e30, h⟩ := g_bd h
  refine c_aldI dX21_init_30 S hE hG e30 ?_
  obtain ⟨G31, e31, h⟩ := g_bd h
  refine c_cI (y := yX10_init) (rest := [.ref qx24.1, .ref x0]) dX21_init_31 q1434 q1100 q152 q1101 hc_X10_init rfl S hE hG hS hC0 hl.1 rfl (wm_X10_init E l qx24.1 v30 qx24.2 _ e31) rfl (Nat.le_of_ble_eq_true rfl) ⟨Nat.le_of_ble_eq_true rfl, Nat.le_of_ble_eq_true rfl⟩ (fun H locs hG hS => ?_)
  obtain ⟨G34, e34, h⟩ := g_bd h
  refine cp_X21_21i dX21_init_34 S hE hG hS hC0 hnm e34 (fun H locs hG hS => ?_)
  refine lv_aload_n hx hb dX21_init_37 rfl (lv_at hl 0 rfl) ?_
  refine lv_aload_n hx hb dX21_init_38 rfl (lv_at hl 2 rfl) ?_
  obtain ⟨G39, e39, h⟩ := g_bd h
  refine cp_X21_25i dX21_init_39 S hE hG hS hC0 hnm e39 (fun H locs hG hS => ?_)
  exact c_vretW dX21_init_42 S hr hk hC0 hG hS h
theorem hc_X3_made : cHd yX3_made 2 := by decide +kernel
set_option maxHeartbeats 4000000 in
set_option maxRecDepth 100000 in
theorem wm_X3_made (E : gX) (l : Launch) (hl9 : l.stackTraces = false) (x0 : Nat) (x1 : Int32) (x2 : Nat) (Gz : GH) (r : (GX Nat)) (h : cm_X3_made x0 x1 x2 Gz = some r) : gMetX E l yX3_made cX3_made 3 (some (Jvm.ClassFile.FieldType.object "FairHouse$Ride")) 10 [.ref x0, .int x1, .ref x2] Gz (gRs (fun r => some (.ref r)) r) := by
  refine gMetX.of (own := RX3) (by decide +kernel) (Nat.le_of_ble_eq_true rfl) rfl ?_
  intro p e s m args below meth c S hr hk hx9 hE hC0 hG hS ls hl
  have hl : lv_has ls 3 [(0, .ref x0), (1, .int x1), (2, .ref x2)] := hl
  have hx := S.1
  have hb := S.2.1
  unfold cm_X3_made at h
  refine lv_iload_n hx hb dX3_made_0 rfl (lv_at hl 1 rfl) ?_
  by_cases c1_0 : x1 = 0
  · have h := g_it c1_0 h
    refine lv_tableIn (off := 47) (tgt := 48) hx hb dX3_made_1 (by rw [c1_0]; decide) (by rw [c1_0]; decide) (by rw [c1_0]; rfl) (by decide) ?_
    obtain ⟨qx48, e48, h⟩ := g_bd h
    refine c_new (n := 5) dX3_made_48 q1003 q1004 q149 rfl in_X7 tyX7_ok rfl (by decide) (by decide) S hE hG hS hC0 e48 (fun H locs hG hS => ?_)
    refine lv_dup hx hb dX3_made_51 rfl ?_
    refine lv_aload_n hx hb dX3_made_52 rfl (lv_at hl 2 rfl) ?_
    obtain ⟨G53, e53, h⟩ := g_bd h
    refine c_cI (y := yX7_init) (rest := [.ref qx48.1]) dX3_made_53 q1005 q1006 q149 q1007 hc_X7_init rfl S hE hG hS hC0 hl.1 rfl (wm_X7_init E l qx48.1 x2 qx48.2 _ e53) rfl (Nat.le_of_ble_eq_true rfl) ⟨Nat.le_of_ble_eq_true rfl, Nat.le_of_ble_eq_true rfl⟩ (fun H locs hG hS => ?_)
    cases h
    exact c_xret (v := some (.ref qx48.1)) (G1 := G53) rfl (c_aretW dX3_made_56 (Or.inl ⟨_, rfl⟩) S hr hk hC0 hG hS rfl)
  have h := g_if c1_0 h
  by_cases c1_1 : x1 = 1
  · have h := g_it c1_1 h
    refine lv_tableIn (off := 56) (tgt := 57) hx hb dX3_made_1 (by rw [c1_1]; decide) (by rw [c1_1]; decide) (by rw [c1_1]; rfl) (by decide) ?_
    obtain ⟨qx57, e57, h⟩ := g_bd h
    refine c_new (n := 5) dX3_made_57 q1153 q1154 q153 rfl in_X11 tyX11_ok rfl (by decide) (by decide) S hE hG hS hC0 e57 (fun H locs hG hS => ?_)
    refine lv_dup hx hb dX3_made_60 rfl ?_
    refine lv_aload_n hx hb dX3_made_61 rfl (lv_at hl 2 rfl) ?_
    obtain ⟨G62, e62, h⟩ := g_bd h
    refine c_cI (y := yX11_init) (rest := [.ref qx57.1]) dX3_made_62 q1155 q1156 q153 q1157 hc_X11_init rfl S hE hG hS hC0 hl.1 rfl (wm_X11_init E l qx57.1 x2 qx57.2 _ e62) rfl (Nat.le_of_ble_eq_true rfl) ⟨Nat.le_of_ble_eq_true rfl, Nat.le_of_ble_eq_true rfl⟩ (fun H locs hG hS => ?_)
    cases h
    exact c_xret (v := some (.ref qx57.1)) (G1 := G62) rfl (c_aretW dX3_made_65 (Or.inl ⟨_, rfl⟩) S hr hk hC0 hG hS rfl)
  have h := g_if c1_1 h
  by_cases c1_2 : x1 = 2
  · have h := g_it c1_2 h
    refine lv_tableIn (off := 65) (tgt := 66) hx hb dX3_made_1 (by rw [c1_2]; decide) (by rw [c1_2]; decide) (by rw [c1_2]; rfl) (by decide) ?_
    obtain ⟨qx66, e66, h⟩ := g_bd h
    refine c_new (n := 6) dX3_made_66 q1203 q1204 q155 rfl in_X13 tyX13_ok rfl (by decide) (by decide) S hE hG hS hC0 e66 (fun H locs hG hS => ?_)
    refine lv_dup hx hb dX3_made_69 rfl ?_
    refine lv_aload_n hx hb dX3_made_70 rfl (lv_at hl 2 rfl) ?_
    obtain ⟨G71, e71, h⟩ := g_bd h
    refine c_cI (y := yX13_init) (rest := [.ref qx66.1]) dX3_made_71 q1205 q1206 q155 q1207 hc_X13_init rfl S hE hG hS hC0 hl.1 rfl (wm_X13_init E l qx66.1 x2 qx66.2 _ e71) rfl (Nat.le_of_ble_eq_true rfl) ⟨Nat.le_of_ble_eq_true rfl, Nat.le_of_ble_eq_true rfl⟩ (fun H locs hG hS => ?_)
    cases h
    exact c_xret (v := some (.ref qx66.1)) (G1 := G71) rfl (c_aretW dX3_made_74 (Or.inl ⟨_, rfl⟩) S hr hk hC0 hG hS rfl)
  have h := g_if c1_2 h
  by_cases c1_3 : x1 = 3
  · have h := g_it c1_3 h
    refine lv_tableIn (off := 74) (tgt := 75) hx hb dX3_made_1 (by rw [c1_3]; decide) (by rw [c1_3]; decide) (by rw [c1_3]; rfl) (by decide) ?_
    obtain ⟨qx75, e75, h⟩ := g_bd h
    refine c_new (n := 5) dX3_made_75 q1228 q1229 q156 rfl in_X14 tyX14_ok rfl (by decide) (by decide) S hE hG hS hC0 e75 (fun H locs hG hS => ?_)
    refine lv_dup hx hb dX3_made_78 rfl ?_
    refine lv_aload_n hx hb dX3_made_79 rfl (lv_at hl 2 rfl) ?_
    obtain ⟨G80, e80, h⟩ := g_bd h
    refine c_cI (y := yX14_init) (rest := [.ref qx75.1]) dX3_made_80 q1230 q1231 q156 q1232 hc_X14_init rfl S hE hG hS hC0 hl.1 rfl (wm_X14_init E l qx75.1 x2 qx75.2 _ e80) rfl (Nat.le_of_ble_eq_true rfl) ⟨Nat.le_of_ble_eq_true rfl, Nat.le_of_ble_eq_true rfl⟩ (fun H locs hG hS => ?_)
    cases h
    exact c_xret (v := some (.ref qx75.1)) (G1 := G80) rfl (c_aretW dX3_made_83 (Or.inl ⟨_, rfl⟩) S hr hk hC0 hG hS rfl)
  have h := g_if c1_3 h
  by_cases c1_4 : x1 = 4
  · have h := g_it c1_4 h
    refine lv_tableIn (off := 83) (tgt := 84) hx hb dX3_made_1 (by rw [c1_4]; decide) (by rw [c1_4]; decide) (by rw [c1_4]; rfl) (by decide) ?_
    obtain ⟨qx84, e84, h⟩ := g_bd h
    refine c_new (n := 4) dX3_made_84 q1261 q1262 q158 rfl in_X16 tyX16_ok rfl (by decide) (by decide) S hE hG hS hC0 e84 (fun H locs hG hS => ?_)
    refine lv_dup hx hb dX3_made_87 rfl ?_
    refine lv_aload_n hx hb dX3_made_88 rfl (lv_at hl 2 rfl) ?_
    obtain ⟨G89, e89, h⟩ := g_bd h
    refine c_cI (y := yX16_init) (rest := [.ref qx84.1]) dX3_made_89 q1263 q1264 q158 q1265 hc_X16_init rfl S hE hG hS hC0 hl.1 rfl (wm_X16_init E l qx84.1 x2 qx84.2 _ e89) rfl (Nat.le_of_ble_eq_true rfl) ⟨Nat.le_of_ble_eq_true rfl, Nat.le_of_ble_eq_true rfl⟩ (fun H locs hG hS => ?_)
    cases h
    exact c_xret (v := some (.ref qx84.1)) (G1 := G89) rfl (c_aretW dX3_made_92 (Or.inl ⟨_, rfl⟩) S hr hk hC0 hG hS rfl)
  have h := g_if c1_4 h
  by_cases c1_5 : x1 = 5
  · have h := g_it c1_5 h
    refine lv_tableIn (off := 92) (tgt := 93) hx hb dX3_made_1 (by rw [c1_5]; decide) (by rw [c1_5]; decide) (by rw [c1_5]; rfl) (by decide) ?_
    obtain ⟨qx93, e93, h⟩ := g_bd h
    refine c_new (n := 6) dX3_made_93 q1291 q1292 q160 rfl in_X18 tyX18_ok rfl (by decide) (by decide) S hE hG hS hC0 e93 (fun H locs hG hS => ?_)
    refine lv_dup hx hb dX3_made_96 rfl ?_
    refine lv_aload_n hx hb dX3_made_97 rfl (lv_at hl 2 rfl) ?_
    obtain ⟨G98, e98, h⟩ := g_bd h
    refine c_cI (y := yX18_init) (rest := [.ref qx93.1]) dX3_made_98 q1293 q1294 q160 q1295 hc_X18_init rfl S hE hG hS hC0 hl.1 rfl (wm_X18_init E l qx93.1 x2 qx93.2 _ e98) rfl (Nat.le_of_ble_eq_true rfl) ⟨Nat.le_of_ble_eq_true rfl, Nat.le_of_ble_eq_true rfl⟩ (fun H locs hG hS => ?_)
    cases h
    exact c_xret (v := some (.ref qx93.1)) (G1 := G98) rfl (c_aretW dX3_made_101 (Or.inl ⟨_, rfl⟩) S hr hk hC0 hG hS rfl)
  have h := g_if c1_5 h
  by_cases c1_6 : x1 = 6
  · have h := g_it c1_6 h
    refine lv_tableIn (off := 101) (tgt := 102) hx hb dX3_made_1 (by rw [c1_6]; decide) (by rw [c1_6]; decide) (by rw [c1_6]; rfl) (by decide) ?_
    obtain ⟨qx102, e102, h⟩ := g_bd h
    refine c_new (n := 6) dX3_made_102 q1316 q1317 q161 rfl in_X19 tyX19_ok rfl (by decide) (by decide) S hE hG hS hC0 e102 (fun H locs hG hS => ?_)
    refine lv_dup hx hb dX3_made_105 rfl ?_
    refine lv_aload_n hx hb dX3_made_106 rfl (lv_at hl 2 rfl) ?_
    obtain ⟨G107, e107, h⟩ := g_bd h
    refine c_cI (y := yX19_init) (rest := [.ref qx102.1]) dX3_made_107 q1318 q1319 q161 q1320 hc_X19_init rfl S hE hG hS hC0 hl.1 rfl (wm_X19_init E l qx102.1 x2 qx102.2 _ e107) rfl (Nat.le_of_ble_eq_true rfl) ⟨Nat.le_of_ble_eq_true rfl, Nat.le_of_ble_eq_true rfl⟩ (fun H locs hG hS => ?_)
    cases h
    exact c_xret (v := some (.ref qx102.1)) (G1 := G107) rfl (c_aretW dX3_made_110 (Or.inl ⟨_, rfl⟩) S hr hk hC0 hG hS rfl)
  have h := g_if c1_6 h
  by_cases c1_7 : x1 = 7
  · have h := g_it c1_7 h
    refine lv_tableIn (off := 110) (tgt := 111) hx hb dX3_made_1 (by rw [c1_7]; decide) (by rw [c1_7]; decide) (by rw [c1_7]; rfl) (by decide) ?_
    obtain ⟨qx111, e111, h⟩ := g_bd h
    refine c_new (n := 8) dX3_made_111 q1341 q1342 q162 rfl in_X20 tyX20_ok rfl (by decide) (by decide) S hE hG hS hC0 e111 (fun H locs hG hS => ?_)
    refine lv_dup hx hb dX3_made_114 rfl ?_
    refine lv_aload_n hx hb dX3_made_115 rfl (lv_at hl 2 rfl) ?_
    obtain ⟨G116, e116, h⟩ := g_bd h
    refine c_cI (y := yX20_init) (rest := [.ref qx111.1]) dX3_made_116 q1343 q1344 q162 q1345 hc_X20_init rfl S hE hG hS hC0 hl.1 rfl (wm_X20_init E l qx111.1 x2 qx111.2 _ e116) rfl (Nat.le_of_ble_eq_true rfl) ⟨Nat.le_of_ble_eq_true rfl, Nat.le_of_ble_eq_true rfl⟩ (fun H locs hG hS => ?_)
    cases h
    exact c_xret (v := some (.ref qx111.1)) (G1 := G116) rfl (c_aretW dX3_made_119 (Or.inl ⟨_, rfl⟩) S hr hk hC0 hG hS rfl)
  have h := g_if c1_7 h
  refine lv_tableOut (tgt := 120) hx hb dX3_made_1 (g_swOut 0 7 (by intro k hk; match k, hk with | 0, _ => exact c1_0 | 1, _ => exact c1_1 | 2, _ => exact c1_2 | 3, _ => exact c1_3 | 4, _ => exact c1_4 | 5, _ => exact c1_5 | 6, _ => exact c1_6 | 7, _ => exact c1_7 | k + 8, hk => exact absurd hk (by omega)) (by decide) (by decide)) (by decide) ?_
  obtain ⟨qx120, e120, h⟩ := g_bd h
  refine c_new (n := 6) dX3_made_120 q1376 q1377 q163 rfl in_X21 tyX21_ok rfl (by decide) (by decide) S hE hG hS hC0 e120 (fun H locs hG hS => ?_)
  refine lv_dup hx hb dX3_made_123 rfl ?_
  refine lv_aload_n hx hb dX3_made_124 rfl (lv_at hl 2 rfl) ?_
  refine lv_aload_n hx hb dX3_made_125 rfl (lv_at hl 0 rfl) ?_
  obtain ⟨u126, t126, h⟩ := g_bd h
  rcases gXb_e h with ⟨qx126, e126, h⟩ | ⟨xx126, e126, rfl⟩
  rotate_left
  · exact c_xV (r := .inr xx126) (y := yX3_leader) (rest := [.ref x2, .ref qx120.1, .ref qx120.1]) dX3_made_126 q1378 q1380 qs20 q125 q1381 hc_X3_leader rfl S hE hG hS hC0 hl.1 rfl (c_recv hE hG (ci := 10) rfl (by decide) (c_castM t126)) (wm_X3_leader E l hl9 x0 qx120.2 _ e126) rfl (Nat.le_of_ble_eq_true rfl) ⟨Nat.le_of_ble_eq_true rfl, Nat.le_of_ble_eq_true rfl⟩ (fun hr9 => c_xthrew hC0 hr9 hS (fun H locs ce hG hS h1 h2 h3 => c_xout rfl hx9 hk hC0 hG hS h1 h2 h3))
  refine c_xV (r := .inl (some (.ref qx126.1), qx126.2)) (y := yX3_leader) (rest := [.ref x2, .ref qx120.1, .ref qx120.1]) dX3_made_126 q1378 q1380 qs20 q125 q1381 hc_X3_leader rfl S hE hG hS hC0 hl.1 rfl (c_recv hE hG (ci := 10) rfl (by decide) (c_castM t126)) (wm_X3_leader E l hl9 x0 qx120.2 _ e126) rfl (Nat.le_of_ble_eq_true rfl) ⟨Nat.le_of_ble_eq_true rfl, Nat.le_of_ble_eq_true rfl⟩ (fun hr9 => c_xback hC0 hr9 hS (fun H locs hG hS => ?_))
  obtain ⟨G129, e129, h⟩ := g_bd h
  refine c_cI (y := yX21_init) (rest := [.ref qx120.1]) dX3_made_129 q1427 q1428 q163 q1429 hc_X21_init rfl S hE hG hS hC0 hl.1 rfl (wm_X21_init E l qx120.1 x2 qx126.1 qx126.2 _ e129) rfl (Nat.le_of_ble_eq_true rfl) ⟨Nat.le_of_ble_eq_true rfl, Nat.le_of_ble_eq_true rfl⟩ (fun H locs hG hS => ?_)
  cases h
  exact c_xret (v := some (.ref qx120.1)) (G1 := G129) rfl (c_aretW dX3_made_132 (Or.inl ⟨_, rfl⟩) S hr hk hC0 hG hS rfl)
theorem hc_X3_ride : cHd yX3_ride 0 := by decide +kernel
set_option maxHeartbeats 4000000 in
set_option maxRecDepth 100000 in
theorem wm_X3_ride (E : gX) (l : Launch) (hl9 : l.stackTraces = false) (x0 : Nat) (Gz : GH) (r : (GX Unit)) (h : cm_X3_ride x0 Gz = some r) : gMetX E l yX3_ride cX3_ride 4 none 135 [.ref x0] Gz (gRs (fun _ => none) r) := by
  refine gMetX.of (own := RX3) (by decide +kernel) (Nat.le_of_ble_eq_true rfl) rfl ?_
  intro p e s m args below meth c S hr hk hx9 hE hC0 hG hS ls hl
  have hl : lv_has ls 4 [(0, .ref x0)] := hl
  have hx := S.1
  have hb := S.2.1
  have L46 : ∀ (n : Nat) (x0 : Nat) (x1 : Int32) (x2 : Nat) (x3 : Int32) (G : GH) (H : Heap) (locs : List Loc) (ls : Array Slot), cm_X3_ride_L46 n x0 x1 x2 x3 G = some r → gC E G H → va_S (gx_C E) s.heap H locs → lv_has ls 4 [(0, .ref x0), (1, .int x1), (2, .ref x2), (3, .int x3)] → WC E p l e (gRm 135 (cBx Gz) (cBs Gz)) s m args below meth c H locs (gXMQ E below (gRs (fun _ => none) r) args s Gz) (F0 m 46 ls []) := by
    intro n46
    induction n46 with
    | zero =>
      intro x0 x1 x2 x3 G H locs ls h
      cases h
    | succ n46 ih46 =>
      intro x0 x1 x2 x3 G H locs ls h hG hS hl
      have h : cm_X3_ride_B46 (cm_X3_ride_L46 n46) x0 x1 x2 x3 G = some r := h
      unfold cm_X3_ride_B46 at h
      refine lv_iload_n hx hb dX3_ride_46 rfl (lv_at hl 3 rfl) ?_
      refine lv_aload_n hx hb dX3_ride_47 rfl (lv_at hl 2 rfl) ?_
      obtain ⟨v48, e48, h⟩ := g_bd h
      refine c_len dX3_ride_48 S hE hG e48 ?_
      refine lv_icmp_ge (tgt := 69) hx hb dX3_ride_49 (by decide) (fun c49 => ?_) (fun c49 => ?_)
      · have h := g_it c49 h
        refine lv_aload_n hx hb dX3_ride_69 rfl (lv_at hl 0 rfl) ?_
        refine lv_aload_n hx hb dX3_ride_70 rfl (lv_at hl 0 rfl) ?_
        refine lv_iload_n hx hb dX3_ride_71 rfl (lv_at hl 1 rfl) ?_
        refine lv_aload_n hx hb dX3_ride_72 rfl (lv_at hl 2 rfl) ?_
        obtain ⟨u73, t73, h⟩ := g_bd h
        rcases gXb_e h with ⟨qx73, e73, h⟩ | ⟨xx73, e73, rfl⟩
        rotate_left
        · exact c_xV (r := .inr xx73) (y := yX3_made) (rest := [.ref x0]) dX3_ride_73 q999 q1001 qs19 q125 q1002 hc_X3_made rfl S hE hG hS hC0 hl.1 rfl (c_recv hE hG (ci := 10) rfl (by decide) (c_castM t73)) (wm_X3_made E l hl9 x0 x1 x2 G _ e73) rfl (Nat.le_of_ble_eq_true rfl) ⟨Nat.le_of_ble_eq_true rfl, Nat.le_of_ble_eq_true rfl⟩ (fun hr9 => c_xthrew hC0 hr9 hS (fun H locs ce hG hS h1 h2 h3 => c_xout rfl hx9 hk hC0 hG hS h1 h2 h3))
        refine c_xV (r := .inl (some (.ref qx73.1), qx73.2)) (y := yX3_made) (rest := [.ref x0]) dX3_ride_73 q999 q1001 qs19 q125 q1002 hc_X3_made rfl S hE hG hS hC0 hl.1 rfl (c_recv hE hG (ci := 10) rfl (by decide) (c_castM t73)) (wm_X3_made E l hl9 x0 x1 x2 G _ e73) rfl (Nat.le_of_ble_eq_true rfl) ⟨Nat.le_of_ble_eq_true rfl, Nat.le_of_ble_eq_true rfl⟩ (fun hr9 => c_xback hC0 hr9 hS (fun H locs hG hS => ?_))
        obtain ⟨G76, e76, h⟩ := g_bd h
        refine cp_X3_216 dX3_ride_76 S hE hG hS hC0 e76 (fun H locs hG hS => ?_)
        refine lv_aload_n hx hb dX3_ride_79 rfl (lv_at hl 0 rfl) ?_
        obtain ⟨v80, e80, h⟩ := g_bd h
        refine cg_X3_24 dX3_ride_80 S hE hG e80 ?_
        refine lv_aload_n hx hb dX3_ride_83 rfl (lv_at hl 0 rfl) ?_
        obtain ⟨v84, e84, h⟩ := g_bd h
        refine cg_X3_216 dX3_ride_84 S hE hG e84 ?_
        obtain ⟨u87, t87, h⟩ := g_bd h
        obtain ⟨qx87, e87, h⟩ := g_bd h
        refine c_cV (y := yJ6_add) (rest := []) dX3_ride_87 q920 q921 q922 q128 q923 hc_J6_add rfl S hE hG hS hC0 hl.1 rfl (c_recv hE hG (ci := 2) rfl (by decide) (c_castM t87)) (wm_J6_add E l v80 v84 G76 _ _ e87) rfl (Nat.le_of_ble_eq_true rfl) ⟨Nat.le_of_ble_eq_true rfl, Nat.le_of_ble_eq_true rfl⟩ (fun H locs hG hS => ?_)
        refine lv_pop hx hb dX3_ride_90 rfl ?_
        refine lv_aload_n hx hb dX3_ride_91 rfl (lv_at hl 0 rfl) ?_
        refine lv_iconst (v := 0) hx hb dX3_ride_92 (by decide) ?_
        obtain ⟨G93, e93, h⟩ := g_bd h
        refine cp_X3_217 dX3_ride_93 S hE hG hS hC0 e93 (fun H locs hG hS => ?_)
        refine lv_aload_n hx hb dX3_ride_96 rfl (lv_at hl 0 rfl) ?_
        refine lv_iconst (v := 0) hx hb dX3_ride_97 (by decide) ?_
        obtain ⟨G98, e98, h⟩ := g_bd h
        refine cp_X3_220 dX3_ride_98 S hE hG hS hC0 e98 (fun H locs hG hS => ?_)
        refine lv_aload_n hx hb dX3_ride_101 rfl (lv_at hl 0 rfl) ?_
        refine lv_iconst (v := 0) hx hb dX3_ride_102 (by decide) ?_
        obtain ⟨G103, e103, h⟩ := g_bd h
        refine cp_X3_223 dX3_ride_103 S hE hG hS hC0 e103 (fun H locs hG hS => ?_)
        refine lv_aload_n hx hb dX3_ride_106 rfl (lv_at hl 0 rfl) ?_
        obtain ⟨u107, t107, h⟩ := g_bd h
        rcases gXb_e h with ⟨qx107, e107, h⟩ | ⟨xx107, e107, rfl⟩
        rotate_left
        · exact c_xV (r := .inr xx107) (y := yX3_block) (rest := []) dX3_ride_107 q1448 q1450 qs21 q125 q1451 hc_X3_block rfl S hE hG hS hC0 hl.1 rfl (c_recv hE hG (ci := 10) rfl (by decide) (c_castM t107)) (wm_X3_block E l hl9 60 x0 G103 _ e107) rfl (Nat.le_of_ble_eq_true rfl) ⟨Nat.le_of_ble_eq_true rfl, Nat.le_of_ble_eq_true rfl⟩ (fun hr9 => c_xthrew hC0 hr9 hS (fun H locs ce hG hS h1 h2 h3 => c_xout rfl hx9 hk hC0 hG hS h1 h2 h3))
        refine c_xV (r := .inl (none, qx107.2)) (y := yX3_block) (rest := []) dX3_ride_107 q1448 q1450 qs21 q125 q1451 hc_X3_block rfl S hE hG hS hC0 hl.1 rfl (c_recv hE hG (ci := 10) rfl (by decide) (c_castM t107)) (wm_X3_block E l hl9 60 x0 G103 _ e107) rfl (Nat.le_of_ble_eq_true rfl) ⟨Nat.le_of_ble_eq_true rfl, Nat.le_of_ble_eq_true rfl⟩ (fun hr9 => c_xback hC0 hr9 hS (fun H locs hG hS => ?_))
        refine lv_aload_n hx hb dX3_ride_110 rfl (lv_at hl 0 rfl) ?_
        obtain ⟨v111, e111, h⟩ := g_bd h
        refine cg_X3_216 dX3_ride_111 S hE hG e111 ?_
        obtain ⟨v114, e114, h⟩ := g_bd h
        refine cg_X3_229 dX3_ride_114 S hE hG e114 ?_
        obtain ⟨qx117, e117, h⟩ := g_bd h
        refine c_new (n := 6) dX3_ride_117 q1473 q1474 q164 rfl in_X22 tyX22_ok rfl (by decide) (by decide) S hE hG hS hC0 e117 (fun H locs hG hS => ?_)
        refine lv_dup hx hb dX3_ride_120 rfl ?_
        refine lv_bipush (v := 23) hx hb dX3_ride_121 (by decide) ?_
        refine lv_iconst (v := (-1)) hx hb dX3_ride_123 (by decide) ?_
        obtain ⟨G124, e124, h⟩ := g_bd h
        refine c_cI (y := yX22_init) (rest := [.ref qx117.1, .ref v114]) dX3_ride_124 q1475 q1476 q164 q1477 hc_X22_init rfl S hE hG hS hC0 hl.1 rfl (wm_X22_init E l qx117.1 23 (-1) qx117.2 _ e124) rfl (Nat.le_of_ble_eq_true rfl) ⟨Nat.le_of_ble_eq_true rfl, Nat.le_of_ble_eq_true rfl⟩ (fun H locs hG hS => ?_)
        obtain ⟨u127, t127, h⟩ := g_bd h
        obtain ⟨qx127, e127, h⟩ := g_bd h
        refine c_cV (y := yX8_add) (rest := []) dX3_ride_127 q1508 q1509 q1510 q150 q1511 hc_X8_add rfl S hE hG hS hC0 hl.1 rfl (c_recv hE hG (ci := 14) rfl (by decide) (c_castM t127)) (wm_X8_add E l v114 qx117.1 G124 _ _ e127) rfl (Nat.le_of_ble_eq_true rfl) ⟨Nat.le_of_ble_eq_true rfl, Nat.le_of_ble_eq_true rfl⟩ (fun H locs hG hS => ?_)
        refine lv_pop hx hb dX3_ride_130 rfl ?_
        cases h
        exact c_xret (v := none) (G1 := qx127.2) rfl (c_vretW dX3_ride_131 S hr hk hC0 hG hS rfl)
      · have h := g_if c49 h
        refine lv_aload_n hx hb dX3_ride_52 rfl (lv_at hl 2 rfl) ?_
        refine lv_iload_n hx hb dX3_ride_53 rfl (lv_at hl 3 rfl) ?_
        refine lv_aload_n hx hb dX3_ride_54 rfl (lv_at hl 0 rfl) ?_
        refine lv_iconst (v := 1) hx hb dX3_ride_55 (by decide) ?_
        refine lv_aload_n hx hb dX3_ride_56 rfl (lv_at hl 2 rfl) ?_
        refine lv_iload_n hx hb dX3_ride_57 rfl (lv_at hl 3 rfl) ?_
        obtain ⟨v58, e58, h⟩ := g_bd h
        refine c_aldI dX3_ride_58 S hE hG e58 ?_
        obtain ⟨u59, t59, h⟩ := g_bd h
        rcases gXb_e h with ⟨qx59, e59, h⟩ | ⟨xx59, e59, rfl⟩
        rotate_left
        · exact c_xV (r := .inr xx59) (y := yX3_small) (rest := [.int x3, .ref x2]) dX3_ride_59 q844 q846 qs9 q125 q847 hc_X3_small rfl S hE hG hS hC0 hl.1 rfl (c_recv hE hG (ci := 10) rfl (by decide) (c_castM t59)) (wm_X3_small E l hl9 x0 1 v58 G _ e59) rfl (Nat.le_of_ble_eq_true rfl) ⟨Nat.le_of_ble_eq_true rfl, Nat.le_of_ble_eq_true rfl⟩ (fun hr9 => c_xthrew hC0 hr9 hS (fun H locs ce hG hS h1 h2 h3 => c_xout rfl hx9 hk hC0 hG hS h1 h2 h3))
        refine c_xV (r := .inl (some (.int qx59.1), qx59.2)) (y := yX3_small) (rest := [.int x3, .ref x2]) dX3_ride_59 q844 q846 qs9 q125 q847 hc_X3_small rfl S hE hG hS hC0 hl.1 rfl (c_recv hE hG (ci := 10) rfl (by decide) (c_castM t59)) (wm_X3_small E l hl9 x0 1 v58 G _ e59) rfl (Nat.le_of_ble_eq_true rfl) ⟨Nat.le_of_ble_eq_true rfl, Nat.le_of_ble_eq_true rfl⟩ (fun hr9 => c_xback hC0 hr9 hS (fun H locs hG hS => ?_))
        obtain ⟨G62, e62, h⟩ := g_bd h
        refine c_astI dX3_ride_62 S hE hG hS hC0 e62 (fun H locs hG hS => ?_)
        refine lv_iinc (k := 3) (v := (x3 + 1)) (lv' := [(3, .int (x3 + 1)), (0, .ref x0), (1, .int x1), (2, .ref x2)]) hx hb dX3_ride_63 hl rfl rfl (by decide) rfl (fun ls hl => ?_)
        refine lv_goto (tgt := 46) hx hb dX3_ride_66 (by decide) ?_
        exact ih46 x0 x1 x2 (x3 + 1) G62 _ _ _ h hG hS (lv_sub hl [1, 2, 3, 0] rfl)
  have J23 : ∀ (x0 : Nat) (s0 : Int32) (G : GH) (H : Heap) (locs : List Loc) (ls : Array Slot), cm_X3_ride_J23 x0 s0 G = some r → gC E G H → va_S (gx_C E) s.heap H locs → lv_has ls 4 [(0, .ref x0)] → WC E p l e (gRm 135 (cBx Gz) (cBs Gz)) s m args below meth c H locs (gXMQ E below (gRs (fun _ => none) r) args s Gz) (F0 m 23 ls [.int s0]) := by
    intro x0 s0 G H locs ls h hG hS hl
    unfold cm_X3_ride_J23 at h
    refine lv_istore_n (lv' := [(1, .int s0), (0, .ref x0)]) hx hb dX3_ride_23 rfl hl (by decide) rfl (fun ls hl => ?_)
    refine lv_iload_n hx hb dX3_ride_24 rfl (lv_at hl 0 rfl) ?_
    refine lv_iconst (v := (-1)) hx hb dX3_ride_25 (by decide) ?_
    refine lv_icmp_ne (tgt := 35) hx hb dX3_ride_26 (by decide) (fun c26 => ?_) (fun c26 => ?_)
    · have h := g_if c26 h
      refine lv_aload_n hx hb dX3_ride_35 rfl (lv_at hl 1 rfl) ?_
      obtain ⟨u36, t36, h⟩ := g_bd h
      obtain ⟨G36, e36, h⟩ := g_bd h
      refine c_cV (y := yX3_go) (rest := []) dX3_ride_36 q701 q703 qs2 q125 q704 hc_X3_go rfl S hE hG hS hC0 hl.1 rfl (c_recv hE hG (ci := 10) rfl (by decide) (c_castM t36)) (wm_X3_go E l x0 G _ e36) rfl (Nat.le_of_ble_eq_true rfl) ⟨Nat.le_of_ble_eq_true rfl, Nat.le_of_ble_eq_true rfl⟩ (fun H locs hG hS => ?_)
      refine lv_iload_n hx hb dX3_ride_39 rfl (lv_at hl 0 rfl) ?_
      obtain ⟨qx40, e40, h⟩ := g_bd h
      refine c_cS (y := yX3_mosts) (rest := []) dX3_ride_40 q996 q997 q125 q998 hc_X3_mosts S hE hG hS hC0 hl.1 rfl (wm_X3_mosts E l s0 G36 _ _ e40) rfl (Nat.le_of_ble_eq_true rfl) ⟨Nat.le_of_ble_eq_true rfl, Nat.le_of_ble_eq_true rfl⟩ (fun H locs hG hS => ?_)
      refine lv_astore_n (lv' := [(2, .ref qx40.1), (1, .int s0), (0, .ref x0)]) hx hb dX3_ride_43 rfl hl (by decide) rfl (fun ls hl => ?_)
      refine lv_iconst (v := 0) hx hb dX3_ride_44 (by decide) ?_
      refine lv_istore_n (lv' := [(3, .int 0), (2, .ref qx40.1), (1, .int s0), (0, .ref x0)]) hx hb dX3_ride_45 rfl hl (by decide) rfl (fun ls hl => ?_)
      exact L46 gF x0 s0 qx40.1 0 qx40.2 _ _ _ h hG hS (lv_sub hl [3, 2, 1, 0] rfl)
    · have h := g_it c26 h
      refine lv_aload_n hx hb dX3_ride_29 rfl (lv_at hl 1 rfl) ?_
      refine lv_iconst (v := 1) hx hb dX3_ride_30 (by decide) ?_
      obtain ⟨u31, t31, h⟩ := g_bd h
      obtain ⟨qx31, e31, h⟩ := g_bd h
      refine c_cV (y := yX3_wrong) (rest := []) dX3_ride_31 q817 q819 qs8 q125 q820 hc_X3_wrong rfl S hE hG hS hC0 hl.1 rfl (c_recv hE hG (ci := 10) rfl (by decide) (c_castM t31)) (wm_X3_wrong E l hl9 x0 1 G _ _ e31) rfl (Nat.le_of_ble_eq_true rfl) ⟨Nat.le_of_ble_eq_true rfl, Nat.le_of_ble_eq_true rfl⟩ (fun H locs hG hS => ?_)
      exact c_throwW dX3_ride_34 S hE hG hS hC0 hx9 hk h
  unfold cm_X3_ride at h
  refine lv_aload_n hx hb dX3_ride_0 rfl (lv_at hl 0 rfl) ?_
  obtain ⟨v1, e1, h⟩ := g_bd h
  refine cg_X3_58 dX3_ride_1 S hE hG e1 ?_
  refine c_gets q723 rfl (hE.stat.1 0 (by decide)) dX3_ride_4 S hS ?_
  rw [← hG.2.2.2.2.1]
  refine lv_acmp_ne (rx := (some v1)) (ry := (some (cK Gz (10 + 0)))) (tgt := 22) hx hb dX3_ride_7 (by decide) (fun c7 => ?_) (fun c7 => ?_)
  · have h := g_if c7 h
    refine lv_iconst (v := (-1)) hx hb dX3_ride_22 (by decide) ?_
    exact J23 x0 (-1) Gz _ _ _ h hG hS (lv_sub hl [0] rfl)
  · have h := g_it c7 h
    refine c_ldcS (i := 63) rfl dX3_ride_10 S hE hG ?_
    refine lv_aload_n hx hb dX3_ride_12 rfl (lv_at hl 0 rfl) ?_
    obtain ⟨v13, e13, h⟩ := g_bd h
    refine cg_X3_77 dX3_ride_13 S hE hG e13 ?_
    obtain ⟨qx16, e16, h⟩ := g_bd h
    refine c_cSN (y := yX1_among) (rest := []) dX3_ride_16 (lw_nw q995 rfl) q870 q119 q871 hc_X1_among S hE hG hS hC0 hl.1 rfl (wm_X1_among E l (cK Gz (100 + 63)) v13 Gz _ _ e16) rfl (Nat.le_of_ble_eq_true rfl) ⟨Nat.le_of_ble_eq_true rfl, Nat.le_of_ble_eq_true rfl⟩ (fun H locs hG hS => ?_)
    refine lv_goto (tgt := 23) hx hb dX3_ride_19 (by decide) ?_
    exact J23 x0 qx16.1 qx16.2 _ _ _ h hG hS (lv_sub hl [0] rfl)
theorem hc_X3_fair : cHd yX3_fair 0 := by decide +kernel
set_option maxHeartbeats 4000000 in
set_option maxRecDepth 100000 in
theorem wm_X3_fair (E : gX) (l : Launch) (hl9 : l.stackTraces = false) (x0 : Nat) (Gz : GH) (r : (GX Unit)) (h : cm_X3_fair x0 Gz = some r) : gMetX E l yX3_fair cX3_fair 4 none 136 [.ref x0] Gz (gRs (fun _ => none) r) := by
  refine gMetX.of (own := RX3) (by decide +kernel) (Nat.le_of_ble_eq_true rfl) rfl ?_
  intro p e s m args below meth c S hr hk hx9 hE hC0 hG hS ls hl
  have hl : lv_has ls 4 [(0, .ref x0)] := hl
  have hx := S.1
  have hb := S.2.1
  have J320 : ∀ (x2 : Nat) (G : GH) (H : Heap) (locs : List Loc) (ls : Array Slot), cm_X3_fair_J320 x2 G = some r → gC E G H → va_S (gx_C E) s.heap H locs → lv_has ls 4 [(2, .ref x2)] → WC E p l e (gRm 136 (cBx Gz) (cBs Gz)) s m args below meth c H locs (gXMQ E below (gRs (fun _ => none) r) args s Gz) (F0 m 320 ls []) := by
    intro x2 G H locs ls h hG hS hl
    unfold cm_X3_fair_J320 at h
    obtain ⟨qx320, e320, h⟩ := g_bd h
    refine c_newW dX3_fair_320 q821 q822 q144 in_XW S hE hG hS hC0 e320 (fun H locs hG hS hF => ?_)
    refine lv_dup hx hb dX3_fair_323 rfl ?_
    refine lv_iconst (v := 3) hx hb dX3_fair_324 (by decide) ?_
    refine lv_aload_n hx hb dX3_fair_325 rfl (lv_at hl 0 rfl) ?_
    obtain ⟨v326, e326, h⟩ := g_bd h
    refine cg_X3_195 dX3_fair_326 S hE hG e326 ?_
    obtain ⟨G329, e329, h⟩ := g_bd h
    refine c_cIW (y := yX4_init) (rest := [.ref qx320.1]) dX3_fair_329 q830 q831 q144 q832 hc_X4_init rfl S hE hG hF hS hC0 hl.1 rfl (wm_X4_init E l hl9 qx320.1 3 v326 qx320.2 _ e329) rfl (Nat.le_of_ble_eq_true rfl) ⟨Nat.le_of_ble_eq_true rfl, Nat.le_of_ble_eq_true rfl⟩ (fun H locs hG hS => ?_)
    exact c_throwW dX3_fair_332 S hE hG hS hC0 hx9 hk h
  have L276 : ∀ (n : Nat) (x0 : Nat) (x1 : Int32) (G : GH) (H : Heap) (locs : List Loc) (ls : Array Slot), cm_X3_fair_L276 n x0 x1 G = some r → gC E G H → va_S (gx_C E) s.heap H locs → lv_has ls 4 [(0, .ref x0), (1, .int x1)] → WC E p l e (gRm 136 (cBx Gz) (cBs Gz)) s m args below meth c H locs (gXMQ E below (gRs (fun _ => none) r) args s Gz) (F0 m 276 ls []) := by
    intro n276
    induction n276 with
    | zero =>
      intro x0 x1 G H locs ls h
      cases h
    | succ n276 ih276 =>
      intro x0 x1 G H locs ls h hG hS hl
      have h : cm_X3_fair_B276 (cm_X3_fair_L276 n276) x0 x1 G = some r := h
      unfold cm_X3_fair_B276 at h
      refine lv_iload_n hx hb dX3_fair_276 rfl (lv_at hl 1 rfl) ?_
      refine lv_aload_n hx hb dX3_fair_277 rfl (lv_at hl 0 rfl) ?_
      obtain ⟨v278, e278, h⟩ := g_bd h
      refine cg_X3_18 dX3_fair_278 S hE hG e278 ?_
      obtain ⟨u281, t281, h⟩ := g_bd h
      obtain ⟨v281, e281, h⟩ := g_bd h
      refine c_cV (y := yJ6_size) (rest := [.int x1]) dX3_fair_281 q881 q882 q883 q128 q884 hc_J6_size rfl S hE hG hS hC0 hl.1 rfl (c_recv hE hG (ci := 2) rfl (by decide) (c_castM t281)) (wm_J6_size E l v278 G _ e281) rfl (Nat.le_of_ble_eq_true rfl) ⟨Nat.le_of_ble_eq_true rfl, Nat.le_of_ble_eq_true rfl⟩ (fun H locs hG hS => ?_)
      refine lv_icmp_ge (tgt := 357) hx hb dX3_fair_284 (by decide) (fun c284 => ?_) (fun c284 => ?_)
      · have h := g_it c284 h
        cases h
        exact c_xret (v := none) (G1 := G) rfl (c_vretW dX3_fair_357 S hr hk hC0 hG hS rfl)
      · have h := g_if c284 h
        refine lv_aload_n hx hb dX3_fair_287 rfl (lv_at hl 0 rfl) ?_
        obtain ⟨v288, e288, h⟩ := g_bd h
        refine cg_X3_18 dX3_fair_288 S hE hG e288 ?_
        refine lv_iload_n hx hb dX3_fair_291 rfl (lv_at hl 1 rfl) ?_
        obtain ⟨u292, t292, h⟩ := g_bd h
        obtain ⟨v292, e292, h⟩ := g_bd h
        refine c_cV (y := yJ6_get) (rest := []) dX3_fair_292 q885 q886 q887 q128 q888 hc_J6_get rfl S hE hG hS hC0 hl.1 rfl (c_recv hE hG (ci := 2) rfl (by decide) (c_castM t292)) (wm_J6_get E l v288 x1 G _ e292) rfl (Nat.le_of_ble_eq_true rfl) ⟨Nat.le_of_ble_eq_true rfl, Nat.le_of_ble_eq_true rfl⟩ (fun H locs hG hS => ?_)
        obtain ⟨b295, eb295, h⟩ := g_bd h
        have rb295 : va_rf v292 = .ref b295 := by rw [eb295]; rfl
        (try rw [rb295] at hl)
        (try rw [rb295])
        obtain ⟨u295, e295, h⟩ := g_bd h
        refine ck_X3_190 dX3_fair_295 S hE hG e295 ?_
        refine lv_astore_n (lv' := [(2, .ref b295), (0, .ref x0), (1, .int x1)]) hx hb dX3_fair_298 rfl hl (by decide) rfl (fun ls hl => ?_)
        refine lv_aload_n hx hb dX3_fair_299 rfl (lv_at hl 1 rfl) ?_
        refine lv_aload_n hx hb dX3_fair_300 rfl (lv_at hl 0 rfl) ?_
        obtain ⟨v301, e301, h⟩ := g_bd h
        refine cg_X3_192 dX3_fair_301 S hE hG e301 ?_
        obtain ⟨u304, t304, h⟩ := g_bd h
        obtain ⟨v304, e304, h⟩ := g_bd h
        refine c_cV (y := yX3_named) (rest := []) dX3_fair_304 q877 q879 qs14 q125 q880 hc_X3_named rfl S hE hG hS hC0 hl.1 rfl (c_recv hE hG (ci := 10) rfl (by decide) (c_castM t304)) (wm_X3_named E l x0 v301 G _ e304) rfl (Nat.le_of_ble_eq_true rfl) ⟨Nat.le_of_ble_eq_true rfl, Nat.le_of_ble_eq_true rfl⟩ (fun H locs hG hS => ?_)
        refine c_astoreQ_n (lv' := [(3, va_rf v304), (2, .ref b295), (0, .ref x0), (1, .int x1)]) hx hb dX3_fair_307 rfl hl (by decide) (by cases v304 <;> rfl) (fun ls hl => ?_)
        refine c_aloadQ_n hx hb dX3_fair_308 rfl (lv_at hl 0 rfl) ?_
        refine c_ifnull (tgt := 320) hx hb dX3_fair_309 (by decide) (fun c309 => ?_) (fun c309 => ?_)
        · have h := g_it c309 h
          exact J320 b295 G _ _ _ h hG hS (lv_sub hl [1] rfl)
        · have h := g_if c309 h
          refine c_aloadQ_n hx hb dX3_fair_312 rfl (lv_at hl 0 rfl) ?_
          obtain ⟨b313, eb313, h⟩ := g_bd h
          have rb313 : va_rf v304 = .ref b313 := by rw [eb313]; rfl
          (try rw [rb313] at hl)
          (try rw [rb313])
          obtain ⟨u313, t313, h⟩ := g_bd h
          obtain ⟨v313, e313, h⟩ := g_bd h
          refine c_cV (y := yX5_sort) (rest := []) dX3_fair_313 q1382 q1383 q1384 q147 q1385 hc_X5_sort rfl S hE hG hS hC0 hl.1 rfl (c_recv hE hG (ci := 12) rfl (by decide) (c_castM t313)) (wm_X5_sort E l b313 G _ e313) rfl (Nat.le_of_ble_eq_true rfl) ⟨Nat.le_of_ble_eq_true rfl, Nat.le_of_ble_eq_true rfl⟩ (fun H locs hG hS => ?_)
          refine lv_iconst (v := 2) hx hb dX3_fair_316 (by decide) ?_
          refine lv_icmp_eq (tgt := 333) hx hb dX3_fair_317 (by decide) (fun c317 => ?_) (fun c317 => ?_)
          · have h := g_it c317 h
            refine lv_aload_n hx hb dX3_fair_333 rfl (lv_at hl 1 rfl) ?_
            refine lv_aload_n hx hb dX3_fair_334 rfl (lv_at hl 2 rfl) ?_
            obtain ⟨v335, e335, h⟩ := g_bd h
            refine cg_X3_24 dX3_fair_335 S hE hG e335 ?_
            refine lv_aload_n hx hb dX3_fair_338 rfl (lv_at hl 0 rfl) ?_
            obtain ⟨u339, t339, h⟩ := g_bd h
            obtain ⟨v339, e339, h⟩ := g_bd h
            refine c_cV (y := yX5_number) (rest := [.ref v335, .ref b295]) dX3_fair_339 q1386 q1387 q1388 q147 q1389 hc_X5_number rfl S hE hG hS hC0 hl.1 rfl (c_recv hE hG (ci := 12) rfl (by decide) (c_castM t339)) (wm_X5_number E l b313 G _ e339) rfl (Nat.le_of_ble_eq_true rfl) ⟨Nat.le_of_ble_eq_true rfl, Nat.le_of_ble_eq_true rfl⟩ (fun H locs hG hS => ?_)
            obtain ⟨u342, t342, h⟩ := g_bd h
            obtain ⟨v342, e342, h⟩ := g_bd h
            refine c_cV (y := yJ6_get) (rest := [.ref b295]) dX3_fair_342 q885 q886 q887 q128 q888 hc_J6_get rfl S hE hG hS hC0 hl.1 rfl (c_recv hE hG (ci := 2) rfl (by decide) (c_castM t342)) (wm_J6_get E l v335 v339 G _ e342) rfl (Nat.le_of_ble_eq_true rfl) ⟨Nat.le_of_ble_eq_true rfl, Nat.le_of_ble_eq_true rfl⟩ (fun H locs hG hS => ?_)
            obtain ⟨b345, eb345, h⟩ := g_bd h
            have rb345 : va_rf v342 = .ref b345 := by rw [eb345]; rfl
            (try rw [rb345] at hl)
            (try rw [rb345])
            obtain ⟨u345, e345, h⟩ := g_bd h
            refine ck_X3_197 dX3_fair_345 S hE hG e345 ?_
            obtain ⟨G348, e348, h⟩ := g_bd h
            refine cp_X3_199 dX3_fair_348 S hE hG hS hC0 e348 (fun H locs hG hS => ?_)
            refine lv_iinc (k := 3) (v := (x1 + 1)) (lv' := [(1, .int (x1 + 1)), (3, .ref b313), (2, .ref b295), (0, .ref x0)]) hx hb dX3_fair_351 hl rfl rfl (by decide) rfl (fun ls hl => ?_)
            refine lv_goto (tgt := 276) hx hb dX3_fair_354 (by decide) ?_
            exact ih276 x0 (x1 + 1) G348 _ _ _ h hG hS (lv_sub hl [3, 0] rfl)
          · have h := g_if c317 h
            exact J320 b295 G _ _ _ h hG hS (lv_sub hl [1] rfl)
  have L4 : ∀ (n : Nat) (x0 : Nat) (G : GH) (H : Heap) (locs : List Loc) (ls : Array Slot), cm_X3_fair_L4 n x0 G = some r → gC E G H → va_S (gx_C E) s.heap H locs → lv_has ls 4 [(0, .ref x0)] → WC E p l e (gRm 136 (cBx Gz) (cBs Gz)) s m args below meth c H locs (gXMQ E below (gRs (fun _ => none) r) args s Gz) (F0 m 4 ls []) := by
    intro n4
    induction n4 with
    | zero =>
      intro x0 G H locs ls h
      cases h
    | succ n4 ih4 =>
      have J255 : ∀ (x0 : Nat) (G : GH) (H : Heap) (locs : List Loc) (ls : Array Slot), cm_X3_fair_J255 (cm_X3_fair_L4 n4) x0 G = some r → gC E G H → va_S (gx_C E) s.heap H locs → lv_has ls 4 [(0, .ref x0)] → WC E p l e (gRm 136 (cBx Gz) (cBs Gz)) s m args below meth c H locs (gXMQ E below (gRs (fun _ => none) r) args s Gz) (F0 m 255 ls []) := by
        intro x0 G H locs ls h hG hS hl
        unfold cm_X3_fair_J255 at h
        refine lv_goto (tgt := 4) hx hb dX3_fair_255 (by decide) ?_
        exact ih4 x0 G _ _ _ h hG hS (lv_sub hl [0] rfl)
      intro x0 G H locs ls h hG hS hl
      have h : cm_X3_fair_B4 (cm_X3_fair_L4 n4) x0 G = some r := h
      unfold cm_X3_fair_B4 at h
      refine lv_aload_n hx hb dX3_fair_4 rfl (lv_at hl 0 rfl) ?_
      obtain ⟨v5, e5, h⟩ := g_bd h
      refine cg_X3_58 dX3_fair_5 S hE hG e5 ?_
      refine c_gets q709 rfl (hE.stat.1 4 (by decide)) dX3_fair_8 S hS ?_
      rw [← hG.2.2.2.2.1]
      refine lv_acmp_eq (rx := (some v5)) (ry := (some (cK G (10 + 4)))) (tgt := 258) hx hb dX3_fair_11 (by decide) (fun c11 => ?_) (fun c11 => ?_)
      · have h := g_it c11 h
        refine lv_aload_n hx hb dX3_fair_258 rfl (lv_at hl 0 rfl) ?_
        obtain ⟨v259, e259, h⟩ := g_bd h
        refine cg_X3_24 dX3_fair_259 S hE hG e259 ?_
        obtain ⟨u262, t262, h⟩ := g_bd h
        obtain ⟨v262, e262, h⟩ := g_bd h
        refine c_cV (y := yJ6_size) (rest := []) dX3_fair_262 q881 q882 q883 q128 q884 hc_J6_size rfl S hE hG hS hC0 hl.1 rfl (c_recv hE hG (ci := 2) rfl (by decide) (c_castM t262)) (wm_J6_size E l v259 G _ e262) rfl (Nat.le_of_ble_eq_true rfl) ⟨Nat.le_of_ble_eq_true rfl, Nat.le_of_ble_eq_true rfl⟩ (fun H locs hG hS => ?_)
        refine lv_if_ne (tgt := 274) hx hb dX3_fair_265 (by decide) (fun c265 => ?_) (fun c265 => ?_)
        · have h := g_if c265 h
          refine lv_iconst (v := 0) hx hb dX3_fair_274 (by decide) ?_
          refine lv_istore_n (lv' := [(1, .int 0), (0, .ref x0)]) hx hb dX3_fair_275 rfl hl (by decide) rfl (fun ls hl => ?_)
          exact L276 gF x0 0 G _ _ _ h hG hS (lv_sub hl [1, 0] rfl)
        · have h := g_it c265 h
          refine lv_aload_n hx hb dX3_fair_268 rfl (lv_at hl 0 rfl) ?_
          refine lv_iconst (v := 1) hx hb dX3_fair_269 (by decide) ?_
          obtain ⟨u270, t270, h⟩ := g_bd h
          obtain ⟨qx270, e270, h⟩ := g_bd h
          refine c_cV (y := yX3_wrong) (rest := []) dX3_fair_270 q817 q819 qs8 q125 q820 hc_X3_wrong rfl S hE hG hS hC0 hl.1 rfl (c_recv hE hG (ci := 10) rfl (by decide) (c_castM t270)) (wm_X3_wrong E l hl9 x0 1 G _ _ e270) rfl (Nat.le_of_ble_eq_true rfl) ⟨Nat.le_of_ble_eq_true rfl, Nat.le_of_ble_eq_true rfl⟩ (fun H locs hG hS => ?_)
          exact c_throwW dX3_fair_273 S hE hG hS hC0 hx9 hk h
      · have h := g_if c11 h
        refine lv_aload_n hx hb dX3_fair_14 rfl (lv_at hl 0 rfl) ?_
        obtain ⟨v15, e15, h⟩ := g_bd h
        refine cg_X3_45 dX3_fair_15 S hE hG e15 ?_
        refine lv_istore_n (lv' := [(1, .int v15), (0, .ref x0)]) hx hb dX3_fair_18 rfl hl (by decide) rfl (fun ls hl => ?_)
        refine lv_aload_n hx hb dX3_fair_19 rfl (lv_at hl 1 rfl) ?_
        refine c_ldcS (i := 59) rfl dX3_fair_20 S hE hG ?_
        obtain ⟨u22, t22, h⟩ := g_bd h
        obtain ⟨qx22, e22, h⟩ := g_bd h
        refine c_cV (y := yX3_isWord) (rest := []) dX3_fair_22 q789 q791 qs7 q125 q792 hc_X3_isWord rfl S hE hG hS hC0 hl.1 rfl (c_recv hE hG (ci := 10) rfl (by decide) (c_castM t22)) (wm_X3_isWord E l x0 (cK G (100 + 59)) G _ _ e22) rfl (Nat.le_of_ble_eq_true rfl) ⟨Nat.le_of_ble_eq_true rfl, Nat.le_of_ble_eq_true rfl⟩ (fun H locs hG hS => ?_)
        refine lv_if_eq (tgt := 71) hx hb dX3_fair_25 (by decide) (fun c25 => ?_) (fun c25 => ?_)
        · have h := g_it c25 h
          refine lv_aload_n hx hb dX3_fair_71 rfl (lv_at hl 1 rfl) ?_
          refine c_ldcS (i := 60) rfl dX3_fair_72 S hE hG ?_
          obtain ⟨u74, t74, h⟩ := g_bd h
          obtain ⟨qx74, e74, h⟩ := g_bd h
          refine c_cV (y := yX3_isWord) (rest := []) dX3_fair_74 q789 q791 qs7 q125 q792 hc_X3_isWord rfl S hE hG hS hC0 hl.1 rfl (c_recv hE hG (ci := 10) rfl (by decide) (c_castM t74)) (wm_X3_isWord E l x0 (cK qx22.2 (100 + 60)) qx22.2 _ _ e74) rfl (Nat.le_of_ble_eq_true rfl) ⟨Nat.le_of_ble_eq_true rfl, Nat.le_of_ble_eq_true rfl⟩ (fun H locs hG hS => ?_)
          refine lv_if_eq (tgt := 143) hx hb dX3_fair_77 (by decide) (fun c77 => ?_) (fun c77 => ?_)
          · have h := g_it c77 h
            refine lv_aload_n hx hb dX3_fair_143 rfl (lv_at hl 1 rfl) ?_
            refine c_ldcS (i := 61) rfl dX3_fair_144 S hE hG ?_
            obtain ⟨u146, t146, h⟩ := g_bd h
            obtain ⟨qx146, e146, h⟩ := g_bd h
            refine c_cV (y := yX3_isWord) (rest := []) dX3_fair_146 q789 q791 qs7 q125 q792 hc_X3_isWord rfl S hE hG hS hC0 hl.1 rfl (c_recv hE hG (ci := 10) rfl (by decide) (c_castM t146)) (wm_X3_isWord E l x0 (cK qx74.2 (100 + 61)) qx74.2 _ _ e146) rfl (Nat.le_of_ble_eq_true rfl) ⟨Nat.le_of_ble_eq_true rfl, Nat.le_of_ble_eq_true rfl⟩ (fun H locs hG hS => ?_)
            refine lv_if_eq (tgt := 199) hx hb dX3_fair_149 (by decide) (fun c149 => ?_) (fun c149 => ?_)
            · have h := g_it c149 h
              refine lv_aload_n hx hb dX3_fair_199 rfl (lv_at hl 1 rfl) ?_
              refine c_ldcS (i := 62) rfl dX3_fair_200 S hE hG ?_
              obtain ⟨u202, t202, h⟩ := g_bd h
              obtain ⟨qx202, e202, h⟩ := g_bd h
              refine c_cV (y := yX3_isWord) (rest := []) dX3_fair_202 q789 q791 qs7 q125 q792 hc_X3_isWord rfl S hE hG hS hC0 hl.1 rfl (c_recv hE hG (ci := 10) rfl (by decide) (c_castM t202)) (wm_X3_isWord E l x0 (cK qx146.2 (100 + 62)) qx146.2 _ _ e202) rfl (Nat.le_of_ble_eq_true rfl) ⟨Nat.le_of_ble_eq_true rfl, Nat.le_of_ble_eq_true rfl⟩ (fun H locs hG hS => ?_)
              refine lv_if_eq (tgt := 249) hx hb dX3_fair_205 (by decide) (fun c205 => ?_) (fun c205 => ?_)
              · have h := g_it c205 h
                refine lv_aload_n hx hb dX3_fair_249 rfl (lv_at hl 1 rfl) ?_
                refine lv_iconst (v := 1) hx hb dX3_fair_250 (by decide) ?_
                obtain ⟨u251, t251, h⟩ := g_bd h
                obtain ⟨qx251, e251, h⟩ := g_bd h
                refine c_cV (y := yX3_wrong) (rest := []) dX3_fair_251 q817 q819 qs8 q125 q820 hc_X3_wrong rfl S hE hG hS hC0 hl.1 rfl (c_recv hE hG (ci := 10) rfl (by decide) (c_castM t251)) (wm_X3_wrong E l hl9 x0 1 qx202.2 _ _ e251) rfl (Nat.le_of_ble_eq_true rfl) ⟨Nat.le_of_ble_eq_true rfl, Nat.le_of_ble_eq_true rfl⟩ (fun H locs hG hS => ?_)
                exact c_throwW dX3_fair_254 S hE hG hS hC0 hx9 hk h
              · have h := g_if c205 h
                refine lv_aload_n hx hb dX3_fair_208 rfl (lv_at hl 1 rfl) ?_
                obtain ⟨v209, e209, h⟩ := g_bd h
                refine cg_X3_24 dX3_fair_209 S hE hG e209 ?_
                obtain ⟨u212, t212, h⟩ := g_bd h
                obtain ⟨v212, e212, h⟩ := g_bd h
                refine c_cV (y := yJ6_size) (rest := []) dX3_fair_212 q881 q882 q883 q128 q884 hc_J6_size rfl S hE hG hS hC0 hl.1 rfl (c_recv hE hG (ci := 2) rfl (by decide) (c_castM t212)) (wm_J6_size E l v209 qx202.2 _ e212) rfl (Nat.le_of_ble_eq_true rfl) ⟨Nat.le_of_ble_eq_true rfl, Nat.le_of_ble_eq_true rfl⟩ (fun H locs hG hS => ?_)
                refine lv_bipush (v := 12) hx hb dX3_fair_215 (by decide) ?_
                refine lv_icmp_ne (tgt := 226) hx hb dX3_fair_217 (by decide) (fun c217 => ?_) (fun c217 => ?_)
                · have h := g_if c217 h
                  refine lv_aload_n hx hb dX3_fair_226 rfl (lv_at hl 1 rfl) ?_
                  obtain ⟨u227, t227, h⟩ := g_bd h
                  obtain ⟨G227, e227, h⟩ := g_bd h
                  refine c_cV (y := yX3_go) (rest := []) dX3_fair_227 q701 q703 qs2 q125 q704 hc_X3_go rfl S hE hG hS hC0 hl.1 rfl (c_recv hE hG (ci := 10) rfl (by decide) (c_castM t227)) (wm_X3_go E l x0 qx202.2 _ e227) rfl (Nat.le_of_ble_eq_true rfl) ⟨Nat.le_of_ble_eq_true rfl, Nat.le_of_ble_eq_true rfl⟩ (fun H locs hG hS => ?_)
                  refine lv_aload_n hx hb dX3_fair_230 rfl (lv_at hl 1 rfl) ?_
                  refine lv_iconst (v := 2) hx hb dX3_fair_231 (by decide) ?_
                  refine lv_aload_n hx hb dX3_fair_232 rfl (lv_at hl 1 rfl) ?_
                  obtain ⟨v233, e233, h⟩ := g_bd h
                  refine cg_X3_24 dX3_fair_233 S hE hG e233 ?_
                  obtain ⟨u236, t236, h⟩ := g_bd h
                  obtain ⟨v236, e236, h⟩ := g_bd h
                  refine c_cV (y := yJ6_size) (rest := [.int 2, .ref x0]) dX3_fair_236 q881 q882 q883 q128 q884 hc_J6_size rfl S hE hG hS hC0 hl.1 rfl (c_recv hE hG (ci := 2) rfl (by decide) (c_castM t236)) (wm_J6_size E l v233 G227 _ e236) rfl (Nat.le_of_ble_eq_true rfl) ⟨Nat.le_of_ble_eq_true rfl, Nat.le_of_ble_eq_true rfl⟩ (fun H locs hG hS => ?_)
                  obtain ⟨u239, t239, h⟩ := g_bd h
                  rcases gXb_e h with ⟨qx239, e239, h⟩ | ⟨xx239, e239, rfl⟩
                  rotate_left
                  · exact c_xV (r := .inr xx239) (y := yX3_newName) (rest := []) dX3_fair_239 q857 q859 qs12 q125 q860 hc_X3_newName rfl S hE hG hS hC0 hl.1 rfl (c_recv hE hG (ci := 10) rfl (by decide) (c_castM t239)) (wm_X3_newName E l hl9 x0 2 v236 G227 _ e239) rfl (Nat.le_of_ble_eq_true rfl) ⟨Nat.le_of_ble_eq_true rfl, Nat.le_of_ble_eq_true rfl⟩ (fun hr9 => c_xthrew hC0 hr9 hS (fun H locs ce hG hS h1 h2 h3 => c_xout rfl hx9 hk hC0 hG hS h1 h2 h3))
                  refine c_xV (r := .inl (none, qx239.2)) (y := yX3_newName) (rest := []) dX3_fair_239 q857 q859 qs12 q125 q860 hc_X3_newName rfl S hE hG hS hC0 hl.1 rfl (c_recv hE hG (ci := 10) rfl (by decide) (c_castM t239)) (wm_X3_newName E l hl9 x0 2 v236 G227 _ e239) rfl (Nat.le_of_ble_eq_true rfl) ⟨Nat.le_of_ble_eq_true rfl, Nat.le_of_ble_eq_true rfl⟩ (fun hr9 => c_xback hC0 hr9 hS (fun H locs hG hS => ?_))
                  refine lv_aload_n hx hb dX3_fair_242 rfl (lv_at hl 1 rfl) ?_
                  obtain ⟨u243, t243, h⟩ := g_bd h
                  rcases gXb_e h with ⟨qx243, e243, h⟩ | ⟨xx243, e243, rfl⟩
                  rotate_left
                  · exact c_xV (r := .inr xx243) (y := yX3_ride) (rest := []) dX3_fair_243 q990 q992 qs18 q125 q993 hc_X3_ride rfl S hE hG hS hC0 hl.1 rfl (c_recv hE hG (ci := 10) rfl (by decide) (c_castM t243)) (wm_X3_ride E l hl9 x0 qx239.2 _ e243) rfl (Nat.le_of_ble_eq_true rfl) ⟨Nat.le_of_ble_eq_true rfl, Nat.le_of_ble_eq_true rfl⟩ (fun hr9 => c_xthrew hC0 hr9 hS (fun H locs ce hG hS h1 h2 h3 => c_xout rfl hx9 hk hC0 hG hS h1 h2 h3))
                  refine c_xV (r := .inl (none, qx243.2)) (y := yX3_ride) (rest := []) dX3_fair_243 q990 q992 qs18 q125 q993 hc_X3_ride rfl S hE hG hS hC0 hl.1 rfl (c_recv hE hG (ci := 10) rfl (by decide) (c_castM t243)) (wm_X3_ride E l hl9 x0 qx239.2 _ e243) rfl (Nat.le_of_ble_eq_true rfl) ⟨Nat.le_of_ble_eq_true rfl, Nat.le_of_ble_eq_true rfl⟩ (fun hr9 => c_xback hC0 hr9 hS (fun H locs hG hS => ?_))
                  refine lv_goto (tgt := 255) hx hb dX3_fair_246 (by decide) ?_
                  exact J255 x0 qx243.2 _ _ _ h hG hS (lv_sub hl [1] rfl)
                · have h := g_it c217 h
                  refine lv_aload_n hx hb dX3_fair_220 rfl (lv_at hl 1 rfl) ?_
                  refine lv_iconst (v := 4) hx hb dX3_fair_221 (by decide) ?_
                  obtain ⟨u222, t222, h⟩ := g_bd h
                  obtain ⟨qx222, e222, h⟩ := g_bd h
                  refine c_cV (y := yX3_wrong) (rest := []) dX3_fair_222 q817 q819 qs8 q125 q820 hc_X3_wrong rfl S hE hG hS hC0 hl.1 rfl (c_recv hE hG (ci := 10) rfl (by decide) (c_castM t222)) (wm_X3_wrong E l hl9 x0 4 qx202.2 _ _ e222) rfl (Nat.le_of_ble_eq_true rfl) ⟨Nat.le_of_ble_eq_true rfl, Nat.le_of_ble_eq_true rfl⟩ (fun H locs hG hS => ?_)
                  exact c_throwW dX3_fair_225 S hE hG hS hC0 hx9 hk h
            · have h := g_if c149 h
              refine lv_aload_n hx hb dX3_fair_152 rfl (lv_at hl 1 rfl) ?_
              obtain ⟨v153, e153, h⟩ := g_bd h
              refine cg_X3_183 dX3_fair_153 S hE hG e153 ?_
              refine lv_bipush (v := 8) hx hb dX3_fair_156 (by decide) ?_
              refine lv_icmp_ne (tgt := 167) hx hb dX3_fair_158 (by decide) (fun c158 => ?_) (fun c158 => ?_)
              · have h := g_if c158 h
                refine lv_aload_n hx hb dX3_fair_167 rfl (lv_at hl 1 rfl) ?_
                obtain ⟨u168, t168, h⟩ := g_bd h
                obtain ⟨G168, e168, h⟩ := g_bd h
                refine c_cV (y := yX3_go) (rest := []) dX3_fair_168 q701 q703 qs2 q125 q704 hc_X3_go rfl S hE hG hS hC0 hl.1 rfl (c_recv hE hG (ci := 10) rfl (by decide) (c_castM t168)) (wm_X3_go E l x0 qx146.2 _ e168) rfl (Nat.le_of_ble_eq_true rfl) ⟨Nat.le_of_ble_eq_true rfl, Nat.le_of_ble_eq_true rfl⟩ (fun H locs hG hS => ?_)
                refine lv_aload_n hx hb dX3_fair_171 rfl (lv_at hl 1 rfl) ?_
                refine lv_iconst (v := 1) hx hb dX3_fair_172 (by decide) ?_
                refine lv_aload_n hx hb dX3_fair_173 rfl (lv_at hl 1 rfl) ?_
                obtain ⟨v174, e174, h⟩ := g_bd h
                refine cg_X3_183 dX3_fair_174 S hE hG e174 ?_
                obtain ⟨u177, t177, h⟩ := g_bd h
                rcases gXb_e h with ⟨qx177, e177, h⟩ | ⟨xx177, e177, rfl⟩
                rotate_left
                · exact c_xV (r := .inr xx177) (y := yX3_newName) (rest := []) dX3_fair_177 q857 q859 qs12 q125 q860 hc_X3_newName rfl S hE hG hS hC0 hl.1 rfl (c_recv hE hG (ci := 10) rfl (by decide) (c_castM t177)) (wm_X3_newName E l hl9 x0 1 v174 G168 _ e177) rfl (Nat.le_of_ble_eq_true rfl) ⟨Nat.le_of_ble_eq_true rfl, Nat.le_of_ble_eq_true rfl⟩ (fun hr9 => c_xthrew hC0 hr9 hS (fun H locs ce hG hS h1 h2 h3 => c_xout rfl hx9 hk hC0 hG hS h1 h2 h3))
                refine c_xV (r := .inl (none, qx177.2)) (y := yX3_newName) (rest := []) dX3_fair_177 q857 q859 qs12 q125 q860 hc_X3_newName rfl S hE hG hS hC0 hl.1 rfl (c_recv hE hG (ci := 10) rfl (by decide) (c_castM t177)) (wm_X3_newName E l hl9 x0 1 v174 G168 _ e177) rfl (Nat.le_of_ble_eq_true rfl) ⟨Nat.le_of_ble_eq_true rfl, Nat.le_of_ble_eq_true rfl⟩ (fun hr9 => c_xback hC0 hr9 hS (fun H locs hG hS => ?_))
                refine lv_aload_n hx hb dX3_fair_180 rfl (lv_at hl 1 rfl) ?_
                refine lv_dup hx hb dX3_fair_181 rfl ?_
                obtain ⟨v182, e182, h⟩ := g_bd h
                refine cg_X3_183 dX3_fair_182 S hE hG e182 ?_
                refine lv_iconst (v := 1) hx hb dX3_fair_185 (by decide) ?_
                refine lv_iadd hx hb dX3_fair_186 ?_
                obtain ⟨G187, e187, h⟩ := g_bd h
                refine cp_X3_183 dX3_fair_187 S hE hG hS hC0 e187 (fun H locs hG hS => ?_)
                refine lv_aload_n hx hb dX3_fair_190 rfl (lv_at hl 1 rfl) ?_
                refine lv_bipush (v := 59) hx hb dX3_fair_191 (by decide) ?_
                obtain ⟨u193, t193, h⟩ := g_bd h
                rcases gXb_e h with ⟨qx193, e193, h⟩ | ⟨xx193, e193, rfl⟩
                rotate_left
                · exact c_xV (r := .inr xx193) (y := yX3_need) (rest := []) dX3_fair_193 q848 q850 qs10 q125 q851 hc_X3_need rfl S hE hG hS hC0 hl.1 rfl (c_recv hE hG (ci := 10) rfl (by decide) (c_castM t193)) (wm_X3_need E l hl9 x0 59 G187 _ e193) rfl (Nat.le_of_ble_eq_true rfl) ⟨Nat.le_of_ble_eq_true rfl, Nat.le_of_ble_eq_true rfl⟩ (fun hr9 => c_xthrew hC0 hr9 hS (fun H locs ce hG hS h1 h2 h3 => c_xout rfl hx9 hk hC0 hG hS h1 h2 h3))
                refine c_xV (r := .inl (none, qx193.2)) (y := yX3_need) (rest := []) dX3_fair_193 q848 q850 qs10 q125 q851 hc_X3_need rfl S hE hG hS hC0 hl.1 rfl (c_recv hE hG (ci := 10) rfl (by decide) (c_castM t193)) (wm_X3_need E l hl9 x0 59 G187 _ e193) rfl (Nat.le_of_ble_eq_true rfl) ⟨Nat.le_of_ble_eq_true rfl, Nat.le_of_ble_eq_true rfl⟩ (fun hr9 => c_xback hC0 hr9 hS (fun H locs hG hS => ?_))
                refine lv_goto (tgt := 255) hx hb dX3_fair_196 (by decide) ?_
                exact J255 x0 qx193.2 _ _ _ h hG hS (lv_sub hl [1] rfl)
              · have h := g_it c158 h
                refine lv_aload_n hx hb dX3_fair_161 rfl (lv_at hl 1 rfl) ?_
                refine lv_iconst (v := 4) hx hb dX3_fair_162 (by decide) ?_
                obtain ⟨u163, t163, h⟩ := g_bd h
                obtain ⟨qx163, e163, h⟩ := g_bd h
                refine c_cV (y := yX3_wrong) (rest := []) dX3_fair_163 q817 q819 qs8 q125 q820 hc_X3_wrong rfl S hE hG hS hC0 hl.1 rfl (c_recv hE hG (ci := 10) rfl (by decide) (c_castM t163)) (wm_X3_wrong E l hl9 x0 4 qx146.2 _ _ e163) rfl (Nat.le_of_ble_eq_true rfl) ⟨Nat.le_of_ble_eq_true rfl, Nat.le_of_ble_eq_true rfl⟩ (fun H locs hG hS => ?_)
                exact c_throwW dX3_fair_166 S hE hG hS hC0 hx9 hk h
          · have h := g_if c77 h
            refine lv_aload_n hx hb dX3_fair_80 rfl (lv_at hl 1 rfl) ?_
            obtain ⟨v81, e81, h⟩ := g_bd h
            refine cg_X3_175 dX3_fair_81 S hE hG e81 ?_
            refine lv_bipush (v := 6) hx hb dX3_fair_84 (by decide) ?_
            refine lv_icmp_ne (tgt := 95) hx hb dX3_fair_86 (by decide) (fun c86 => ?_) (fun c86 => ?_)
            · have h := g_if c86 h
              refine lv_aload_n hx hb dX3_fair_95 rfl (lv_at hl 1 rfl) ?_
              obtain ⟨u96, t96, h⟩ := g_bd h
              obtain ⟨G96, e96, h⟩ := g_bd h
              refine c_cV (y := yX3_go) (rest := []) dX3_fair_96 q701 q703 qs2 q125 q704 hc_X3_go rfl S hE hG hS hC0 hl.1 rfl (c_recv hE hG (ci := 10) rfl (by decide) (c_castM t96)) (wm_X3_go E l x0 qx74.2 _ e96) rfl (Nat.le_of_ble_eq_true rfl) ⟨Nat.le_of_ble_eq_true rfl, Nat.le_of_ble_eq_true rfl⟩ (fun H locs hG hS => ?_)
              refine lv_aload_n hx hb dX3_fair_99 rfl (lv_at hl 1 rfl) ?_
              refine lv_iconst (v := 0) hx hb dX3_fair_100 (by decide) ?_
              refine lv_aload_n hx hb dX3_fair_101 rfl (lv_at hl 1 rfl) ?_
              obtain ⟨v102, e102, h⟩ := g_bd h
              refine cg_X3_175 dX3_fair_102 S hE hG e102 ?_
              obtain ⟨u105, t105, h⟩ := g_bd h
              rcases gXb_e h with ⟨qx105, e105, h⟩ | ⟨xx105, e105, rfl⟩
              rotate_left
              · exact c_xV (r := .inr xx105) (y := yX3_newName) (rest := []) dX3_fair_105 q857 q859 qs12 q125 q860 hc_X3_newName rfl S hE hG hS hC0 hl.1 rfl (c_recv hE hG (ci := 10) rfl (by decide) (c_castM t105)) (wm_X3_newName E l hl9 x0 0 v102 G96 _ e105) rfl (Nat.le_of_ble_eq_true rfl) ⟨Nat.le_of_ble_eq_true rfl, Nat.le_of_ble_eq_true rfl⟩ (fun hr9 => c_xthrew hC0 hr9 hS (fun H locs ce hG hS h1 h2 h3 => c_xout rfl hx9 hk hC0 hG hS h1 h2 h3))
              refine c_xV (r := .inl (none, qx105.2)) (y := yX3_newName) (rest := []) dX3_fair_105 q857 q859 qs12 q125 q860 hc_X3_newName rfl S hE hG hS hC0 hl.1 rfl (c_recv hE hG (ci := 10) rfl (by decide) (c_castM t105)) (wm_X3_newName E l hl9 x0 0 v102 G96 _ e105) rfl (Nat.le_of_ble_eq_true rfl) ⟨Nat.le_of_ble_eq_true rfl, Nat.le_of_ble_eq_true rfl⟩ (fun hr9 => c_xback hC0 hr9 hS (fun H locs hG hS => ?_))
              refine lv_aload_n hx hb dX3_fair_108 rfl (lv_at hl 1 rfl) ?_
              obtain ⟨v109, e109, h⟩ := g_bd h
              refine cg_X3_27 dX3_fair_109 S hE hG e109 ?_
              refine lv_aload_n hx hb dX3_fair_112 rfl (lv_at hl 1 rfl) ?_
              obtain ⟨v113, e113, h⟩ := g_bd h
              refine cg_X3_175 dX3_fair_113 S hE hG e113 ?_
              refine lv_aload_n hx hb dX3_fair_116 rfl (lv_at hl 1 rfl) ?_
              refine lv_iconst (v := 1) hx hb dX3_fair_117 (by decide) ?_
              refine lv_bipush (v := 9) hx hb dX3_fair_118 (by decide) ?_
              obtain ⟨u120, t120, h⟩ := g_bd h
              rcases gXb_e h with ⟨qx120, e120, h⟩ | ⟨xx120, e120, rfl⟩
              rotate_left
              · exact c_xV (r := .inr xx120) (y := yX3_small) (rest := [.int v113, .ref v109]) dX3_fair_120 q844 q846 qs9 q125 q847 hc_X3_small rfl S hE hG hS hC0 hl.1 rfl (c_recv hE hG (ci := 10) rfl (by decide) (c_castM t120)) (wm_X3_small E l hl9 x0 1 9 qx105.2 _ e120) rfl (Nat.le_of_ble_eq_true rfl) ⟨Nat.le_of_ble_eq_true rfl, Nat.le_of_ble_eq_true rfl⟩ (fun hr9 => c_xthrew hC0 hr9 hS (fun H locs ce hG hS h1 h2 h3 => c_xout rfl hx9 hk hC0 hG hS h1 h2 h3))
              refine c_xV (r := .inl (some (.int qx120.1), qx120.2)) (y := yX3_small) (rest := [.int v113, .ref v109]) dX3_fair_120 q844 q846 qs9 q125 q847 hc_X3_small rfl S hE hG hS hC0 hl.1 rfl (c_recv hE hG (ci := 10) rfl (by decide) (c_castM t120)) (wm_X3_small E l hl9 x0 1 9 qx105.2 _ e120) rfl (Nat.le_of_ble_eq_true rfl) ⟨Nat.le_of_ble_eq_true rfl, Nat.le_of_ble_eq_true rfl⟩ (fun hr9 => c_xback hC0 hr9 hS (fun H locs hG hS => ?_))
              obtain ⟨G123, e123, h⟩ := g_bd h
              refine c_astI dX3_fair_123 S hE hG hS hC0 e123 (fun H locs hG hS => ?_)
              refine lv_aload_n hx hb dX3_fair_124 rfl (lv_at hl 1 rfl) ?_
              refine lv_dup hx hb dX3_fair_125 rfl ?_
              obtain ⟨v126, e126, h⟩ := g_bd h
              refine cg_X3_175 dX3_fair_126 S hE hG e126 ?_
              refine lv_iconst (v := 1) hx hb dX3_fair_129 (by decide) ?_
              refine lv_iadd hx hb dX3_fair_130 ?_
              obtain ⟨G131, e131, h⟩ := g_bd h
              refine cp_X3_175 dX3_fair_131 S hE hG hS hC0 e131 (fun H locs hG hS => ?_)
              refine lv_aload_n hx hb dX3_fair_134 rfl (lv_at hl 1 rfl) ?_
              refine lv_bipush (v := 59) hx hb dX3_fair_135 (by decide) ?_
              obtain ⟨u137, t137, h⟩ := g_bd h
              rcases gXb_e h with ⟨qx137, e137, h⟩ | ⟨xx137, e137, rfl⟩
              rotate_left
              · exact c_xV (r := .inr xx137) (y := yX3_need) (rest := []) dX3_fair_137 q848 q850 qs10 q125 q851 hc_X3_need rfl S hE hG hS hC0 hl.1 rfl (c_recv hE hG (ci := 10) rfl (by decide) (c_castM t137)) (wm_X3_need E l hl9 x0 59 G131 _ e137) rfl (Nat.le_of_ble_eq_true rfl) ⟨Nat.le_of_ble_eq_true rfl, Nat.le_of_ble_eq_true rfl⟩ (fun hr9 => c_xthrew hC0 hr9 hS (fun H locs ce hG hS h1 h2 h3 => c_xout rfl hx9 hk hC0 hG hS h1 h2 h3))
              refine c_xV (r := .inl (none, qx137.2)) (y := yX3_need) (rest := []) dX3_fair_137 q848 q850 qs10 q125 q851 hc_X3_need rfl S hE hG hS hC0 hl.1 rfl (c_recv hE hG (ci := 10) rfl (by decide) (c_castM t137)) (wm_X3_need E l hl9 x0 59 G131 _ e137) rfl (Nat.le_of_ble_eq_true rfl) ⟨Nat.le_of_ble_eq_true rfl, Nat.le_of_ble_eq_true rfl⟩ (fun hr9 => c_xback hC0 hr9 hS (fun H locs hG hS => ?_))
              refine lv_goto (tgt := 255) hx hb dX3_fair_140 (by decide) ?_
              exact J255 x0 qx137.2 _ _ _ h hG hS (lv_sub hl [1] rfl)
            · have h := g_it c86 h
              refine lv_aload_n hx hb dX3_fair_89 rfl (lv_at hl 1 rfl) ?_
              refine lv_iconst (v := 4) hx hb dX3_fair_90 (by decide) ?_
              obtain ⟨u91, t91, h⟩ := g_bd h
              obtain ⟨qx91, e91, h⟩ := g_bd h
              refine c_cV (y := yX3_wrong) (rest := []) dX3_fair_91 q817 q819 qs8 q125 q820 hc_X3_wrong rfl S hE hG hS hC0 hl.1 rfl (c_recv hE hG (ci := 10) rfl (by decide) (c_castM t91)) (wm_X3_wrong E l hl9 x0 4 qx74.2 _ _ e91) rfl (Nat.le_of_ble_eq_true rfl) ⟨Nat.le_of_ble_eq_true rfl, Nat.le_of_ble_eq_true rfl⟩ (fun H locs hG hS => ?_)
              exact c_throwW dX3_fair_94 S hE hG hS hC0 hx9 hk h
        · have h := g_if c25 h
          refine lv_aload_n hx hb dX3_fair_28 rfl (lv_at hl 1 rfl) ?_
          obtain ⟨v29, e29, h⟩ := g_bd h
          refine cg_X3_163 dX3_fair_29 S hE hG e29 ?_
          refine lv_if_eq (tgt := 41) hx hb dX3_fair_32 (by decide) (fun c32 => ?_) (fun c32 => ?_)
          · have h := g_it c32 h
            refine lv_aload_n hx hb dX3_fair_41 rfl (lv_at hl 1 rfl) ?_
            refine lv_iconst (v := 1) hx hb dX3_fair_42 (by decide) ?_
            obtain ⟨G43, e43, h⟩ := g_bd h
            refine cp_X3_163 dX3_fair_43 S hE hG hS hC0 e43 (fun H locs hG hS => ?_)
            refine lv_aload_n hx hb dX3_fair_46 rfl (lv_at hl 1 rfl) ?_
            obtain ⟨u47, t47, h⟩ := g_bd h
            obtain ⟨G47, e47, h⟩ := g_bd h
            refine c_cV (y := yX3_go) (rest := []) dX3_fair_47 q701 q703 qs2 q125 q704 hc_X3_go rfl S hE hG hS hC0 hl.1 rfl (c_recv hE hG (ci := 10) rfl (by decide) (c_castM t47)) (wm_X3_go E l x0 G43 _ e47) rfl (Nat.le_of_ble_eq_true rfl) ⟨Nat.le_of_ble_eq_true rfl, Nat.le_of_ble_eq_true rfl⟩ (fun H locs hG hS => ?_)
            refine lv_aload_n hx hb dX3_fair_50 rfl (lv_at hl 1 rfl) ?_
            refine lv_aload_n hx hb dX3_fair_51 rfl (lv_at hl 1 rfl) ?_
            refine lv_iconst (v := 1) hx hb dX3_fair_52 (by decide) ?_
            refine lv_sipush (v := 9999) hx hb dX3_fair_53 (by decide) ?_
            obtain ⟨u56, t56, h⟩ := g_bd h
            rcases gXb_e h with ⟨qx56, e56, h⟩ | ⟨xx56, e56, rfl⟩
            rotate_left
            · exact c_xV (r := .inr xx56) (y := yX3_small) (rest := [.ref x0]) dX3_fair_56 q844 q846 qs9 q125 q847 hc_X3_small rfl S hE hG hS hC0 hl.1 rfl (c_recv hE hG (ci := 10) rfl (by decide) (c_castM t56)) (wm_X3_small E l hl9 x0 1 9999 G47 _ e56) rfl (Nat.le_of_ble_eq_true rfl) ⟨Nat.le_of_ble_eq_true rfl, Nat.le_of_ble_eq_true rfl⟩ (fun hr9 => c_xthrew hC0 hr9 hS (fun H locs ce hG hS h1 h2 h3 => c_xout rfl hx9 hk hC0 hG hS h1 h2 h3))
            refine c_xV (r := .inl (some (.int qx56.1), qx56.2)) (y := yX3_small) (rest := [.ref x0]) dX3_fair_56 q844 q846 qs9 q125 q847 hc_X3_small rfl S hE hG hS hC0 hl.1 rfl (c_recv hE hG (ci := 10) rfl (by decide) (c_castM t56)) (wm_X3_small E l hl9 x0 1 9999 G47 _ e56) rfl (Nat.le_of_ble_eq_true rfl) ⟨Nat.le_of_ble_eq_true rfl, Nat.le_of_ble_eq_true rfl⟩ (fun hr9 => c_xback hC0 hr9 hS (fun H locs hG hS => ?_))
            obtain ⟨G59, e59, h⟩ := g_bd h
            refine cp_X3_31 dX3_fair_59 S hE hG hS hC0 e59 (fun H locs hG hS => ?_)
            refine lv_aload_n hx hb dX3_fair_62 rfl (lv_at hl 1 rfl) ?_
            refine lv_bipush (v := 59) hx hb dX3_fair_63 (by decide) ?_
            obtain ⟨u65, t65, h⟩ := g_bd h
            rcases gXb_e h with ⟨qx65, e65, h⟩ | ⟨xx65, e65, rfl⟩
            rotate_left
            · exact c_xV (r := .inr xx65) (y := yX3_need) (rest := []) dX3_fair_65 q848 q850 qs10 q125 q851 hc_X3_need rfl S hE hG hS hC0 hl.1 rfl (c_recv hE hG (ci := 10) rfl (by decide) (c_castM t65)) (wm_X3_need E l hl9 x0 59 G59 _ e65) rfl (Nat.le_of_ble_eq_true rfl) ⟨Nat.le_of_ble_eq_true rfl, Nat.le_of_ble_eq_true rfl⟩ (fun hr9 => c_xthrew hC0 hr9 hS (fun H locs ce hG hS h1 h2 h3 => c_xout rfl hx9 hk hC0 hG hS h1 h2 h3))
            refine c_xV (r := .inl (none, qx65.2)) (y := yX3_need) (rest := []) dX3_fair_65 q848 q850 qs10 q125 q851 hc_X3_need rfl S hE hG hS hC0 hl.1 rfl (c_recv hE hG (ci := 10) rfl (by decide) (c_castM t65)) (wm_X3_need E l hl9 x0 59 G59 _ e65) rfl (Nat.le_of_ble_eq_true rfl) ⟨Nat.le_of_ble_eq_true rfl, Nat.le_of_ble_eq_true rfl⟩ (fun hr9 => c_xback hC0 hr9 hS (fun H locs hG hS => ?_))
            refine lv_goto (tgt := 255) hx hb dX3_fair_68 (by decide) ?_
            exact J255 x0 qx65.2 _ _ _ h hG hS (lv_sub hl [1] rfl)
          · have h := g_if c32 h
            refine lv_aload_n hx hb dX3_fair_35 rfl (lv_at hl 1 rfl) ?_
            refine lv_iconst (v := 4) hx hb dX3_fair_36 (by decide) ?_
            obtain ⟨u37, t37, h⟩ := g_bd h
            obtain ⟨qx37, e37, h⟩ := g_bd h
            refine c_cV (y := yX3_wrong) (rest := []) dX3_fair_37 q817 q819 qs8 q125 q820 hc_X3_wrong rfl S hE hG hS hC0 hl.1 rfl (c_recv hE hG (ci := 10) rfl (by decide) (c_castM t37)) (wm_X3_wrong E l hl9 x0 4 qx22.2 _ _ e37) rfl (Nat.le_of_ble_eq_true rfl) ⟨Nat.le_of_ble_eq_true rfl, Nat.le_of_ble_eq_true rfl⟩ (fun H locs hG hS => ?_)
            exact c_throwW dX3_fair_40 S hE hG hS hC0 hx9 hk h
  unfold cm_X3_fair at h
  refine lv_aload_n hx hb dX3_fair_0 rfl (lv_at hl 0 rfl) ?_
  obtain ⟨u1, t1, h⟩ := g_bd h
  obtain ⟨G1, e1, h⟩ := g_bd h
  refine c_cV (y := yX3_go) (rest := []) dX3_fair_1 q701 q703 qs2 q125 q704 hc_X3_go rfl S hE hG hS hC0 hl.1 rfl (c_recv hE hG (ci := 10) rfl (by decide) (c_castM t1)) (wm_X3_go E l x0 Gz _ e1) rfl (Nat.le_of_ble_eq_true rfl) ⟨Nat.le_of_ble_eq_true rfl, Nat.le_of_ble_eq_true rfl⟩ (fun H locs hG hS => ?_)
  exact L4 gF x0 G1 _ _ _ h hG hS (lv_sub hl [0] rfl)
