/-! walks of the component's methods: printed by cgen.py -/
set_option maxRecDepth 100000
theorem hc_X1_claims : cHd yX1_claims 3 := by decide +kernel
set_option maxHeartbeats 4000000 in
set_option maxRecDepth 100000 in
theorem wm_X1_claims (E : gX) (l : Launch) (x0 : Nat) (x1 : Int32) (x2 : Nat) (x3 : Int32) (Gz G' : GH) (r : Int32) (h : cm_X1_claims x0 x1 x2 x3 Gz = some (r, G')) : gMetC E l yX1_claims cX1_claims 4 (some Jvm.ClassFile.FieldType.boolean) 9 [.ref x0, .int x1, .ref x2, .int x3] Gz G' (some (.int r)) := by
  refine gMetC.of (own := RX1) (by decide +kernel) (Nat.le_of_ble_eq_true rfl) rfl ?_
  intro p e s m args below meth c S hr hk hnm hE hC0 hG hS ls hl
  have hl : lv_has ls 4 [(0, .ref x0), (1, .int x1), (2, .ref x2), (3, .int x3)] := hl
  have hx := S.1
  have hb := S.2.1
  unfold cm_X1_claims at h
  refine lv_aload_n hx hb dX1_claims_0 rfl (lv_at hl 2 rfl) ?_
  obtain ⟨v1, e1, h⟩ := g_bd h
  refine cg_X1_302 dX1_claims_1 S hE hG e1 ?_
  refine lv_iload_n hx hb dX1_claims_4 rfl (lv_at hl 3 rfl) ?_
  obtain ⟨v5, e5, h⟩ := g_bd h
  refine c_aldI dX1_claims_5 S hE hG e5 ?_
  refine lv_iconst (v := 2) hx hb dX1_claims_6 (by decide) ?_
  refine lv_icmp_ne (tgt := 17) hx hb dX1_claims_7 (by decide) (fun c7 => ?_) (fun c7 => ?_)
  · have h := g_if c7 h
    refine lv_aload_n hx hb dX1_claims_17 rfl (lv_at hl 0 rfl) ?_
    obtain ⟨v18, e18, h⟩ := g_bd h
    refine cg_X1_45 dX1_claims_18 S hE hG e18 ?_
    refine lv_iload_n hx hb dX1_claims_21 rfl (lv_at hl 3 rfl) ?_
    obtain ⟨v22, e22, h⟩ := g_bd h
    refine c_aldI dX1_claims_22 S hE hG e22 ?_
    refine lv_if_ne (tgt := 28) hx hb dX1_claims_23 (by decide) (fun c23 => ?_) (fun c23 => ?_)
    · have h := g_if c23 h
      refine lv_aload_n hx hb dX1_claims_28 rfl (lv_at hl 0 rfl) ?_
      obtain ⟨v29, e29, h⟩ := g_bd h
      refine cg_X1_45 dX1_claims_29 S hE hG e29 ?_
      refine lv_iload_n hx hb dX1_claims_32 rfl (lv_at hl 3 rfl) ?_
      refine lv_dup2_11 hx hb dX1_claims_33 rfl rfl ?_
      obtain ⟨v34, e34, h⟩ := g_bd h
      refine c_aldI dX1_claims_34 S hE hG e34 ?_
      refine lv_iconst (v := 1) hx hb dX1_claims_35 (by decide) ?_
      refine lv_isub hx hb dX1_claims_36 ?_
      obtain ⟨G37, e37, h⟩ := g_bd h
      refine c_astI dX1_claims_37 S hE hG hS hC0 e37 (fun H locs hG hS => ?_)
      refine lv_aload_n hx hb dX1_claims_38 rfl (lv_at hl 2 rfl) ?_
      obtain ⟨v39, e39, h⟩ := g_bd h
      refine cg_X1_302 dX1_claims_39 S hE hG e39 ?_
      refine lv_iload_n hx hb dX1_claims_42 rfl (lv_at hl 3 rfl) ?_
      refine lv_dup2_11 hx hb dX1_claims_43 rfl rfl ?_
      obtain ⟨v44, e44, h⟩ := g_bd h
      refine c_aldI dX1_claims_44 S hE hG e44 ?_
      refine lv_iconst (v := 1) hx hb dX1_claims_45 (by decide) ?_
      refine lv_iadd hx hb dX1_claims_46 ?_
      obtain ⟨G47, e47, h⟩ := g_bd h
      refine c_astI dX1_claims_47 S hE hG hS hC0 e47 (fun H locs hG hS => ?_)
      refine lv_aload_n hx hb dX1_claims_48 rfl (lv_at hl 0 rfl) ?_
      refine lv_iload_n hx hb dX1_claims_49 rfl (lv_at hl 1 rfl) ?_
      refine lv_aload_n hx hb dX1_claims_50 rfl (lv_at hl 2 rfl) ?_
      obtain ⟨u51, t51, h⟩ := g_bd h
      obtain ⟨qx51, e51, h⟩ := g_bd h
      refine c_cV (y := yX1_done) (rest := []) dX1_claims_51 q2051 q2053 qs48 q119 q2054 hc_X1_done rfl S hE hG hS hC0 hl.1 rfl (c_recv hE hG (ci := 8) rfl (by decide) (c_castM t51)) (wm_X1_done E l x0 x1 x2 G47 _ _ e51) rfl (Nat.le_of_ble_eq_true rfl) ⟨Nat.le_of_ble_eq_true rfl, Nat.le_of_ble_eq_true rfl⟩ (fun H locs hG hS => ?_)
      exact c_zretW dX1_claims_54 S hr hk hC0 hG hS h
    · have h := g_it c23 h
      refine lv_iconst (v := 0) hx hb dX1_claims_26 (by decide) ?_
      exact c_zretW dX1_claims_27 S hr hk hC0 hG hS h
  · have h := g_it c7 h
    refine lv_aload_n hx hb dX1_claims_10 rfl (lv_at hl 0 rfl) ?_
    refine lv_iconst (v := 3) hx hb dX1_claims_11 (by decide) ?_
    obtain ⟨G12, e12, h⟩ := g_bd h
    refine cp_X1_327 dX1_claims_12 S hE hG hS hC0 e12 (fun H locs hG hS => ?_)
    refine lv_iconst (v := 1) hx hb dX1_claims_15 (by decide) ?_
    exact c_zretW dX1_claims_16 S hr hk hC0 hG hS h
theorem hc_X1_isFair : cHd yX1_isFair 0 := by decide +kernel
set_option maxHeartbeats 4000000 in
set_option maxRecDepth 100000 in
theorem wm_X1_isFair (E : gX) (l : Launch) (hl9 : l.stackTraces = false) (x0 : Nat) (Gz : GH) (r : (GX Unit)) (h : cm_X1_isFair x0 Gz = some r) : gMetX E l yX1_isFair cX1_isFair 1 none 7 [.ref x0] Gz (gRs (fun _ => none) r) := by
  refine gMetX.of (own := RX1) (by decide +kernel) (Nat.le_of_ble_eq_true rfl) rfl ?_
  intro p e s m args below meth c S hr hk hx9 hE hC0 hG hS ls hl
  have hl : lv_has ls 1 [(0, .ref x0)] := hl
  have hx := S.1
  have hb := S.2.1
  unfold cm_X1_isFair at h
  refine lv_aload_n hx hb dX1_isFair_0 rfl (lv_at hl 0 rfl) ?_
  obtain ⟨v1, e1, h⟩ := g_bd h
  refine cg_X1_75 dX1_isFair_1 S hE hG e1 ?_
  refine c_ifnonnull (tgt := 15) hx hb dX1_isFair_4 (by decide) (fun c4 => ?_) (fun c4 => ?_)
  · have h := g_if c4 h
    cases h
    exact c_xret (v := none) (G1 := Gz) rfl (c_vretW dX1_isFair_15 S hr hk hC0 hG hS rfl)
  · have h := g_it c4 h
    exact c_throw0 (k := 1) (names := gXsup) hl9 (by decide +kernel) gXsup_ok q1933 q178 hin_ISE hnw_ISE hgd_ISE S hE hG hS hC0 hl.1 hx9 hk dX1_isFair_7 dX1_isFair_10 dX1_isFair_11 dX1_isFair_14 (Nat.le_of_ble_eq_true rfl) (Nat.le_of_ble_eq_true rfl) h
theorem hc_X1_there : cHd yX1_there 1 := by decide +kernel
set_option maxHeartbeats 4000000 in
set_option maxRecDepth 100000 in
theorem wm_X1_there (E : gX) (l : Launch) (hl9 : l.stackTraces = false) (x0 : Int32) (Gz : GH) (r : (GX Unit)) (h : cm_X1_there x0 Gz = some r) : gMetX E l yX1_there cX1_there 1 none 7 [.int x0] Gz (gRs (fun _ => none) r) := by
  refine gMetX.of (own := RX1) (by decide +kernel) (Nat.le_of_ble_eq_true rfl) rfl ?_
  intro p e s m args below meth c S hr hk hx9 hE hC0 hG hS ls hl
  have hl : lv_has ls 1 [(0, .int x0)] := hl
  have hx := S.1
  have hb := S.2.1
  unfold cm_X1_there at h
  refine lv_iload_n hx hb dX1_there_0 rfl (lv_at hl 0 rfl) ?_
  refine lv_if_ne (tgt := 12) hx hb dX1_there_1 (by decide) (fun c1 => ?_) (fun c1 => ?_)
  · have h := g_if c1 h
    cases h
    exact c_xret (v := none) (G1 := Gz) rfl (c_vretW dX1_there_12 S hr hk hC0 hG hS rfl)
  · have h := g_it c1 h
    exact c_throw0 (k := 2) (names := gXsup) hl9 (by decide +kernel) gXsup_ok q1899 q176 hin_IOO hnw_IOO hgd_IOO S hE hG hS hC0 hl.1 hx9 hk dX1_there_4 dX1_there_7 dX1_there_8 dX1_there_11 (Nat.le_of_ble_eq_true rfl) (Nat.le_of_ble_eq_true rfl) h
theorem hc_X1_rideAt : cHd yX1_rideAt 1 := by decide +kernel
set_option maxHeartbeats 4000000 in
set_option maxRecDepth 100000 in
theorem wm_X1_rideAt (E : gX) (l : Launch) (hl9 : l.stackTraces = false) (x0 : Nat) (x1 : Int32) (Gz : GH) (r : (GX Nat)) (h : cm_X1_rideAt x0 x1 Gz = some r) : gMetX E l yX1_rideAt cX1_rideAt 2 (some (Jvm.ClassFile.FieldType.object "FairHouse$Ride")) 8 [.ref x0, .int x1] Gz (gRs (fun r => some (.ref r)) r) := by
  refine gMetX.of (own := RX1) (by decide +kernel) (Nat.le_of_ble_eq_true rfl) rfl ?_
  intro p e s m args below meth c S hr hk hx9 hE hC0 hG hS ls hl
  have hl : lv_has ls 2 [(0, .ref x0), (1, .int x1)] := hl
  have hx := S.1
  have hb := S.2.1
  have J23 : ∀ (x0 : Nat) (x1 : Int32) (s0 : Int32) (G : GH) (H : Heap) (locs : List Loc) (ls : Array Slot), cm_X1_rideAt_J23 x0 x1 s0 G = some r → gC E G H → va_S (gx_C E) s.heap H locs → lv_has ls 2 [(0, .ref x0), (1, .int x1)] → WC E p l e (gRm 8 (cBx Gz) (cBs Gz)) s m args below meth c H locs (gXMQ E below (gRs (fun r => some (.ref r)) r) args s Gz) (F0 m 23 ls [.int s0]) := by
    intro x0 x1 s0 G H locs ls h hG hS hl
    unfold cm_X1_rideAt_J23 at h
    rcases gXb_e h with ⟨qx23, e23, h⟩ | ⟨xx23, e23, rfl⟩
    rotate_left
    · exact c_xS (r := .inr xx23) (y := yX1_there) (rest := []) dX1_rideAt_23 q1896 q1897 q119 q1898 hc_X1_there S hE hG hS hC0 hl.1 rfl (wm_X1_there E l hl9 s0 G _ e23) rfl (Nat.le_of_ble_eq_true rfl) ⟨Nat.le_of_ble_eq_true rfl, Nat.le_of_ble_eq_true rfl⟩ (fun hr9 => c_xthrew hC0 hr9 hS (fun H locs ce hG hS h1 h2 h3 => c_xout rfl hx9 hk hC0 hG hS h1 h2 h3))
    refine c_xS (r := .inl (none, qx23.2)) (y := yX1_there) (rest := []) dX1_rideAt_23 q1896 q1897 q119 q1898 hc_X1_there S hE hG hS hC0 hl.1 rfl (wm_X1_there E l hl9 s0 G _ e23) rfl (Nat.le_of_ble_eq_true rfl) ⟨Nat.le_of_ble_eq_true rfl, Nat.le_of_ble_eq_true rfl⟩ (fun hr9 => c_xback hC0 hr9 hS (fun H locs hG hS => ?_))
    refine lv_aload_n hx hb dX1_rideAt_26 rfl (lv_at hl 0 rfl) ?_
    obtain ⟨v27, e27, h⟩ := g_bd h
    refine cg_X1_75 dX1_rideAt_27 S hE hG e27 ?_
    obtain ⟨b30, eb30, h⟩ := g_bd h
    have rb30 : va_rf v27 = .ref b30 := by rw [eb30]; rfl
    (try rw [rb30] at hl)
    (try rw [rb30])
    obtain ⟨v30, e30, h⟩ := g_bd h
    refine cg_X1_104 dX1_rideAt_30 S hE hG e30 ?_
    refine lv_iload_n hx hb dX1_rideAt_33 rfl (lv_at hl 1 rfl) ?_
    obtain ⟨u34, t34, h⟩ := g_bd h
    obtain ⟨v34, e34, h⟩ := g_bd h
    refine c_cV (y := yJ6_get) (rest := []) dX1_rideAt_34 q1723 q886 q887 q128 q888 hc_J6_get rfl S hE hG hS hC0 hl.1 rfl (c_recv hE hG (ci := 2) rfl (by decide) (c_castM t34)) (wm_J6_get E l v30 x1 qx23.2 _ e34) rfl (Nat.le_of_ble_eq_true rfl) ⟨Nat.le_of_ble_eq_true rfl, Nat.le_of_ble_eq_true rfl⟩ (fun H locs hG hS => ?_)
    obtain ⟨b37, eb37, h⟩ := g_bd h
    have rb37 : va_rf v34 = .ref b37 := by rw [eb37]; rfl
    (try rw [rb37] at hl)
    (try rw [rb37])
    obtain ⟨u37, e37, h⟩ := g_bd h
    refine ck_X1_131 dX1_rideAt_37 S hE hG e37 ?_
    cases h
    exact c_xret (v := some (.ref b37)) (G1 := qx23.2) rfl (c_aretW dX1_rideAt_40 (Or.inl ⟨_, rfl⟩) S hr hk hC0 hG hS rfl)
  have J22 : ∀ (x0 : Nat) (x1 : Int32) (G : GH) (H : Heap) (locs : List Loc) (ls : Array Slot), cm_X1_rideAt_J22 x0 x1 G = some r → gC E G H → va_S (gx_C E) s.heap H locs → lv_has ls 2 [(0, .ref x0), (1, .int x1)] → WC E p l e (gRm 8 (cBx Gz) (cBs Gz)) s m args below meth c H locs (gXMQ E below (gRs (fun r => some (.ref r)) r) args s Gz) (F0 m 22 ls []) := by
    intro x0 x1 G H locs ls h hG hS hl
    unfold cm_X1_rideAt_J22 at h
    refine lv_iconst (v := 0) hx hb dX1_rideAt_22 (by decide) ?_
    exact J23 x0 x1 0 G _ _ _ h hG hS (lv_sub hl [0, 1] rfl)
  unfold cm_X1_rideAt at h
  refine lv_iload_n hx hb dX1_rideAt_0 rfl (lv_at hl 1 rfl) ?_
  refine lv_if_lt (tgt := 22) hx hb dX1_rideAt_1 (by decide) (fun c1 => ?_) (fun c1 => ?_)
  · have h := g_it c1 h
    exact J22 x0 x1 Gz _ _ _ h hG hS (lv_sub hl [0, 1] rfl)
  · have h := g_if c1 h
    refine lv_iload_n hx hb dX1_rideAt_4 rfl (lv_at hl 1 rfl) ?_
    refine lv_aload_n hx hb dX1_rideAt_5 rfl (lv_at hl 0 rfl) ?_
    obtain ⟨v6, e6, h⟩ := g_bd h
    refine cg_X1_75 dX1_rideAt_6 S hE hG e6 ?_
    obtain ⟨b9, eb9, h⟩ := g_bd h
    have rb9 : va_rf v6 = .ref b9 := by rw [eb9]; rfl
    (try rw [rb9] at hl)
    (try rw [rb9])
    obtain ⟨v9, e9, h⟩ := g_bd h
    refine cg_X1_104 dX1_rideAt_9 S hE hG e9 ?_
    obtain ⟨u12, t12, h⟩ := g_bd h
    obtain ⟨v12, e12, h⟩ := g_bd h
    refine c_cV (y := yJ6_size) (rest := [.int x1]) dX1_rideAt_12 q1722 q882 q883 q128 q884 hc_J6_size rfl S hE hG hS hC0 hl.1 rfl (c_recv hE hG (ci := 2) rfl (by decide) (c_castM t12)) (wm_J6_size E l v9 Gz _ e12) rfl (Nat.le_of_ble_eq_true rfl) ⟨Nat.le_of_ble_eq_true rfl, Nat.le_of_ble_eq_true rfl⟩ (fun H locs hG hS => ?_)
    refine lv_icmp_ge (tgt := 22) hx hb dX1_rideAt_15 (by decide) (fun c15 => ?_) (fun c15 => ?_)
    · have h := g_it c15 h
      exact J22 x0 x1 Gz _ _ _ h hG hS (lv_sub hl [0, 1] rfl)
    · have h := g_if c15 h
      refine lv_iconst (v := 1) hx hb dX1_rideAt_18 (by decide) ?_
      refine lv_goto (tgt := 23) hx hb dX1_rideAt_19 (by decide) ?_
      exact J23 x0 x1 1 Gz _ _ _ h hG hS (lv_sub hl [0, 1] rfl)
theorem hc_X1_need : cHd yX1_need 1 := by decide +kernel
set_option maxHeartbeats 4000000 in
set_option maxRecDepth 100000 in
theorem wm_X1_need (E : gX) (l : Launch) (hl9 : l.stackTraces = false) (x0 : Int32) (Gz : GH) (r : (GX Unit)) (h : cm_X1_need x0 Gz = some r) : gMetX E l yX1_need cX1_need 1 none 7 [.int x0] Gz (gRs (fun _ => none) r) := by
  refine gMetX.of (own := RX1) (by decide +kernel) (Nat.le_of_ble_eq_true rfl) rfl ?_
  intro p e s m args below meth c S hr hk hx9 hE hC0 hG hS ls hl
  have hl : lv_has ls 1 [(0, .int x0)] := hl
  have hx := S.1
  have hb := S.2.1
  unfold cm_X1_need at h
  refine lv_iload_n hx hb dX1_need_0 rfl (lv_at hl 0 rfl) ?_
  refine lv_if_ne (tgt := 12) hx hb dX1_need_1 (by decide) (fun c1 => ?_) (fun c1 => ?_)
  · have h := g_if c1 h
    cases h
    exact c_xret (v := none) (G1 := Gz) rfl (c_vretW dX1_need_12 S hr hk hC0 hG hS rfl)
  · have h := g_it c1 h
    exact c_throw0 (k := 0) (names := gXsup) hl9 (by decide +kernel) gXsup_ok q265 q124 hin_IAE hnw_IAE hgd_IAE S hE hG hS hC0 hl.1 hx9 hk dX1_need_4 dX1_need_7 dX1_need_8 dX1_need_11 (Nat.le_of_ble_eq_true rfl) (Nat.le_of_ble_eq_true rfl) h
theorem hc_X10_come : cHd yX10_come 2 := by decide +kernel
set_option maxHeartbeats 4000000 in
set_option maxRecDepth 100000 in
theorem wm_X10_come (E : gX) (l : Launch) (x0 : Nat) (x1 : Int32) (x2 : Int32) (Gz G' : GH) (r : Int32) (h : cm_X10_come x0 x1 x2 Gz = some (r, G')) : gMetC E l yX10_come cX10_come 4 (some Jvm.ClassFile.FieldType.boolean) 2 [.ref x0, .int x1, .int x2] Gz G' (some (.int r)) := by
  refine gMetC.of (own := RX10) (by decide +kernel) (Nat.le_of_ble_eq_true rfl) rfl ?_
  intro p e s m args below meth c S hr hk hnm hE hC0 hG hS ls hl
  have hl : lv_has ls 4 [(0, .ref x0), (1, .int x1), (2, .int x2)] := hl
  have hx := S.1
  have hb := S.2.1
  unfold cm_X10_come at h
  refine lv_aload_n hx hb dX10_come_0 rfl (lv_at hl 0 rfl) ?_
  obtain ⟨v1, e1, h⟩ := g_bd h
  refine cg_X10_28 dX10_come_1 S hE hG e1 ?_
  refine lv_bipush (v := 30) hx hb dX10_come_4 (by decide) ?_
  refine lv_icmp_ne (tgt := 11) hx hb dX10_come_6 (by decide) (fun c6 => ?_) (fun c6 => ?_)
  · have h := g_if c6 h
    refine lv_aload_n hx hb dX10_come_11 rfl (lv_at hl 0 rfl) ?_
    obtain ⟨v12, e12, h⟩ := g_bd h
    refine cg_X10_25 dX10_come_12 S hE hG e12 ?_
    refine lv_aload_n hx hb dX10_come_15 rfl (lv_at hl 0 rfl) ?_
    obtain ⟨v16, e16, h⟩ := g_bd h
    refine cg_X10_28 dX10_come_16 S hE hG e16 ?_
    refine lv_iadd hx hb dX10_come_19 ?_
    refine lv_bipush (v := 30) hx hb dX10_come_20 (by decide) ?_
    refine lv_irem hx hb dX10_come_22 (by decide) ?_
    refine lv_istore_n (lv' := [(3, .int ((v12 + v16) - (v12 + v16) / 30 * 30)), (0, .ref x0), (1, .int x1), (2, .int x2)]) hx hb dX10_come_23 rfl hl (by decide) rfl (fun ls hl => ?_)
    refine lv_aload_n hx hb dX10_come_24 rfl (lv_at hl 1 rfl) ?_
    obtain ⟨v25, e25, h⟩ := g_bd h
    refine cg_X10_9 dX10_come_25 S hE hG e25 ?_
    refine lv_iload_n hx hb dX10_come_28 rfl (lv_at hl 0 rfl) ?_
    refine lv_iload_n hx hb dX10_come_29 rfl (lv_at hl 2 rfl) ?_
    obtain ⟨G30, e30, h⟩ := g_bd h
    refine c_astI dX10_come_30 S hE hG hS hC0 e30 (fun H locs hG hS => ?_)
    refine lv_aload_n hx hb dX10_come_31 rfl (lv_at hl 1 rfl) ?_
    obtain ⟨v32, e32, h⟩ := g_bd h
    refine cg_X10_15 dX10_come_32 S hE hG e32 ?_
    refine lv_iload_n hx hb dX10_come_35 rfl (lv_at hl 0 rfl) ?_
    refine lv_iload_n hx hb dX10_come_36 rfl (lv_at hl 3 rfl) ?_
    obtain ⟨G37, e37, h⟩ := g_bd h
    refine c_astI dX10_come_37 S hE hG hS hC0 e37 (fun H locs hG hS => ?_)
    refine lv_aload_n hx hb dX10_come_38 rfl (lv_at hl 1 rfl) ?_
    refine lv_dup hx hb dX10_come_39 rfl ?_
    obtain ⟨v40, e40, h⟩ := g_bd h
    refine cg_X10_28 dX10_come_40 S hE hG e40 ?_
    refine lv_iconst (v := 1) hx hb dX10_come_43 (by decide) ?_
    refine lv_iadd hx hb dX10_come_44 ?_
    obtain ⟨G45, e45, h⟩ := g_bd h
    refine cp_X10_28 dX10_come_45 S hE hG hS hC0 e45 (fun H locs hG hS => ?_)
    refine lv_aload_n hx hb dX10_come_48 rfl (lv_at hl 1 rfl) ?_
    refine lv_dup hx hb dX10_come_49 rfl ?_
    obtain ⟨v50, e50, h⟩ := g_bd h
    refine cg_X10_31 dX10_come_50 S hE hG e50 ?_
    refine lv_iload_n hx hb dX10_come_53 rfl (lv_at hl 3 rfl) ?_
    refine lv_iadd hx hb dX10_come_54 ?_
    obtain ⟨G55, e55, h⟩ := g_bd h
    refine cp_X10_31 dX10_come_55 S hE hG hS hC0 e55 (fun H locs hG hS => ?_)
    refine lv_iconst (v := 1) hx hb dX10_come_58 (by decide) ?_
    exact c_zretW dX10_come_59 S hr hk hC0 hG hS h
  · have h := g_it c6 h
    refine lv_iconst (v := 0) hx hb dX10_come_9 (by decide) ?_
    exact c_zretW dX10_come_10 S hr hk hC0 hG hS h
theorem hc_X1_come : cHd yX1_come 2 := by decide +kernel
set_option maxHeartbeats 4000000 in
set_option maxRecDepth 100000 in
theorem wm_X1_come (E : gX) (l : Launch) (hl9 : l.stackTraces = false) (x0 : Nat) (x1 : Int32) (x2 : Int32) (Gz : GH) (r : (GX Int32)) (h : cm_X1_come x0 x1 x2 Gz = some r) : gMetX E l yX1_come cX1_come 5 (some Jvm.ClassFile.FieldType.int) 9 [.ref x0, .int x1, .int x2] Gz (gRs (fun r => some (.int r)) r) := by
  refine gMetX.of (own := RX1) (by decide +kernel) (Nat.le_of_ble_eq_true rfl) rfl ?_
  intro p e s m args below meth c S hr hk hx9 hE hC0 hG hS ls hl
  have hl : lv_has ls 5 [(0, .ref x0), (1, .int x1), (2, .int x2)] := hl
  have hx := S.1
  have hb := S.2.1
  have J33 : ∀ (x0 : Nat) (x2 : Int32) (x3 : Nat) (s0 : Int32) (G : GH) (H : Heap) (locs : List Loc) (ls : Array Slot), cm_X1_come_J33 x0 x2 x3 s0 G = some r → gC E G H → va_S (gx_C E) s.heap H locs → lv_has ls 5 [(0, .ref x0), (2, .int x2), (3, .ref x3)] → WC E p l e (gRm 9 (cBx Gz) (cBs Gz)) s m args below meth c H locs (gXMQ E below (gRs (fun r => some (.int r)) r) args s Gz) (F0 m 33 ls [.int s0]) := by
    intro x0 x2 x3 s0 G H locs ls h hG hS hl
    unfold cm_X1_come_J33 at h
    rcases gXb_e h with ⟨qx33, e33, h⟩ | ⟨xx33, e33, rfl⟩
    rotate_left
    · exact c_xS (r := .inr xx33) (y := yX1_need) (rest := []) dX1_come_33 q1959 q1960 q119 q1961 hc_X1_need S hE hG hS hC0 hl.1 rfl (wm_X1_need E l hl9 s0 G _ e33) rfl (Nat.le_of_ble_eq_true rfl) ⟨Nat.le_of_ble_eq_true rfl, Nat.le_of_ble_eq_true rfl⟩ (fun hr9 => c_xthrew hC0 hr9 hS (fun H locs ce hG hS h1 h2 h3 => c_xout rfl hx9 hk hC0 hG hS h1 h2 h3))
    refine c_xS (r := .inl (none, qx33.2)) (y := yX1_need) (rest := []) dX1_come_33 q1959 q1960 q119 q1961 hc_X1_need S hE hG hS hC0 hl.1 rfl (wm_X1_need E l hl9 s0 G _ e33) rfl (Nat.le_of_ble_eq_true rfl) ⟨Nat.le_of_ble_eq_true rfl, Nat.le_of_ble_eq_true rfl⟩ (fun hr9 => c_xback hC0 hr9 hS (fun H locs hG hS => ?_))
    refine lv_aload_n hx hb dX1_come_36 rfl (lv_at hl 2 rfl) ?_
    obtain ⟨u37, e37, h⟩ := g_bd h
    refine ck_X1_195 dX1_come_37 S hE hG e37 ?_
    refine lv_astore (lv' := [(4, .ref x3), (0, .ref x0), (2, .int x2), (3, .ref x3)]) hx hb dX1_come_40 hl (by decide) rfl (fun ls hl => ?_)
    refine lv_aload hx hb dX1_come_42 (lv_at hl 0 rfl) ?_
    obtain ⟨v44, e44, h⟩ := g_bd h
    refine wd_Seats_bench (rest := []) q1827 dX1_come_44 S hE hG hS hC0 hl.1 e44 rfl (Nat.le_of_ble_eq_true rfl) (by decide) (fun H locs hG hS => ?_)
    refine lv_aload_n hx hb dX1_come_49 rfl (lv_at hl 1 rfl) ?_
    obtain ⟨v50, e50, h⟩ := g_bd h
    refine cg_X1_133 dX1_come_50 S hE hG e50 ?_
    refine lv_iload_n hx hb dX1_come_53 rfl (lv_at hl 2 rfl) ?_
    obtain ⟨u54, t54, h⟩ := g_bd h
    obtain ⟨qx54, e54, h⟩ := g_bd h
    refine c_cV (y := yX10_come) (rest := []) dX1_come_54 q1962 q1963 q1964 q152 q1965 hc_X10_come rfl S hE hG hS hC0 hl.1 rfl (c_recv hE hG (ci := 16) rfl (by decide) (c_castM t54)) (wm_X10_come E l v44 v50 x2 qx33.2 _ _ e54) rfl (Nat.le_of_ble_eq_true rfl) ⟨Nat.le_of_ble_eq_true rfl, Nat.le_of_ble_eq_true rfl⟩ (fun H locs hG hS => ?_)
    refine lv_if_eq (tgt := 73) hx hb dX1_come_57 (by decide) (fun c57 => ?_) (fun c57 => ?_)
    · have h := g_it c57 h
      refine lv_iconst (v := (-1)) hx hb dX1_come_73 (by decide) ?_
      cases h
      exact c_xret (v := some (.int (-1))) (G1 := qx54.2) rfl (c_iretW dX1_come_74 S hr hk hC0 hG hS rfl)
    · have h := g_if c57 h
      refine lv_aload hx hb dX1_come_60 (lv_at hl 0 rfl) ?_
      obtain ⟨v62, e62, h⟩ := g_bd h
      refine wd_Seats_bench (rest := []) q1827 dX1_come_62 S hE hG hS hC0 hl.1 e62 rfl (Nat.le_of_ble_eq_true rfl) (by decide) (fun H locs hG hS => ?_)
      obtain ⟨v67, e67, h⟩ := g_bd h
      refine cg_X1_233 dX1_come_67 S hE hG e67 ?_
      refine lv_goto (tgt := 74) hx hb dX1_come_70 (by decide) ?_
      cases h
      exact c_xret (v := some (.int v67)) (G1 := qx54.2) rfl (c_iretW dX1_come_74 S hr hk hC0 hG hS rfl)
  have J32 : ∀ (x0 : Nat) (x2 : Int32) (x3 : Nat) (G : GH) (H : Heap) (locs : List Loc) (ls : Array Slot), cm_X1_come_J32 x0 x2 x3 G = some r → gC E G H → va_S (gx_C E) s.heap H locs → lv_has ls 5 [(0, .ref x0), (2, .int x2), (3, .ref x3)] → WC E p l e (gRm 9 (cBx Gz) (cBs Gz)) s m args below meth c H locs (gXMQ E below (gRs (fun r => some (.int r)) r) args s Gz) (F0 m 32 ls []) := by
    intro x0 x2 x3 G H locs ls h hG hS hl
    unfold cm_X1_come_J32 at h
    refine lv_iconst (v := 0) hx hb dX1_come_32 (by decide) ?_
    exact J33 x0 x2 x3 0 G _ _ _ h hG hS (lv_sub hl [0, 1, 2] rfl)
  unfold cm_X1_come at h
  refine lv_aload_n hx hb dX1_come_0 rfl (lv_at hl 0 rfl) ?_
  obtain ⟨u1, t1, h⟩ := g_bd h
  rcases gXb_e h with ⟨qx1, e1, h⟩ | ⟨xx1, e1, rfl⟩
  rotate_left
  · exact c_xV (r := .inr xx1) (y := yX1_isFair) (rest := []) dX1_come_1 q1929 q1931 qs39 q119 q1932 hc_X1_isFair rfl S hE hG hS hC0 hl.1 rfl (c_recv hE hG (ci := 8) rfl (by decide) (c_castM t1)) (wm_X1_isFair E l hl9 x0 Gz _ e1) rfl (Nat.le_of_ble_eq_true rfl) ⟨Nat.le_of_ble_eq_true rfl, Nat.le_of_ble_eq_true rfl⟩ (fun hr9 => c_xthrew hC0 hr9 hS (fun H locs ce hG hS h1 h2 h3 => c_xout rfl hx9 hk hC0 hG hS h1 h2 h3))
  refine c_xV (r := .inl (none, qx1.2)) (y := yX1_isFair) (rest := []) dX1_come_1 q1929 q1931 qs39 q119 q1932 hc_X1_isFair rfl S hE hG hS hC0 hl.1 rfl (c_recv hE hG (ci := 8) rfl (by decide) (c_castM t1)) (wm_X1_isFair E l hl9 x0 Gz _ e1) rfl (Nat.le_of_ble_eq_true rfl) ⟨Nat.le_of_ble_eq_true rfl, Nat.le_of_ble_eq_true rfl⟩ (fun hr9 => c_xback hC0 hr9 hS (fun H locs hG hS => ?_))
  refine lv_aload_n hx hb dX1_come_4 rfl (lv_at hl 0 rfl) ?_
  refine lv_iload_n hx hb dX1_come_5 rfl (lv_at hl 1 rfl) ?_
  obtain ⟨u6, t6, h⟩ := g_bd h
  rcases gXb_e h with ⟨qx6, e6, h⟩ | ⟨xx6, e6, rfl⟩
  rotate_left
  · exact c_xV (r := .inr xx6) (y := yX1_rideAt) (rest := []) dX1_come_6 q1955 q1957 qs40 q119 q1958 hc_X1_rideAt rfl S hE hG hS hC0 hl.1 rfl (c_recv hE hG (ci := 8) rfl (by decide) (c_castM t6)) (wm_X1_rideAt E l hl9 x0 x1 qx1.2 _ e6) rfl (Nat.le_of_ble_eq_true rfl) ⟨Nat.le_of_ble_eq_true rfl, Nat.le_of_ble_eq_true rfl⟩ (fun hr9 => c_xthrew hC0 hr9 hS (fun H locs ce hG hS h1 h2 h3 => c_xout rfl hx9 hk hC0 hG hS h1 h2 h3))
  refine c_xV (r := .inl (some (.ref qx6.1), qx6.2)) (y := yX1_rideAt) (rest := []) dX1_come_6 q1955 q1957 qs40 q119 q1958 hc_X1_rideAt rfl S hE hG hS hC0 hl.1 rfl (c_recv hE hG (ci := 8) rfl (by decide) (c_castM t6)) (wm_X1_rideAt E l hl9 x0 x1 qx1.2 _ e6) rfl (Nat.le_of_ble_eq_true rfl) ⟨Nat.le_of_ble_eq_true rfl, Nat.le_of_ble_eq_true rfl⟩ (fun hr9 => c_xback hC0 hr9 hS (fun H locs hG hS => ?_))
  refine lv_astore_n (lv' := [(3, .ref qx6.1), (0, .ref x0), (1, .int x1), (2, .int x2)]) hx hb dX1_come_9 rfl hl (by decide) rfl (fun ls hl => ?_)
  refine lv_iload_n hx hb dX1_come_10 rfl (lv_at hl 3 rfl) ?_
  refine lv_iconst (v := 1) hx hb dX1_come_11 (by decide) ?_
  refine lv_icmp_lt (tgt := 32) hx hb dX1_come_12 (by decide) (fun c12 => ?_) (fun c12 => ?_)
  · have h := g_it c12 h
    exact J32 x0 x2 qx6.1 qx6.2 _ _ _ h hG hS (lv_sub hl [1, 3, 0] rfl)
  · have h := g_if c12 h
    refine lv_iload_n hx hb dX1_come_15 rfl (lv_at hl 3 rfl) ?_
    refine lv_bipush (v := 100) hx hb dX1_come_16 (by decide) ?_
    refine lv_icmp_gt (tgt := 32) hx hb dX1_come_18 (by decide) (fun c18 => ?_) (fun c18 => ?_)
    · have h := g_it c18 h
      exact J32 x0 x2 qx6.1 qx6.2 _ _ _ h hG hS (lv_sub hl [1, 3, 0] rfl)
    · have h := g_if c18 h
      refine lv_aload_n hx hb dX1_come_21 rfl (lv_at hl 0 rfl) ?_
      obtain ⟨v22, e22, h⟩ := g_bd h
      refine ci_X1_195 dX1_come_22 S hE hG e22 ?_
      refine lv_if_eq (tgt := 32) hx hb dX1_come_25 (by decide) (fun c25 => ?_) (fun c25 => ?_)
      · have h := g_it c25 h
        exact J32 x0 x2 qx6.1 qx6.2 _ _ _ h hG hS (lv_sub hl [1, 3, 0] rfl)
      · have h := g_if c25 h
        refine lv_iconst (v := 1) hx hb dX1_come_28 (by decide) ?_
        refine lv_goto (tgt := 33) hx hb dX1_come_29 (by decide) ?_
        exact J33 x0 x2 qx6.1 1 qx6.2 _ _ _ h hG hS (lv_sub hl [1, 3, 0] rfl)
theorem hc_X1_count : cHd yX1_count 1 := by decide +kernel
set_option maxHeartbeats 4000000 in
set_option maxRecDepth 100000 in
theorem wm_X1_count (E : gX) (l : Launch) (hl9 : l.stackTraces = false) (x0 : Nat) (x1 : Int32) (Gz : GH) (r : (GX Int32)) (h : cm_X1_count x0 x1 Gz = some r) : gMetX E l yX1_count cX1_count 2 (some Jvm.ClassFile.FieldType.int) 8 [.ref x0, .int x1] Gz (gRs (fun r => some (.int r)) r) := by
  refine gMetX.of (own := RX1) (by decide +kernel) (Nat.le_of_ble_eq_true rfl) rfl ?_
  intro p e s m args below meth c S hr hk hx9 hE hC0 hG hS ls hl
  have hl : lv_has ls 2 [(0, .ref x0), (1, .int x1)] := hl
  have hx := S.1
  have hb := S.2.1
  have J14 : ∀ (x0 : Nat) (x1 : Int32) (s0 : Int32) (G : GH) (H : Heap) (locs : List Loc) (ls : Array Slot), cm_X1_count_J14 x0 x1 s0 G = some r → gC E G H → va_S (gx_C E) s.heap H locs → lv_has ls 2 [(0, .ref x0), (1, .int x1)] → WC E p l e (gRm 8 (cBx Gz) (cBs Gz)) s m args below meth c H locs (gXMQ E below (gRs (fun r => some (.int r)) r) args s Gz) (F0 m 14 ls [.int s0]) := by
    intro x0 x1 s0 G H locs ls h hG hS hl
    unfold cm_X1_count_J14 at h
    rcases gXb_e h with ⟨qx14, e14, h⟩ | ⟨xx14, e14, rfl⟩
    rotate_left
    · exact c_xS (r := .inr xx14) (y := yX1_there) (rest := []) dX1_count_14 q1896 q1897 q119 q1898 hc_X1_there S hE hG hS hC0 hl.1 rfl (wm_X1_there E l hl9 s0 G _ e14) rfl (Nat.le_of_ble_eq_true rfl) ⟨Nat.le_of_ble_eq_true rfl, Nat.le_of_ble_eq_true rfl⟩ (fun hr9 => c_xthrew hC0 hr9 hS (fun H locs ce hG hS h1 h2 h3 => c_xout rfl hx9 hk hC0 hG hS h1 h2 h3))
    refine c_xS (r := .inl (none, qx14.2)) (y := yX1_there) (rest := []) dX1_count_14 q1896 q1897 q119 q1898 hc_X1_there S hE hG hS hC0 hl.1 rfl (wm_X1_there E l hl9 s0 G _ e14) rfl (Nat.le_of_ble_eq_true rfl) ⟨Nat.le_of_ble_eq_true rfl, Nat.le_of_ble_eq_true rfl⟩ (fun hr9 => c_xback hC0 hr9 hS (fun H locs hG hS => ?_))
    refine lv_iload_n hx hb dX1_count_17 rfl (lv_at hl 1 rfl) ?_
    refine lv_iconst (v := 4) hx hb dX1_count_18 (by decide) ?_
    refine lv_icmp_ne (tgt := 27) hx hb dX1_count_19 (by decide) (fun c19 => ?_) (fun c19 => ?_)
    · have h := g_if c19 h
      refine lv_aload_n hx hb dX1_count_27 rfl (lv_at hl 0 rfl) ?_
      obtain ⟨v28, e28, h⟩ := g_bd h
      refine cg_X1_75 dX1_count_28 S hE hG e28 ?_
      refine c_ifnonnull (tgt := 36) hx hb dX1_count_31 (by decide) (fun c31 => ?_) (fun c31 => ?_)
      · have h := g_if c31 h
        refine lv_iload_n hx hb dX1_count_36 rfl (lv_at hl 1 rfl) ?_
        refine lv_if_ne (tgt := 53) hx hb dX1_count_37 (by decide) (fun c37 => ?_) (fun c37 => ?_)
        · have h := g_if c37 h
          refine lv_iload_n hx hb dX1_count_53 rfl (lv_at hl 1 rfl) ?_
          refine lv_iconst (v := 1) hx hb dX1_count_54 (by decide) ?_
          refine lv_icmp_ne (tgt := 68) hx hb dX1_count_55 (by decide) (fun c55 => ?_) (fun c55 => ?_)
          · have h := g_if c55 h
            refine lv_iload_n hx hb dX1_count_68 rfl (lv_at hl 1 rfl) ?_
            refine lv_iconst (v := 2) hx hb dX1_count_69 (by decide) ?_
            refine lv_icmp_ne (tgt := 83) hx hb dX1_count_70 (by decide) (fun c70 => ?_) (fun c70 => ?_)
            · have h := g_if c70 h
              refine lv_aload_n hx hb dX1_count_83 rfl (lv_at hl 0 rfl) ?_
              obtain ⟨v84, e84, h⟩ := g_bd h
              refine cg_X1_75 dX1_count_84 S hE hG e84 ?_
              obtain ⟨b87, eb87, h⟩ := g_bd h
              have rb87 : va_rf v84 = .ref b87 := by rw [eb87]; rfl
              (try rw [rb87] at hl)
              (try rw [rb87])
              obtain ⟨v87, e87, h⟩ := g_bd h
              refine cg_X1_118 dX1_count_87 S hE hG e87 ?_
              cases h
              exact c_xret (v := some (.int v87)) (G1 := qx14.2) rfl (c_iretW dX1_count_90 S hr hk hC0 hG hS rfl)
            · have h := g_it c70 h
              refine lv_aload_n hx hb dX1_count_73 rfl (lv_at hl 0 rfl) ?_
              obtain ⟨v74, e74, h⟩ := g_bd h
              refine cg_X1_75 dX1_count_74 S hE hG e74 ?_
              obtain ⟨b77, eb77, h⟩ := g_bd h
              have rb77 : va_rf v74 = .ref b77 := by rw [eb77]; rfl
              (try rw [rb77] at hl)
              (try rw [rb77])
              obtain ⟨v77, e77, h⟩ := g_bd h
              refine cg_X1_116 dX1_count_77 S hE hG e77 ?_
              refine lv_goto (tgt := 90) hx hb dX1_count_80 (by decide) ?_
              cases h
              exact c_xret (v := some (.int v77)) (G1 := qx14.2) rfl (c_iretW dX1_count_90 S hr hk hC0 hG hS rfl)
          · have h := g_it c55 h
            refine lv_aload_n hx hb dX1_count_58 rfl (lv_at hl 0 rfl) ?_
            obtain ⟨v59, e59, h⟩ := g_bd h
            refine cg_X1_75 dX1_count_59 S hE hG e59 ?_
            obtain ⟨b62, eb62, h⟩ := g_bd h
            have rb62 : va_rf v59 = .ref b62 := by rw [eb62]; rfl
            (try rw [rb62] at hl)
            (try rw [rb62])
            obtain ⟨v62, e62, h⟩ := g_bd h
            refine cg_X1_113 dX1_count_62 S hE hG e62 ?_
            refine lv_goto (tgt := 90) hx hb dX1_count_65 (by decide) ?_
            cases h
            exact c_xret (v := some (.int v62)) (G1 := qx14.2) rfl (c_iretW dX1_count_90 S hr hk hC0 hG hS rfl)
        · have h := g_it c37 h
          refine lv_aload_n hx hb dX1_count_40 rfl (lv_at hl 0 rfl) ?_
          obtain ⟨v41, e41, h⟩ := g_bd h
          refine cg_X1_75 dX1_count_41 S hE hG e41 ?_
          obtain ⟨b44, eb44, h⟩ := g_bd h
          have rb44 : va_rf v41 = .ref b44 := by rw [eb44]; rfl
          (try rw [rb44] at hl)
          (try rw [rb44])
          obtain ⟨v44, e44, h⟩ := g_bd h
          refine cg_X1_104 dX1_count_44 S hE hG e44 ?_
          obtain ⟨u47, t47, h⟩ := g_bd h
          obtain ⟨v47, e47, h⟩ := g_bd h
          refine c_cV (y := yJ6_size) (rest := []) dX1_count_47 q1722 q882 q883 q128 q884 hc_J6_size rfl S hE hG hS hC0 hl.1 rfl (c_recv hE hG (ci := 2) rfl (by decide) (c_castM t47)) (wm_J6_size E l v44 qx14.2 _ e47) rfl (Nat.le_of_ble_eq_true rfl) ⟨Nat.le_of_ble_eq_true rfl, Nat.le_of_ble_eq_true rfl⟩ (fun H locs hG hS => ?_)
          refine lv_goto (tgt := 90) hx hb dX1_count_50 (by decide) ?_
          cases h
          exact c_xret (v := some (.int v47)) (G1 := qx14.2) rfl (c_iretW dX1_count_90 S hr hk hC0 hG hS rfl)
      · have h := g_it c31 h
        refine lv_iconst (v := 0) hx hb dX1_count_34 (by decide) ?_
        cases h
        exact c_xret (v := some (.int 0)) (G1 := qx14.2) rfl (c_iretW dX1_count_35 S hr hk hC0 hG hS rfl)
    · have h := g_it c19 h
      refine lv_aload_n hx hb dX1_count_22 rfl (lv_at hl 0 rfl) ?_
      obtain ⟨v23, e23, h⟩ := g_bd h
      refine cg_X1_65 dX1_count_23 S hE hG e23 ?_
      cases h
      exact c_xret (v := some (.int v23)) (G1 := qx14.2) rfl (c_iretW dX1_count_26 S hr hk hC0 hG hS rfl)
  have J13 : ∀ (x0 : Nat) (x1 : Int32) (G : GH) (H : Heap) (locs : List Loc) (ls : Array Slot), cm_X1_count_J13 x0 x1 G = some r → gC E G H → va_S (gx_C E) s.heap H locs → lv_has ls 2 [(0, .ref x0), (1, .int x1)] → WC E p l e (gRm 8 (cBx Gz) (cBs Gz)) s m args below meth c H locs (gXMQ E below (gRs (fun r => some (.int r)) r) args s Gz) (F0 m 13 ls []) := by
    intro x0 x1 G H locs ls h hG hS hl
    unfold cm_X1_count_J13 at h
    refine lv_iconst (v := 0) hx hb dX1_count_13 (by decide) ?_
    exact J14 x0 x1 0 G _ _ _ h hG hS (lv_sub hl [0, 1] rfl)
  unfold cm_X1_count at h
  refine lv_iload_n hx hb dX1_count_0 rfl (lv_at hl 1 rfl) ?_
  refine lv_if_lt (tgt := 13) hx hb dX1_count_1 (by decide) (fun c1 => ?_) (fun c1 => ?_)
  · have h := g_it c1 h
    exact J13 x0 x1 Gz _ _ _ h hG hS (lv_sub hl [0, 1] rfl)
  · have h := g_if c1 h
    refine lv_iload_n hx hb dX1_count_4 rfl (lv_at hl 1 rfl) ?_
    refine lv_iconst (v := 4) hx hb dX1_count_5 (by decide) ?_
    refine lv_icmp_gt (tgt := 13) hx hb dX1_count_6 (by decide) (fun c6 => ?_) (fun c6 => ?_)
    · have h := g_it c6 h
      exact J13 x0 x1 Gz _ _ _ h hG hS (lv_sub hl [0, 1] rfl)
    · have h := g_if c6 h
      refine lv_iconst (v := 1) hx hb dX1_count_9 (by decide) ?_
      refine lv_goto (tgt := 14) hx hb dX1_count_10 (by decide) ?_
      exact J14 x0 x1 1 Gz _ _ _ h hG hS (lv_sub hl [0, 1] rfl)
theorem hc_X25_of : cHd yX25_of 2 := by decide +kernel
set_option maxHeartbeats 4000000 in
set_option maxRecDepth 100000 in
theorem wm_X25_of (E : gX) (l : Launch) (x0 : Nat) (x1 : Nat) (x2 : Nat) (Gz : GH) (r : Int32) (h : cm_X25_of x0 x1 x2 Gz = some r) : gMetC E l yX25_of cX25_of 3 (some Jvm.ClassFile.FieldType.int) 2 [.ref x0, .ref x1, .ref x2] Gz Gz (some (.int r)) := by
  refine gMetC.of (own := RX25) (by decide +kernel) (Nat.le_of_ble_eq_true rfl) rfl ?_
  intro p e s m args below meth c S hr hk hnm hE hC0 hG hS ls hl
  have hl : lv_has ls 3 [(0, .ref x0), (1, .ref x1), (2, .ref x2)] := hl
  have hx := S.1
  have hb := S.2.1
  unfold cm_X25_of at h
  refine lv_aload_n hx hb dX25_of_0 rfl (lv_at hl 0 rfl) ?_
  obtain ⟨v1, e1, h⟩ := g_bd h
  refine cg_X25_7 dX25_of_1 S hE hG e1 ?_
  exact c_iretR dX25_of_4 S hr hk hC0 hG hS h
theorem hc_X1_measured : cHd yX1_measured 2 := by decide +kernel
set_option maxHeartbeats 4000000 in
set_option maxRecDepth 100000 in
theorem wm_X1_measured (E : gX) (l : Launch) (x0 : Nat) (x1 : Int32) (Gz : GH) (r : Int32) (h : cm_X1_measured x0 x1 Gz = some r) : gMetC E l yX1_measured cX1_measured 3 (some Jvm.ClassFile.FieldType.int) 3 [.ref x0, .int x1] Gz Gz (some (.int r)) := by
  refine gMetC.of (own := RX1) (by decide +kernel) (Nat.le_of_ble_eq_true rfl) rfl ?_
  intro p e s m args below meth c S hr hk hnm hE hC0 hG hS ls hl
  have hl : lv_has ls 3 [(0, .ref x0), (1, .int x1)] := hl
  have hx := S.1
  have hb := S.2.1
  unfold cm_X1_measured at h
  refine lv_iload_n hx hb dX1_measured_0 rfl (lv_at hl 1 rfl) ?_
  by_cases c1_0 : x1 = 0
  · have h := g_it c1_0 h
    refine lv_tableIn (off := 39) (tgt := 40) hx hb dX1_measured_1 (by rw [c1_0]; decide) (by rw [c1_0]; decide) (by rw [c1_0]; rfl) (by decide) ?_
    refine lv_aload_n hx hb dX1_measured_40 rfl (lv_at hl 0 rfl) ?_
    obtain ⟨v41, e41, h⟩ := g_bd h
    refine ci_X1_167 dX1_measured_41 S hE hG e41 ?_
    refine lv_if_eq (tgt := 64) hx hb dX1_measured_44 (by decide) (fun c44 => ?_) (fun c44 => ?_)
    · have h := g_it c44 h
      refine lv_iconst (v := 0) hx hb dX1_measured_64 (by decide) ?_
      exact c_iretR dX1_measured_65 S hr hk hC0 hG hS h
    · have h := g_if c44 h
      refine lv_aload_n hx hb dX1_measured_47 rfl (lv_at hl 0 rfl) ?_
      obtain ⟨u48, e48, h⟩ := g_bd h
      refine ck_X1_167 dX1_measured_48 S hE hG e48 ?_
      refine lv_astore_n (lv' := [(2, .ref x0), (0, .ref x0), (1, .int x1)]) hx hb dX1_measured_51 rfl hl (by decide) rfl (fun ls hl => ?_)
      refine lv_aload_n hx hb dX1_measured_52 rfl (lv_at hl 0 rfl) ?_
      obtain ⟨v53, e53, h⟩ := g_bd h
      refine wd_Turns_spin (rest := []) q1734 dX1_measured_53 S hE hG hS hC0 hl.1 e53 rfl (Nat.le_of_ble_eq_true rfl) (by decide) (fun H locs hG hS => ?_)
      obtain ⟨v58, e58, h⟩ := g_bd h
      refine cg_X1_173 dX1_measured_58 S hE hG e58 ?_
      refine lv_goto (tgt := 65) hx hb dX1_measured_61 (by decide) ?_
      exact c_iretR dX1_measured_65 S hr hk hC0 hG hS h
  have h := g_if c1_0 h
  by_cases c1_1 : x1 = 1
  · have h := g_it c1_1 h
    refine lv_tableIn (off := 65) (tgt := 66) hx hb dX1_measured_1 (by rw [c1_1]; decide) (by rw [c1_1]; decide) (by rw [c1_1]; rfl) (by decide) ?_
    refine lv_aload_n hx hb dX1_measured_66 rfl (lv_at hl 0 rfl) ?_
    obtain ⟨v67, e67, h⟩ := g_bd h
    refine ci_X1_178 dX1_measured_67 S hE hG e67 ?_
    refine lv_if_eq (tgt := 90) hx hb dX1_measured_70 (by decide) (fun c70 => ?_) (fun c70 => ?_)
    · have h := g_it c70 h
      refine lv_iconst (v := 0) hx hb dX1_measured_90 (by decide) ?_
      exact c_iretR dX1_measured_91 S hr hk hC0 hG hS h
    · have h := g_if c70 h
      refine lv_aload_n hx hb dX1_measured_73 rfl (lv_at hl 0 rfl) ?_
      obtain ⟨u74, e74, h⟩ := g_bd h
      refine ck_X1_178 dX1_measured_74 S hE hG e74 ?_
      refine lv_astore_n (lv' := [(2, .ref x0), (0, .ref x0), (1, .int x1)]) hx hb dX1_measured_77 rfl hl (by decide) rfl (fun ls hl => ?_)
      refine lv_aload_n hx hb dX1_measured_78 rfl (lv_at hl 0 rfl) ?_
      obtain ⟨v79, e79, h⟩ := g_bd h
      refine wd_Lifts_hoist (rest := []) q1737 dX1_measured_79 S hE hG hS hC0 hl.1 e79 rfl (Nat.le_of_ble_eq_true rfl) (by decide) (fun H locs hG hS => ?_)
      obtain ⟨v84, e84, h⟩ := g_bd h
      refine cg_X1_184 dX1_measured_84 S hE hG e84 ?_
      refine lv_goto (tgt := 91) hx hb dX1_measured_87 (by decide) ?_
      exact c_iretR dX1_measured_91 S hr hk hC0 hG hS h
  have h := g_if c1_1 h
  by_cases c1_2 : x1 = 2
  · have h := g_it c1_2 h
    refine lv_tableIn (off := 91) (tgt := 92) hx hb dX1_measured_1 (by rw [c1_2]; decide) (by rw [c1_2]; decide) (by rw [c1_2]; rfl) (by decide) ?_
    refine lv_aload_n hx hb dX1_measured_92 rfl (lv_at hl 0 rfl) ?_
    obtain ⟨v93, e93, h⟩ := g_bd h
    refine ci_X1_195 dX1_measured_93 S hE hG e93 ?_
    refine lv_if_eq (tgt := 116) hx hb dX1_measured_96 (by decide) (fun c96 => ?_) (fun c96 => ?_)
    · have h := g_it c96 h
      refine lv_iconst (v := 0) hx hb dX1_measured_116 (by decide) ?_
      exact c_iretR dX1_measured_117 S hr hk hC0 hG hS h
    · have h := g_if c96 h
      refine lv_aload_n hx hb dX1_measured_99 rfl (lv_at hl 0 rfl) ?_
      obtain ⟨u100, e100, h⟩ := g_bd h
      refine ck_X1_195 dX1_measured_100 S hE hG e100 ?_
      refine lv_astore_n (lv' := [(2, .ref x0), (0, .ref x0), (1, .int x1)]) hx hb dX1_measured_103 rfl hl (by decide) rfl (fun ls hl => ?_)
      refine lv_aload_n hx hb dX1_measured_104 rfl (lv_at hl 0 rfl) ?_
      obtain ⟨v105, e105, h⟩ := g_bd h
      refine wd_Seats_bench (rest := []) q1827 dX1_measured_105 S hE hG hS hC0 hl.1 e105 rfl (Nat.le_of_ble_eq_true rfl) (by decide) (fun H locs hG hS => ?_)
      obtain ⟨v110, e110, h⟩ := g_bd h
      refine cg_X1_230 dX1_measured_110 S hE hG e110 ?_
      refine lv_goto (tgt := 117) hx hb dX1_measured_113 (by decide) ?_
      exact c_iretR dX1_measured_117 S hr hk hC0 hG hS h
  have h := g_if c1_2 h
  by_cases c1_3 : x1 = 3
  · have h := g_it c1_3 h
    refine lv_tableIn (off := 117) (tgt := 118) hx hb dX1_measured_1 (by rw [c1_3]; decide) (by rw [c1_3]; decide) (by rw [c1_3]; rfl) (by decide) ?_
    refine lv_aload_n hx hb dX1_measured_118 rfl (lv_at hl 0 rfl) ?_
    obtain ⟨v119, e119, h⟩ := g_bd h
    refine ci_X1_208 dX1_measured_119 S hE hG e119 ?_
    refine lv_if_eq (tgt := 142) hx hb dX1_measured_122 (by decide) (fun c122 => ?_) (fun c122 => ?_)
    · have h := g_it c122 h
      refine lv_iconst (v := 0) hx hb dX1_measured_142 (by decide) ?_
      exact c_iretR dX1_measured_143 S hr hk hC0 hG hS h
    · have h := g_if c122 h
      refine lv_aload_n hx hb dX1_measured_125 rfl (lv_at hl 0 rfl) ?_
      obtain ⟨u126, e126, h⟩ := g_bd h
      refine ck_X1_208 dX1_measured_126 S hE hG e126 ?_
      refine lv_astore_n (lv' := [(2, .ref x0), (0, .ref x0), (1, .int x1)]) hx hb dX1_measured_129 rfl hl (by decide) rfl (fun ls hl => ?_)
      refine lv_aload_n hx hb dX1_measured_130 rfl (lv_at hl 0 rfl) ?_
      obtain ⟨v131, e131, h⟩ := g_bd h
      refine wd_Lamps_light (rest := []) q1769 dX1_measured_131 S hE hG hS hC0 hl.1 e131 rfl (Nat.le_of_ble_eq_true rfl) (by decide) (fun H locs hG hS => ?_)
      obtain ⟨v136, e136, h⟩ := g_bd h
      refine cg_X1_214 dX1_measured_136 S hE hG e136 ?_
      refine lv_goto (tgt := 143) hx hb dX1_measured_139 (by decide) ?_
      exact c_iretR dX1_measured_143 S hr hk hC0 hG hS h
  have h := g_if c1_3 h
  by_cases c1_4 : x1 = 4
  · have h := g_it c1_4 h
    refine lv_tableIn (off := 143) (tgt := 144) hx hb dX1_measured_1 (by rw [c1_4]; decide) (by rw [c1_4]; decide) (by rw [c1_4]; rfl) (by decide) ?_
    refine lv_aload_n hx hb dX1_measured_144 rfl (lv_at hl 0 rfl) ?_
    obtain ⟨v145, e145, h⟩ := g_bd h
    refine ci_X1_219 dX1_measured_145 S hE hG e145 ?_
    refine lv_if_eq (tgt := 168) hx hb dX1_measured_148 (by decide) (fun c148 => ?_) (fun c148 => ?_)
    · have h := g_it c148 h
      refine lv_iconst (v := 0) hx hb dX1_measured_168 (by decide) ?_
      exact c_iretR dX1_measured_169 S hr hk hC0 hG hS h
    · have h := g_if c148 h
      refine lv_aload_n hx hb dX1_measured_151 rfl (lv_at hl 0 rfl) ?_
      obtain ⟨u152, e152, h⟩ := g_bd h
      refine ck_X1_219 dX1_measured_152 S hE hG e152 ?_
      refine lv_astore_n (lv' := [(2, .ref x0), (0, .ref x0), (1, .int x1)]) hx hb dX1_measured_155 rfl hl (by decide) rfl (fun ls hl => ?_)
      refine lv_aload_n hx hb dX1_measured_156 rfl (lv_at hl 0 rfl) ?_
      obtain ⟨v157, e157, h⟩ := g_bd h
      refine wd_Sounds_voice (rest := []) q1798 dX1_measured_157 S hE hG hS hC0 hl.1 e157 rfl (Nat.le_of_ble_eq_true rfl) (by decide) (fun H locs hG hS => ?_)
      obtain ⟨v162, e162, h⟩ := g_bd h
      refine cg_X1_225 dX1_measured_162 S hE hG e162 ?_
      refine lv_goto (tgt := 169) hx hb dX1_measured_165 (by decide) ?_
      exact c_iretR dX1_measured_169 S hr hk hC0 hG hS h
  have h := g_if c1_4 h
  by_cases c1_5 : x1 = 5
  · have h := g_it c1_5 h
    refine lv_tableIn (off := 169) (tgt := 170) hx hb dX1_measured_1 (by rw [c1_5]; decide) (by rw [c1_5]; decide) (by rw [c1_5]; rfl) (by decide) ?_
    refine lv_aload_n hx hb dX1_measured_170 rfl (lv_at hl 0 rfl) ?_
    obtain ⟨v171, e171, h⟩ := g_bd h
    refine cg_X1_151 dX1_measured_171 S hE hG e171 ?_
    exact c_iretR dX1_measured_174 S hr hk hC0 hG hS h
  have h := g_if c1_5 h
  refine lv_tableOut (tgt := 175) hx hb dX1_measured_1 (g_swOut 0 5 (by intro k hk; match k, hk with | 0, _ => exact c1_0 | 1, _ => exact c1_1 | 2, _ => exact c1_2 | 3, _ => exact c1_3 | 4, _ => exact c1_4 | 5, _ => exact c1_5 | k + 6, hk => exact absurd hk (by omega)) (by decide) (by decide)) (by decide) ?_
  refine lv_aload_n hx hb dX1_measured_175 rfl (lv_at hl 0 rfl) ?_
  obtain ⟨v176, e176, h⟩ := g_bd h
  refine ci_X1_195 dX1_measured_176 S hE hG e176 ?_
  refine lv_if_eq (tgt := 199) hx hb dX1_measured_179 (by decide) (fun c179 => ?_) (fun c179 => ?_)
  · have h := g_it c179 h
    refine lv_iconst (v := 0) hx hb dX1_measured_199 (by decide) ?_
    exact c_iretR dX1_measured_200 S hr hk hC0 hG hS h
  · have h := g_if c179 h
    refine lv_aload_n hx hb dX1_measured_182 rfl (lv_at hl 0 rfl) ?_
    obtain ⟨u183, e183, h⟩ := g_bd h
    refine ck_X1_195 dX1_measured_183 S hE hG e183 ?_
    refine lv_astore_n (lv' := [(2, .ref x0), (0, .ref x0), (1, .int x1)]) hx hb dX1_measured_186 rfl hl (by decide) rfl (fun ls hl => ?_)
    refine lv_aload_n hx hb dX1_measured_187 rfl (lv_at hl 0 rfl) ?_
    obtain ⟨v188, e188, h⟩ := g_bd h
    refine wd_Seats_bench (rest := []) q1827 dX1_measured_188 S hE hG hS hC0 hl.1 e188 rfl (Nat.le_of_ble_eq_true rfl) (by decide) (fun H locs hG hS => ?_)
    obtain ⟨v193, e193, h⟩ := g_bd h
    refine cg_X1_233 dX1_measured_193 S hE hG e193 ?_
    refine lv_goto (tgt := 200) hx hb dX1_measured_196 (by decide) ?_
    exact c_iretR dX1_measured_200 S hr hk hC0 hG hS h
theorem hc_X26_of : cHd yX26_of 2 := by decide +kernel
set_option maxHeartbeats 4000000 in
set_option maxRecDepth 100000 in
theorem wm_X26_of (E : gX) (l : Launch) (x0 : Nat) (x1 : Nat) (x2 : Nat) (Gz : GH) (r : Int32) (h : cm_X26_of x0 x1 x2 Gz = some r) : gMetC E l yX26_of cX26_of 3 (some Jvm.ClassFile.FieldType.int) 4 [.ref x0, .ref x1, .ref x2] Gz Gz (some (.int r)) := by
  refine gMetC.of (own := RX26) (by decide +kernel) (Nat.le_of_ble_eq_true rfl) rfl ?_
  intro p e s m args below meth c S hr hk hnm hE hC0 hG hS ls hl
  have hl : lv_has ls 3 [(0, .ref x0), (1, .ref x1), (2, .ref x2)] := hl
  have hx := S.1
  have hb := S.2.1
  have J15 : ∀ (x0 : Nat) (s0 : Option Nat) (H : Heap) (locs : List Loc) (ls : Array Slot), cm_X26_of_J15 x0 s0 Gz = some r → gC E Gz H → va_S (gx_C E) s.heap H locs → lv_has ls 3 [(0, .ref x0)] → WC E p l e (gRm 4 (cBx Gz) (cBs Gz)) s m args below meth c H locs (MQ below (gQ (some (.int r)) (gC E Gz) (gx_C E)) args s (cBx Gz) (cBs Gz) (gx_C E)) (F0 m 15 ls [va_rf s0]) := by
    intro x0 s0 H locs ls h hG hS hl
    unfold cm_X26_of_J15 at h
    refine lv_aload_n hx hb dX26_of_15 rfl (lv_at hl 0 rfl) ?_
    obtain ⟨v16, e16, h⟩ := g_bd h
    refine cg_X26_7 dX26_of_16 S hE hG e16 ?_
    obtain ⟨b19, eb19, h⟩ := g_bd h
    have rb19 : va_rf s0 = .ref b19 := by rw [eb19]; rfl
    (try rw [rb19] at hl)
    (try rw [rb19])
    obtain ⟨v19, e19, h⟩ := g_bd h
    refine c_cSN (y := yX1_measured) (rest := []) dX26_of_19 (lw_nw q2035 rfl) q2036 q119 q2037 hc_X1_measured S hE hG hS hC0 hl.1 rfl (wm_X1_measured E l b19 v16 Gz _ e19) rfl (Nat.le_of_ble_eq_true rfl) ⟨Nat.le_of_ble_eq_true rfl, Nat.le_of_ble_eq_true rfl⟩ (fun H locs hG hS => ?_)
    exact c_iretR dX26_of_22 S hr hk hC0 hG hS h
  unfold cm_X26_of at h
  refine lv_aload_n hx hb dX26_of_0 rfl (lv_at hl 0 rfl) ?_
  obtain ⟨v1, e1, h⟩ := g_bd h
  refine cg_X26_20 dX26_of_1 S hE hG e1 ?_
  refine c_ifnonnull (tgt := 11) hx hb dX26_of_4 (by decide) (fun c4 => ?_) (fun c4 => ?_)
  · have h := g_if c4 h
    refine lv_aload_n hx hb dX26_of_11 rfl (lv_at hl 0 rfl) ?_
    obtain ⟨v12, e12, h⟩ := g_bd h
    refine cg_X26_20 dX26_of_12 S hE hG e12 ?_
    exact J15 x0 v12 _ _ _ h hG hS (lv_sub hl [0] rfl)
  · have h := g_it c4 h
    refine lv_aload_n hx hb dX26_of_7 rfl (lv_at hl 2 rfl) ?_
    refine lv_goto (tgt := 15) hx hb dX26_of_8 (by decide) ?_
    exact J15 x0 (some x2) _ _ _ h hG hS (lv_sub hl [0] rfl)
theorem hc_X27_of : cHd yX27_of 2 := by decide +kernel
set_option maxHeartbeats 4000000 in
set_option maxRecDepth 100000 in
theorem wm_X27_of (E : gX) (l : Launch) (x0 : Nat) (x1 : Nat) (x2 : Nat) (Gz : GH) (r : Int32) (h : cm_X27_of x0 x1 x2 Gz = some r) : gMetC E l yX27_of cX27_of 3 (some Jvm.ClassFile.FieldType.int) 2 [.ref x0, .ref x1, .ref x2] Gz Gz (some (.int r)) := by
  refine gMetC.of (own := RX27) (by decide +kernel) (Nat.le_of_ble_eq_true rfl) rfl ?_
  intro p e s m args below meth c S hr hk hnm hE hC0 hG hS ls hl
  have hl : lv_has ls 3 [(0, .ref x0), (1, .ref x1), (2, .ref x2)] := hl
  have hx := S.1
  have hb := S.2.1
  unfold cm_X27_of at h
  refine lv_aload_n hx hb dX27_of_0 rfl (lv_at hl 2 rfl) ?_
  obtain ⟨v1, e1, h⟩ := g_bd h
  refine cg_X27_13 dX27_of_1 S hE hG e1 ?_
  obtain ⟨v4, e4, h⟩ := g_bd h
  refine cg_X27_19 dX27_of_4 S hE hG e4 ?_
  refine lv_aload_n hx hb dX27_of_7 rfl (lv_at hl 0 rfl) ?_
  obtain ⟨v8, e8, h⟩ := g_bd h
  refine cg_X27_7 dX27_of_8 S hE hG e8 ?_
  obtain ⟨v11, e11, h⟩ := g_bd h
  refine c_aldI dX27_of_11 S hE hG e11 ?_
  exact c_iretR dX27_of_12 S hr hk hC0 hG hS h
theorem hc_X28_of : cHd yX28_of 2 := by decide +kernel
set_option maxHeartbeats 4000000 in
set_option maxRecDepth 100000 in
theorem wm_X28_of (E : gX) (l : Launch) (x0 : Nat) (x1 : Nat) (x2 : Nat) (Gz : GH) (r : Int32) (h : cm_X28_of x0 x1 x2 Gz = some r) : gMetC E l yX28_of cX28_of 3 (some Jvm.ClassFile.FieldType.int) 2 [.ref x0, .ref x1, .ref x2] Gz Gz (some (.int r)) := by
  refine gMetC.of (own := RX28) (by decide +kernel) (Nat.le_of_ble_eq_true rfl) rfl ?_
  intro p e s m args below meth c S hr hk hnm hE hC0 hG hS ls hl
  have hl : lv_has ls 3 [(0, .ref x0), (1, .ref x1), (2, .ref x2)] := hl
  have hx := S.1
  have hb := S.2.1
  unfold cm_X28_of at h
  refine lv_aload_n hx hb dX28_of_0 rfl (lv_at hl 0 rfl) ?_
  obtain ⟨v1, e1, h⟩ := g_bd h
  refine cg_X28_7 dX28_of_1 S hE hG e1 ?_
  refine lv_if_ne (tgt := 17) hx hb dX28_of_4 (by decide) (fun c4 => ?_) (fun c4 => ?_)
  · have h := g_if c4 h
    refine lv_aload_n hx hb dX28_of_17 rfl (lv_at hl 0 rfl) ?_
    obtain ⟨v18, e18, h⟩ := g_bd h
    refine cg_X28_7 dX28_of_18 S hE hG e18 ?_
    refine lv_iconst (v := 1) hx hb dX28_of_21 (by decide) ?_
    refine lv_icmp_ne (tgt := 32) hx hb dX28_of_22 (by decide) (fun c22 => ?_) (fun c22 => ?_)
    · have h := g_if c22 h
      refine lv_aload_n hx hb dX28_of_32 rfl (lv_at hl 1 rfl) ?_
      obtain ⟨v33, e33, h⟩ := g_bd h
      refine cg_X28_29 dX28_of_33 S hE hG e33 ?_
      exact c_iretR dX28_of_36 S hr hk hC0 hG hS h
    · have h := g_it c22 h
      refine lv_aload_n hx hb dX28_of_25 rfl (lv_at hl 1 rfl) ?_
      obtain ⟨v26, e26, h⟩ := g_bd h
      refine cg_X28_24 dX28_of_26 S hE hG e26 ?_
      refine lv_goto (tgt := 36) hx hb dX28_of_29 (by decide) ?_
      exact c_iretR dX28_of_36 S hr hk hC0 hG hS h
  · have h := g_it c4 h
    refine lv_aload_n hx hb dX28_of_7 rfl (lv_at hl 2 rfl) ?_
    obtain ⟨v8, e8, h⟩ := g_bd h
    refine cg_X28_13 dX28_of_8 S hE hG e8 ?_
    obtain ⟨v11, e11, h⟩ := g_bd h
    refine cg_X28_19 dX28_of_11 S hE hG e11 ?_
    refine lv_goto (tgt := 36) hx hb dX28_of_14 (by decide) ?_
    exact c_iretR dX28_of_36 S hr hk hC0 hG hS h
section DSP
variable {p : Program} {l : Launch} {e : Env} {R : Room} {s : State} {m : MethodId} {args : Array Value} {below : List Frame} {meth : Method} {c : Code} {H : Heap} {locs : List Loc} {cells slots : Nat} {Q : State → Prop}
variable {cc : ByteArray} {pc nL lev0 : Nat} {ls : Array Slot} {rest st : List Value} {E : gX} {G Gz G1 : GH}
theorem hx_Expr_of : cHd ⟨"FairHouse$Exp\x72", "of", "(LFairHouse;LFairHouse$Ride;)I"⟩ 2 := by decide +kernel
set_option maxHeartbeats 4000000 in
set_option maxRecDepth 100000 in
theorem wd_Expr_of (d : Nat) (ihd : (∀ (x0 : Nat) (x1 : Nat) (x2 : Nat) (Gz G' : GH) (r : Int32), (cm_S60 d).1 x0 x1 x2 Gz = some (r, G') → gMetC E l yX24_of cX24_of 3 (some Jvm.ClassFile.FieldType.int) (5 + d) [.ref x0, .ref x1, .ref x2] Gz G' (some (.int r))) ∧ (∀ (x0 : Nat) (x1 : Nat) (x2 : Nat) (Gz G' : GH) (r : Int32), (cm_S60 d).2 x0 x1 x2 Gz = some (r, G') → gMetC E l yX29_of cX29_of 7 (some Jvm.ClassFile.FieldType.int) (5 + d) [.ref x0, .ref x1, .ref x2] Gz G' (some (.int r)))) {own : String} {a idx : Nat} {y0 : Nat} {y1 : Nat} {r : Int32} (w1 : Cond.methodLink own idx ⟨"FairHouse$Exp\x72", "of", "(LFairHouse;LFairHouse$Ride;)I"⟩ ∈ lw_all) (hdg : decode cc pc = .ok (.invokevirtual idx, 3)) (S : CallFix p m c cc nL s args lw_all own) (hE : gEnv E s) (hG : gC E G H) (hS : va_S (gx_C E) s.heap H locs) (hC0 : gC E Gz s.heap) (hls : ls.size = nL) (h : cd_Expr_of (cm_S60 d) a y0 y1 G = some (r, G1)) (hst : st = [.ref y1, .ref y0] ++ .ref a :: rest) (hW : (rest.map fun v => v.category).sum ≤ 8) (hroom : (5 + d) + 1 ≤ lev0)
    (kk : ∀ (H1 : Heap) (locs1 : List Loc), gC E G1 H1 → va_S (gx_C E) s.heap H1 locs1 → WC E p l e (gRm lev0 (cBx Gz) (cBs Gz)) s m args below meth c H1 locs1 Q (F0 m (pc + 3) ls (.int r :: rest))) : WC E p l e (gRm lev0 (cBx Gz) (cBs Gz)) s m args below meth c H locs Q (F0 m pc ls st) := by
  unfold cd_Expr_of at h
  by_cases c30 : cT G a = 30
  · have h := g_it c30 h
    exact c_cA (y := yX24_of) (x := ⟨"FairHouse$Exp\x72", "of", "(LFairHouse;LFairHouse$Ride;)I"⟩) (owner := "FairHouse$Exp\x72") (As := [.ref y0, .ref y1]) hdg (lw_app (by intro w hw; simp only [List.mem_cons, List.not_mem_nil, or_false] at hw; rcases hw with e | e | e | e | e <;> rw [e] <;> first | exact w1 | exact q2021 | exact q2043 | exact q2028 | exact q166) (lw_meth q2029)) (lw_nw q2020 rfl) hx_Expr_of S hE hG hS hC0 hls rfl (c_recv hE hG (ci := 29) rfl (by decide) c30) (ihd.1 a y0 y1 G G1 _ h) hst hW ⟨by omega, by omega⟩ (fun H1 locs1 h1 h2 => kk H1 locs1 h1 h2)
  have h := g_if c30 h
  by_cases c31 : cT G a = 31
  · have h := g_it c31 h
    obtain ⟨r9, h9, e9⟩ := Option.map_eq_some_iff.mp h
    cases e9
    exact c_cA (y := yX25_of) (x := ⟨"FairHouse$Exp\x72", "of", "(LFairHouse;LFairHouse$Ride;)I"⟩) (owner := "FairHouse$Exp\x72") (As := [.ref y0, .ref y1]) hdg (lw_app (by intro w hw; simp only [List.mem_cons, List.not_mem_nil, or_false] at hw; rcases hw with e | e | e | e | e <;> rw [e] <;> first | exact w1 | exact q2021 | exact q2044 | exact q2031 | exact q167) (lw_meth q2032)) (lw_nw q2020 rfl) hx_Expr_of S hE hG hS hC0 hls rfl (c_recv hE hG (ci := 30) rfl (by decide) c31) (wm_X25_of E l a y0 y1 G _ h9) hst hW ⟨by omega, by omega⟩ (fun H1 locs1 h1 h2 => kk H1 locs1 h1 h2)
  have h := g_if c31 h
  by_cases c32 : cT G a = 32
  · have h := g_it c32 h
    obtain ⟨r9, h9, e9⟩ := Option.map_eq_some_iff.mp h
    cases e9
    exact c_cA (y := yX26_of) (x := ⟨"FairHouse$Exp\x72", "of", "(LFairHouse;LFairHouse$Ride;)I"⟩) (owner := "FairHouse$Exp\x72") (As := [.ref y0, .ref y1]) hdg (lw_app (by intro w hw; simp only [List.mem_cons, List.not_mem_nil, or_false] at hw; rcases hw with e | e | e | e | e <;> rw [e] <;> first | exact w1 | exact q2021 | exact q2045 | exact q2033 | exact q168) (lw_meth q2034)) (lw_nw q2020 rfl) hx_Expr_of S hE hG hS hC0 hls rfl (c_recv hE hG (ci := 31) rfl (by decide) c32) (wm_X26_of E l a y0 y1 G _ h9) hst hW ⟨by omega, by omega⟩ (fun H1 locs1 h1 h2 => kk H1 locs1 h1 h2)
  have h := g_if c32 h
  by_cases c33 : cT G a = 33
  · have h := g_it c33 h
    obtain ⟨r9, h9, e9⟩ := Option.map_eq_some_iff.mp h
    cases e9
    exact c_cA (y := yX27_of) (x := ⟨"FairHouse$Exp\x72", "of", "(LFairHouse;LFairHouse$Ride;)I"⟩) (owner := "FairHouse$Exp\x72") (As := [.ref y0, .ref y1]) hdg (lw_app (by intro w hw; simp only [List.mem_cons, List.not_mem_nil, or_false] at hw; rcases hw with e | e | e | e | e <;> rw [e] <;> first | exact w1 | exact q2021 | exact q2046 | exact q2038 | exact q169) (lw_meth q2039)) (lw_nw q2020 rfl) hx_Expr_of S hE hG hS hC0 hls rfl (c_recv hE hG (ci := 32) rfl (by decide) c33) (wm_X27_of E l a y0 y1 G _ h9) hst hW ⟨by omega, by omega⟩ (fun H1 locs1 h1 h2 => kk H1 locs1 h1 h2)
  have h := g_if c33 h
  by_cases c34 : cT G a = 34
  · have h := g_it c34 h
    obtain ⟨r9, h9, e9⟩ := Option.map_eq_some_iff.mp h
    cases e9
    exact c_cA (y := yX28_of) (x := ⟨"FairHouse$Exp\x72", "of", "(LFairHouse;LFairHouse$Ride;)I"⟩) (owner := "FairHouse$Exp\x72") (As := [.ref y0, .ref y1]) hdg (lw_app (by intro w hw; simp only [List.mem_cons, List.not_mem_nil, or_false] at hw; rcases hw with e | e | e | e | e <;> rw [e] <;> first | exact w1 | exact q2021 | exact q2042 | exact q2026 | exact q170) (lw_meth q2027)) (lw_nw q2020 rfl) hx_Expr_of S hE hG hS hC0 hls rfl (c_recv hE hG (ci := 33) rfl (by decide) c34) (wm_X28_of E l a y0 y1 G _ h9) hst hW ⟨by omega, by omega⟩ (fun H1 locs1 h1 h2 => kk H1 locs1 h1 h2)
  have h := g_if c34 h
  by_cases c35 : cT G a = 35
  · have h := g_it c35 h
    exact c_cA (y := yX29_of) (x := ⟨"FairHouse$Exp\x72", "of", "(LFairHouse;LFairHouse$Ride;)I"⟩) (owner := "FairHouse$Exp\x72") (As := [.ref y0, .ref y1]) hdg (lw_app (by intro w hw; simp only [List.mem_cons, List.not_mem_nil, or_false] at hw; rcases hw with e | e | e | e | e <;> rw [e] <;> first | exact w1 | exact q2021 | exact q2022 | exact q2023 | exact q171) (lw_meth q2024)) (lw_nw q2020 rfl) hx_Expr_of S hE hG hS hC0 hls rfl (c_recv hE hG (ci := 34) rfl (by decide) c35) (ihd.2 a y0 y1 G G1 _ h) hst hW ⟨by omega, by omega⟩ (fun H1 locs1 h1 h2 => kk H1 locs1 h1 h2)
  have h := g_if c35 h
  cases h
end DSP
theorem hc_X24_of : cHd yX24_of 2 := by decide +kernel
theorem hc_X29_of : cHd yX29_of 2 := by decide +kernel
set_option maxHeartbeats 4000000 in
set_option maxRecDepth 100000 in
theorem wm_S60 (E : gX) (l : Launch) : ∀ d : Nat, (∀ (x0 : Nat) (x1 : Nat) (x2 : Nat) (Gz G' : GH) (r : Int32), (cm_S60 d).1 x0 x1 x2 Gz = some (r, G') → gMetC E l yX24_of cX24_of 3 (some Jvm.ClassFile.FieldType.int) (5 + d) [.ref x0, .ref x1, .ref x2] Gz G' (some (.int r))) ∧ (∀ (x0 : Nat) (x1 : Nat) (x2 : Nat) (Gz G' : GH) (r : Int32), (cm_S60 d).2 x0 x1 x2 Gz = some (r, G') → gMetC E l yX29_of cX29_of 7 (some Jvm.ClassFile.FieldType.int) (5 + d) [.ref x0, .ref x1, .ref x2] Gz G' (some (.int r))) := by
  intro d
  induction d with
  | zero =>
    exact ⟨fun _ _ _ _ _ _ h => (nomatch (show (none : Option (Int32 × GH)) = some _ from h)), fun _ _ _ _ _ _ h => (nomatch (show (none : Option (Int32 × GH)) = some _ from h))⟩
  | succ d ihd =>
    refine ⟨?_, ?_⟩
    · intro x0 x1 x2 Gz G' r h
      refine gMetC.of (own := RX24) (by decide +kernel) (Nat.le_of_ble_eq_true rfl) rfl ?_
      intro p e s m args below meth c S hr hk hnm hE hC0 hG hS ls hl
      have hl : lv_has ls 3 [(0, .ref x0), (1, .ref x1), (2, .ref x2)] := hl
      have hx := S.1
      have hb := S.2.1
      have h : cm_X24_of_B (cm_S60 d) x0 x1 x2 Gz = some (r, G') := h
      unfold cm_X24_of_B at h
      refine lv_aload_n hx hb dX24_of_0 rfl (lv_at hl 0 rfl) ?_
      obtain ⟨v1, e1, h⟩ := g_bd h
      refine cg_X24_7 dX24_of_1 S hE hG e1 ?_
      refine lv_aload_n hx hb dX24_of_4 rfl (lv_at hl 1 rfl) ?_
      refine lv_aload_n hx hb dX24_of_5 rfl (lv_at hl 2 rfl) ?_
      obtain ⟨qx6, e6, h⟩ := g_bd h
      refine wd_Expr_of d ihd (rest := []) q2030 dX24_of_6 S hE hG hS hC0 hl.1 e6 rfl (Nat.le_of_ble_eq_true rfl) (by omega) (fun H locs hG hS => ?_)
      refine lv_ineg hx hb dX24_of_9 ?_
      exact c_iretW dX24_of_10 S hr hk hC0 hG hS h
    · intro x0 x1 x2 Gz G' r h
      refine gMetC.of (own := RX29) (by decide +kernel) (Nat.le_of_ble_eq_true rfl) rfl ?_
      intro p e s m args below meth c S hr hk hnm hE hC0 hG hS ls hl
      have hl : lv_has ls 7 [(0, .ref x0), (1, .ref x1), (2, .ref x2)] := hl
      have hx := S.1
      have hb := S.2.1
      have L13 : ∀ (n : Nat) (x0 : Nat) (x1 : Nat) (x2 : Nat) (x3 : Int32) (x4 : Int32) (G : GH) (H : Heap) (locs : List Loc) (ls : Array Slot), cm_X29_of_L13 (cm_S60 d) n x0 x1 x2 x3 x4 G = some (r, G') → gC E G H → va_S (gx_C E) s.heap H locs → lv_has ls 7 [(0, .ref x0), (1, .ref x1), (2, .ref x2), (3, .int x3), (4, .int x4)] → WC E p l e (gRm (5 + (d + 1)) (cBx Gz) (cBs Gz)) s m args below meth c H locs (MQ below (gQ (some (.int r)) (gC E G') (gx_C E)) args s (cBx Gz) (cBs Gz) (gx_C E)) (F0 m 13 ls []) := by
        intro n13
        induction n13 with
        | zero =>
          intro x0 x1 x2 x3 x4 G H locs ls h
          cases h
        | succ n13 ih13 =>
          have J138 : ∀ (x0 : Nat) (x1 : Nat) (x2 : Nat) (x3 : Int32) (x4 : Int32) (G : GH) (H : Heap) (locs : List Loc) (ls : Array Slot), cm_X29_of_J138 (cm_S60 d) (cm_X29_of_L13 (cm_S60 d) n13) x0 x1 x2 x3 x4 G = some (r, G') → gC E G H → va_S (gx_C E) s.heap H locs → lv_has ls 7 [(0, .ref x0), (1, .ref x1), (2, .ref x2), (3, .int x3), (4, .int x4)] → WC E p l e (gRm (5 + (d + 1)) (cBx Gz) (cBs Gz)) s m args below meth c H locs (MQ below (gQ (some (.int r)) (gC E G') (gx_C E)) args s (cBx Gz) (cBs Gz) (gx_C E)) (F0 m 138 ls []) := by
            intro x0 x1 x2 x3 x4 G H locs ls h hG hS hl
            unfold cm_X29_of_J138 at h
            refine lv_iinc (k := 4) (v := (x4 + 1)) (lv' := [(4, .int (x4 + 1)), (0, .ref x0), (1, .ref x1), (2, .ref x2), (3, .int x3)]) hx hb dX29_of_138 hl rfl rfl (by decide) rfl (fun ls hl => ?_)
            refine lv_goto (tgt := 13) hx hb dX29_of_141 (by decide) ?_
            exact ih13 x0 x1 x2 x3 (x4 + 1) G _ _ _ h hG hS (lv_sub hl [1, 2, 3, 4, 0] rfl)
          have J137 : ∀ (x0 : Nat) (x1 : Nat) (x2 : Nat) (x4 : Int32) (s0 : Int32) (G : GH) (H : Heap) (locs : List Loc) (ls : Array Slot), cm_X29_of_J137 (cm_S60 d) (cm_X29_of_L13 (cm_S60 d) n13) x0 x1 x2 x4 s0 G = some (r, G') → gC E G H → va_S (gx_C E) s.heap H locs → lv_has ls 7 [(0, .ref x0), (1, .ref x1), (2, .ref x2), (4, .int x4)] → WC E p l e (gRm (5 + (d + 1)) (cBx Gz) (cBs Gz)) s m args below meth c H locs (MQ below (gQ (some (.int r)) (gC E G') (gx_C E)) args s (cBx Gz) (cBs Gz) (gx_C E)) (F0 m 137 ls [.int s0]) := by
            intro x0 x1 x2 x4 s0 G H locs ls h hG hS hl
            unfold cm_X29_of_J137 at h
            refine lv_istore_n (lv' := [(3, .int s0), (0, .ref x0), (1, .ref x1), (2, .ref x2), (4, .int x4)]) hx hb dX29_of_137 rfl hl (by decide) rfl (fun ls hl => ?_)
            exact J138 x0 x1 x2 s0 x4 G _ _ _ h hG hS (lv_sub hl [1, 2, 3, 0, 4] rfl)
          have J91 : ∀ (x0 : Nat) (x1 : Nat) (x2 : Nat) (x3 : Int32) (x4 : Int32) (x5 : Int32) (x6 : Int32) (G : GH) (H : Heap) (locs : List Loc) (ls : Array Slot), cm_X29_of_J91 (cm_S60 d) (cm_X29_of_L13 (cm_S60 d) n13) x0 x1 x2 x3 x4 x5 x6 G = some (r, G') → gC E G H → va_S (gx_C E) s.heap H locs → lv_has ls 7 [(0, .ref x0), (1, .ref x1), (2, .ref x2), (3, .int x3), (4, .int x4), (5, .int x5), (6, .int x6)] → WC E p l e (gRm (5 + (d + 1)) (cBx Gz) (cBs Gz)) s m args below meth c H locs (MQ below (gQ (some (.int r)) (gC E G') (gx_C E)) args s (cBx Gz) (cBs Gz) (gx_C E)) (F0 m 91 ls []) := by
            intro x0 x1 x2 x3 x4 x5 x6 G H locs ls h hG hS hl
            unfold cm_X29_of_J91 at h
            refine lv_iload hx hb dX29_of_91 (lv_at hl 6 rfl) ?_
            refine lv_bipush (v := 43) hx hb dX29_of_93 (by decide) ?_
            refine lv_icmp_ne (tgt := 105) hx hb dX29_of_95 (by decide) (fun c95 => ?_) (fun c95 => ?_)
            · have h := g_if c95 h
              refine lv_iload hx hb dX29_of_105 (lv_at hl 6 rfl) ?_
              refine lv_bipush (v := 45) hx hb dX29_of_107 (by decide) ?_
              refine lv_icmp_ne (tgt := 119) hx hb dX29_of_109 (by decide) (fun c109 => ?_) (fun c109 => ?_)
              · have h := g_if c109 h
                refine lv_iload hx hb dX29_of_119 (lv_at hl 6 rfl) ?_
                refine lv_bipush (v := 42) hx hb dX29_of_121 (by decide) ?_
                refine lv_icmp_ne (tgt := 133) hx hb dX29_of_123 (by decide) (fun c123 => ?_) (fun c123 => ?_)
                · have h := g_if c123 h
                  refine lv_iload_n hx hb dX29_of_133 rfl (lv_at hl 3 rfl) ?_
                  refine lv_iload hx hb dX29_of_134 (lv_at hl 5 rfl) ?_
                  obtain ⟨v136, e136, h⟩ := g_bd h
                  refine m_div hx hb dX29_of_136 e136 ?_
                  exact J137 x0 x1 x2 x4 v136 G _ _ _ h hG hS (lv_sub hl [0, 1, 2, 4] rfl)
                · have h := g_it c123 h
                  refine lv_iload_n hx hb dX29_of_126 rfl (lv_at hl 3 rfl) ?_
                  refine lv_iload hx hb dX29_of_127 (lv_at hl 5 rfl) ?_
                  refine lv_imul hx hb dX29_of_129 ?_
                  refine lv_goto (tgt := 137) hx hb dX29_of_130 (by decide) ?_
                  exact J137 x0 x1 x2 x4 (x3 * x5) G _ _ _ h hG hS (lv_sub hl [0, 1, 2, 4] rfl)
              · have h := g_it c109 h
                refine lv_iload_n hx hb dX29_of_112 rfl (lv_at hl 3 rfl) ?_
                refine lv_iload hx hb dX29_of_113 (lv_at hl 5 rfl) ?_
                refine lv_isub hx hb dX29_of_115 ?_
                refine lv_goto (tgt := 137) hx hb dX29_of_116 (by decide) ?_
                exact J137 x0 x1 x2 x4 (x3 - x5) G _ _ _ h hG hS (lv_sub hl [0, 1, 2, 4] rfl)
            · have h := g_it c95 h
              refine lv_iload_n hx hb dX29_of_98 rfl (lv_at hl 3 rfl) ?_
              refine lv_iload hx hb dX29_of_99 (lv_at hl 5 rfl) ?_
              refine lv_iadd hx hb dX29_of_101 ?_
              refine lv_goto (tgt := 137) hx hb dX29_of_102 (by decide) ?_
              exact J137 x0 x1 x2 x4 (x3 + x5) G _ _ _ h hG hS (lv_sub hl [0, 1, 2, 4] rfl)
          intro x0 x1 x2 x3 x4 G H locs ls h hG hS hl
          have h : cm_X29_of_B13 (cm_S60 d) (cm_X29_of_L13 (cm_S60 d) n13) x0 x1 x2 x3 x4 G = some (r, G') := h
          unfold cm_X29_of_B13 at h
          refine lv_iload hx hb dX29_of_13 (lv_at hl 4 rfl) ?_
          refine lv_aload_n hx hb dX29_of_15 rfl (lv_at hl 0 rfl) ?_
          obtain ⟨v16, e16, h⟩ := g_bd h
          refine cg_X29_14 dX29_of_16 S hE hG e16 ?_
          obtain ⟨u19, t19, h⟩ := g_bd h
          obtain ⟨v19, e19, h⟩ := g_bd h
          refine c_cV (y := yJ6_size) (rest := [.int x4]) dX29_of_19 q1625 q882 q883 q128 q884 hc_J6_size rfl S hE hG hS hC0 hl.1 rfl (c_recv hE hG (ci := 2) rfl (by decide) (c_castM t19)) (wm_J6_size E l v16 G _ e19) rfl (Nat.le_of_ble_eq_true rfl) ⟨by omega, by omega⟩ (fun H locs hG hS => ?_)
          refine lv_icmp_ge (tgt := 144) hx hb dX29_of_22 (by decide) (fun c22 => ?_) (fun c22 => ?_)
          · have h := g_it c22 h
            refine lv_iload_n hx hb dX29_of_144 rfl (lv_at hl 3 rfl) ?_
            exact c_iretW dX29_of_145 S hr hk hC0 hG hS h
          · have h := g_if c22 h
            refine lv_aload_n hx hb dX29_of_25 rfl (lv_at hl 1 rfl) ?_
            obtain ⟨v26, e26, h⟩ := g_bd h
            refine cg_X29_46 dX29_of_26 S hE hG e26 ?_
            refine lv_if_ne (tgt := 144) hx hb dX29_of_29 (by decide) (fun c29 => ?_) (fun c29 => ?_)
            · have h := g_if c29 h
              refine lv_iload_n hx hb dX29_of_144 rfl (lv_at hl 3 rfl) ?_
              exact c_iretW dX29_of_145 S hr hk hC0 hG hS h
            · have h := g_it c29 h
              refine lv_aload_n hx hb dX29_of_32 rfl (lv_at hl 0 rfl) ?_
              obtain ⟨v33, e33, h⟩ := g_bd h
              refine cg_X29_14 dX29_of_33 S hE hG e33 ?_
              refine lv_iload hx hb dX29_of_36 (lv_at hl 4 rfl) ?_
              obtain ⟨u38, t38, h⟩ := g_bd h
              obtain ⟨v38, e38, h⟩ := g_bd h
              refine c_cV (y := yJ6_get) (rest := []) dX29_of_38 q2040 q886 q887 q128 q888 hc_J6_get rfl S hE hG hS hC0 hl.1 rfl (c_recv hE hG (ci := 2) rfl (by decide) (c_castM t38)) (wm_J6_get E l v33 x4 G _ e38) rfl (Nat.le_of_ble_eq_true rfl) ⟨by omega, by omega⟩ (fun H locs hG hS => ?_)
              obtain ⟨b41, eb41, h⟩ := g_bd h
              have rb41 : va_rf v38 = .ref b41 := by rw [eb41]; rfl
              (try rw [rb41] at hl)
              (try rw [rb41])
              obtain ⟨u41, e41, h⟩ := g_bd h
              refine ck_X29_4 dX29_of_41 S hE hG e41 ?_
              refine lv_aload_n hx hb dX29_of_44 rfl (lv_at hl 1 rfl) ?_
              refine lv_aload_n hx hb dX29_of_45 rfl (lv_at hl 2 rfl) ?_
              obtain ⟨qx46, e46, h⟩ := g_bd h
              refine wd_Expr_of d ihd (rest := []) q2025 dX29_of_46 S hE hG hS hC0 hl.1 e46 rfl (Nat.le_of_ble_eq_true rfl) (by omega) (fun H locs hG hS => ?_)
              refine lv_istore (lv' := [(5, .int qx46.1), (0, .ref x0), (1, .ref x1), (2, .ref x2), (3, .int x3), (4, .int x4)]) hx hb dX29_of_49 hl (by decide) rfl (fun ls hl => ?_)
              refine lv_aload_n hx hb dX29_of_51 rfl (lv_at hl 2 rfl) ?_
              obtain ⟨v52, e52, h⟩ := g_bd h
              refine cg_X29_46 dX29_of_52 S hE hG e52 ?_
              refine lv_if_eq (tgt := 61) hx hb dX29_of_55 (by decide) (fun c55 => ?_) (fun c55 => ?_)
              · have h := g_it c55 h
                refine lv_aload_n hx hb dX29_of_61 rfl (lv_at hl 1 rfl) ?_
                obtain ⟨v62, e62, h⟩ := g_bd h
                refine cg_X29_20 dX29_of_62 S hE hG e62 ?_
                refine lv_iload hx hb dX29_of_65 (lv_at hl 5 rfl) ?_
                obtain ⟨v67, e67, h⟩ := g_bd h
                refine c_aldB dX29_of_67 S hE hG e67 ?_
                refine lv_istore (lv' := [(6, .int v67), (5, .int qx46.1), (0, .ref x0), (1, .ref x1), (2, .ref x2), (3, .int x3), (4, .int x4)]) hx hb dX29_of_68 hl (by decide) rfl (fun ls hl => ?_)
                refine lv_iload hx hb dX29_of_70 (lv_at hl 0 rfl) ?_
                refine lv_bipush (v := 47) hx hb dX29_of_72 (by decide) ?_
                refine lv_icmp_ne (tgt := 91) hx hb dX29_of_74 (by decide) (fun c74 => ?_) (fun c74 => ?_)
                · have h := g_if c74 h
                  exact J91 x0 x1 x2 x3 x4 qx46.1 v67 qx46.2 _ _ _ h hG hS (lv_sub hl [2, 3, 4, 5, 6, 1, 0] rfl)
                · have h := g_it c74 h
                  refine lv_iload hx hb dX29_of_77 (lv_at hl 1 rfl) ?_
                  refine lv_if_ne (tgt := 91) hx hb dX29_of_79 (by decide) (fun c79 => ?_) (fun c79 => ?_)
                  · have h := g_if c79 h
                    exact J91 x0 x1 x2 x3 x4 qx46.1 v67 qx46.2 _ _ _ h hG hS (lv_sub hl [2, 3, 4, 5, 6, 1, 0] rfl)
                  · have h := g_it c79 h
                    refine lv_aload_n hx hb dX29_of_82 rfl (lv_at hl 3 rfl) ?_
                    refine lv_bipush (v := 6) hx hb dX29_of_83 (by decide) ?_
                    obtain ⟨G85, e85, h⟩ := g_bd h
                    refine cp_X29_46 dX29_of_85 S hE hG hS hC0 e85 (fun H locs hG hS => ?_)
                    refine lv_goto (tgt := 138) hx hb dX29_of_88 (by decide) ?_
                    exact J138 x0 x1 x2 x3 x4 G85 _ _ _ h hG hS (lv_sub hl [2, 3, 4, 5, 6] rfl)
              · have h := g_if c55 h
                refine lv_goto (tgt := 144) hx hb dX29_of_58 (by decide) ?_
                refine lv_iload_n hx hb dX29_of_144 rfl (lv_at hl 4 rfl) ?_
                exact c_iretW dX29_of_145 S hr hk hC0 hG hS h
      have h : cm_X29_of_B (cm_S60 d) x0 x1 x2 Gz = some (r, G') := h
      unfold cm_X29_of_B at h
      refine lv_aload_n hx hb dX29_of_0 rfl (lv_at hl 0 rfl) ?_
      obtain ⟨v1, e1, h⟩ := g_bd h
      refine cg_X29_24 dX29_of_1 S hE hG e1 ?_
      refine lv_aload_n hx hb dX29_of_4 rfl (lv_at hl 1 rfl) ?_
      refine lv_aload_n hx hb dX29_of_5 rfl (lv_at hl 2 rfl) ?_
      obtain ⟨qx6, e6, h⟩ := g_bd h
      refine wd_Expr_of d ihd (rest := []) q2025 dX29_of_6 S hE hG hS hC0 hl.1 e6 rfl (Nat.le_of_ble_eq_true rfl) (by omega) (fun H locs hG hS => ?_)
      refine lv_istore_n (lv' := [(3, .int qx6.1), (0, .ref x0), (1, .ref x1), (2, .ref x2)]) hx hb dX29_of_9 rfl hl (by decide) rfl (fun ls hl => ?_)
      refine lv_iconst (v := 0) hx hb dX29_of_10 (by decide) ?_
      refine lv_istore (lv' := [(4, .int 0), (3, .int qx6.1), (0, .ref x0), (1, .ref x1), (2, .ref x2)]) hx hb dX29_of_11 hl (by decide) rfl (fun ls hl => ?_)
      exact L13 gF x0 x1 x2 qx6.1 0 qx6.2 _ _ _ h hG hS (lv_sub hl [2, 3, 4, 1, 0] rfl)
theorem wm_X24_of (E : gX) (l : Launch) (d : Nat) (x0 : Nat) (x1 : Nat) (x2 : Nat) (Gz G' : GH) (r : Int32) (h : cm_X24_of d x0 x1 x2 Gz = some (r, G')) : gMetC E l yX24_of cX24_of 3 (some Jvm.ClassFile.FieldType.int) (5 + d) [.ref x0, .ref x1, .ref x2] Gz G' (some (.int r)) := (wm_S60 E l d).1 x0 x1 x2 Gz G' r h
theorem wm_X29_of (E : gX) (l : Launch) (d : Nat) (x0 : Nat) (x1 : Nat) (x2 : Nat) (Gz G' : GH) (r : Int32) (h : cm_X29_of d x0 x1 x2 Gz = some (r, G')) : gMetC E l yX29_of cX29_of 7 (some Jvm.ClassFile.FieldType.int) (5 + d) [.ref x0, .ref x1, .ref x2] Gz G' (some (.int r)) := (wm_S60 E l d).2 x0 x1 x2 Gz G' r h
theorem hc_X1_shines : cHd yX1_shines 5 := by decide +kernel
set_option maxHeartbeats 4000000 in
set_option maxRecDepth 100000 in
theorem wm_X1_shines (E : gX) (l : Launch) (x0 : Nat) (x1 : Int32) (x2 : Nat) (x3 : Nat) (x4 : Int32) (x5 : Int32) (Gz G' : GH) (r : Int32) (h : cm_X1_shines x0 x1 x2 x3 x4 x5 Gz = some (r, G')) : gMetC E l yX1_shines cX1_shines 7 (some Jvm.ClassFile.FieldType.boolean) 9 [.ref x0, .int x1, .ref x2, .ref x3, .int x4, .int x5] Gz G' (some (.int r)) := by
  refine gMetC.of (own := RX1) (by decide +kernel) (Nat.le_of_ble_eq_true rfl) rfl ?_
  intro p e s m args below meth c S hr hk hnm hE hC0 hG hS ls hl
  have hl : lv_has ls 7 [(0, .ref x0), (1, .int x1), (2, .ref x2), (3, .ref x3), (4, .int x4), (5, .int x5)] := hl
  have hx := S.1
  have hb := S.2.1
  have J70 : ∀ (x0 : Nat) (x1 : Int32) (x3 : Nat) (G : GH) (H : Heap) (locs : List Loc) (ls : Array Slot), cm_X1_shines_J70 x0 x1 x3 G = some (r, G') → gC E G H → va_S (gx_C E) s.heap H locs → lv_has ls 7 [(0, .ref x0), (1, .int x1), (3, .ref x3)] → WC E p l e (gRm 9 (cBx Gz) (cBs Gz)) s m args below meth c H locs (MQ below (gQ (some (.int r)) (gC E G') (gx_C E)) args s (cBx Gz) (cBs Gz) (gx_C E)) (F0 m 70 ls []) := by
    intro x0 x1 x3 G H locs ls h hG hS hl
    unfold cm_X1_shines_J70 at h
    refine lv_aload_n hx hb dX1_shines_70 rfl (lv_at hl 0 rfl) ?_
    refine lv_iload_n hx hb dX1_shines_71 rfl (lv_at hl 1 rfl) ?_
    refine lv_aload_n hx hb dX1_shines_72 rfl (lv_at hl 2 rfl) ?_
    obtain ⟨u73, t73, h⟩ := g_bd h
    obtain ⟨qx73, e73, h⟩ := g_bd h
    refine c_cV (y := yX1_done) (rest := []) dX1_shines_73 q2051 q2053 qs48 q119 q2054 hc_X1_done rfl S hE hG hS hC0 hl.1 rfl (c_recv hE hG (ci := 8) rfl (by decide) (c_castM t73)) (wm_X1_done E l x0 x1 x3 G _ _ e73) rfl (Nat.le_of_ble_eq_true rfl) ⟨Nat.le_of_ble_eq_true rfl, Nat.le_of_ble_eq_true rfl⟩ (fun H locs hG hS => ?_)
    exact c_zretW dX1_shines_76 S hr hk hC0 hG hS h
  have J17 : ∀ (x0 : Nat) (x1 : Int32) (x2 : Nat) (x3 : Nat) (x4 : Int32) (x5 : Int32) (G : GH) (H : Heap) (locs : List Loc) (ls : Array Slot), cm_X1_shines_J17 x0 x1 x2 x3 x4 x5 G = some (r, G') → gC E G H → va_S (gx_C E) s.heap H locs → lv_has ls 7 [(0, .ref x0), (1, .int x1), (2, .ref x2), (3, .ref x3), (4, .int x4), (5, .int x5)] → WC E p l e (gRm 9 (cBx Gz) (cBs Gz)) s m args below meth c H locs (MQ below (gQ (some (.int r)) (gC E G') (gx_C E)) args s (cBx Gz) (cBs Gz) (gx_C E)) (F0 m 17 ls []) := by
    intro x0 x1 x2 x3 x4 x5 G H locs ls h hG hS hl
    unfold cm_X1_shines_J17 at h
    refine lv_aload_n hx hb dX1_shines_17 rfl (lv_at hl 0 rfl) ?_
    obtain ⟨v18, e18, h⟩ := g_bd h
    refine cg_X1_327 dX1_shines_18 S hE hG e18 ?_
    refine lv_if_eq (tgt := 26) hx hb dX1_shines_21 (by decide) (fun c21 => ?_) (fun c21 => ?_)
    · have h := g_it c21 h
      refine lv_iload hx hb dX1_shines_26 (lv_at hl 4 rfl) ?_
      refine lv_if_eq (tgt := 52) hx hb dX1_shines_28 (by decide) (fun c28 => ?_) (fun c28 => ?_)
      · have h := g_it c28 h
        refine lv_aload_n hx hb dX1_shines_52 rfl (lv_at hl 2 rfl) ?_
        obtain ⟨u53, e53, h⟩ := g_bd h
        refine ck_X1_219 dX1_shines_53 S hE hG e53 ?_
        refine lv_astore (lv' := [(6, .ref x2), (0, .ref x0), (1, .int x1), (2, .ref x2), (3, .ref x3), (4, .int x4), (5, .int x5)]) hx hb dX1_shines_56 hl (by decide) rfl (fun ls hl => ?_)
        refine lv_aload hx hb dX1_shines_58 (lv_at hl 0 rfl) ?_
        obtain ⟨v60, e60, h⟩ := g_bd h
        refine wd_Sounds_voice (rest := []) q1798 dX1_shines_60 S hE hG hS hC0 hl.1 e60 rfl (Nat.le_of_ble_eq_true rfl) (by decide) (fun H locs hG hS => ?_)
        refine lv_iload hx hb dX1_shines_65 (lv_at hl 6 rfl) ?_
        obtain ⟨G67, e67, h⟩ := g_bd h
        refine cp_X1_225 dX1_shines_67 S hE hG hS hC0 e67 (fun H locs hG hS => ?_)
        exact J70 x0 x1 x3 G67 _ _ _ h hG hS (lv_sub hl [1, 2, 4] rfl)
      · have h := g_if c28 h
        refine lv_aload_n hx hb dX1_shines_31 rfl (lv_at hl 2 rfl) ?_
        obtain ⟨u32, e32, h⟩ := g_bd h
        refine ck_X1_208 dX1_shines_32 S hE hG e32 ?_
        refine lv_astore (lv' := [(6, .ref x2), (0, .ref x0), (1, .int x1), (2, .ref x2), (3, .ref x3), (4, .int x4), (5, .int x5)]) hx hb dX1_shines_35 hl (by decide) rfl (fun ls hl => ?_)
        refine lv_aload hx hb dX1_shines_37 (lv_at hl 0 rfl) ?_
        obtain ⟨v39, e39, h⟩ := g_bd h
        refine wd_Lamps_light (rest := []) q1769 dX1_shines_39 S hE hG hS hC0 hl.1 e39 rfl (Nat.le_of_ble_eq_true rfl) (by decide) (fun H locs hG hS => ?_)
        refine lv_iload hx hb dX1_shines_44 (lv_at hl 6 rfl) ?_
        obtain ⟨G46, e46, h⟩ := g_bd h
        refine cp_X1_214 dX1_shines_46 S hE hG hS hC0 e46 (fun H locs hG hS => ?_)
        refine lv_goto (tgt := 70) hx hb dX1_shines_49 (by decide) ?_
        exact J70 x0 x1 x3 G46 _ _ _ h hG hS (lv_sub hl [1, 2, 4] rfl)
    · have h := g_if c21 h
      refine lv_iconst (v := 1) hx hb dX1_shines_24 (by decide) ?_
      exact c_zretW dX1_shines_25 S hr hk hC0 hG hS h
  have J12 : ∀ (x0 : Nat) (x1 : Int32) (x2 : Nat) (x3 : Nat) (x4 : Int32) (x5 : Int32) (G : GH) (H : Heap) (locs : List Loc) (ls : Array Slot), cm_X1_shines_J12 x0 x1 x2 x3 x4 x5 G = some (r, G') → gC E G H → va_S (gx_C E) s.heap H locs → lv_has ls 7 [(0, .ref x0), (1, .int x1), (2, .ref x2), (3, .ref x3), (4, .int x4), (5, .int x5)] → WC E p l e (gRm 9 (cBx Gz) (cBs Gz)) s m args below meth c H locs (MQ below (gQ (some (.int r)) (gC E G') (gx_C E)) args s (cBx Gz) (cBs Gz) (gx_C E)) (F0 m 12 ls []) := by
    intro x0 x1 x2 x3 x4 x5 G H locs ls h hG hS hl
    unfold cm_X1_shines_J12 at h
    refine lv_aload_n hx hb dX1_shines_12 rfl (lv_at hl 0 rfl) ?_
    refine lv_iconst (v := 2) hx hb dX1_shines_13 (by decide) ?_
    obtain ⟨G14, e14, h⟩ := g_bd h
    refine cp_X1_327 dX1_shines_14 S hE hG hS hC0 e14 (fun H locs hG hS => ?_)
    exact J17 x0 x1 x2 x3 x4 x5 G14 _ _ _ h hG hS (lv_sub hl [0, 1, 2, 3, 4, 5] rfl)
  unfold cm_X1_shines at h
  refine lv_iload hx hb dX1_shines_0 (lv_at hl 5 rfl) ?_
  refine lv_if_lt (tgt := 12) hx hb dX1_shines_2 (by decide) (fun c2 => ?_) (fun c2 => ?_)
  · have h := g_it c2 h
    exact J12 x0 x1 x2 x3 x4 x5 Gz _ _ _ h hG hS (lv_sub hl [0, 1, 2, 3, 4, 5] rfl)
  · have h := g_if c2 h
    refine lv_iload hx hb dX1_shines_5 (lv_at hl 5 rfl) ?_
    refine lv_bipush (v := 100) hx hb dX1_shines_7 (by decide) ?_
    refine lv_icmp_le (tgt := 17) hx hb dX1_shines_9 (by decide) (fun c9 => ?_) (fun c9 => ?_)
    · have h := g_it c9 h
      exact J17 x0 x1 x2 x3 x4 x5 Gz _ _ _ h hG hS (lv_sub hl [0, 1, 2, 3, 4, 5] rfl)
    · have h := g_if c9 h
      exact J12 x0 x1 x2 x3 x4 x5 Gz _ _ _ h hG hS (lv_sub hl [0, 1, 2, 3, 4, 5] rfl)
theorem hc_X34_isStill : cHd yX34_isStill 0 := by decide +kernel
set_option maxHeartbeats 4000000 in
set_option maxRecDepth 100000 in
theorem wm_X34_isStill (E : gX) (l : Launch) (x0 : Nat) (Gz : GH) (r : Int32) (h : cm_X34_isStill x0 Gz = some r) : gMetC E l yX34_isStill cX34_isStill 1 (some Jvm.ClassFile.FieldType.boolean) 3 [.ref x0] Gz Gz (some (.int r)) := by
  refine gMetC.of (own := RX34) (by decide +kernel) (Nat.le_of_ble_eq_true rfl) rfl ?_
  intro p e s m args below meth c S hr hk hnm hE hC0 hG hS ls hl
  have hl : lv_has ls 1 [(0, .ref x0)] := hl
  have hx := S.1
  have hb := S.2.1
  unfold cm_X34_isStill at h
  refine lv_aload_n hx hb dX34_isStill_0 rfl (lv_at hl 0 rfl) ?_
  obtain ⟨v1, e1, h⟩ := g_bd h
  refine wd_Turns_spin (rest := []) q2131 dX34_isStill_1 S hE hG hS hC0 hl.1 e1 rfl (Nat.le_of_ble_eq_true rfl) (by decide) (fun H locs hG hS => ?_)
  obtain ⟨v6, e6, h⟩ := g_bd h
  refine cg_X34_17 dX34_isStill_6 S hE hG e6 ?_
  refine lv_if_ne (tgt := 16) hx hb dX34_isStill_9 (by decide) (fun c9 => ?_) (fun c9 => ?_)
  · have h := g_if c9 h
    refine lv_iconst (v := 0) hx hb dX34_isStill_16 (by decide) ?_
    exact c_zretR dX34_isStill_17 S hr hk hC0 hG hS h
  · have h := g_it c9 h
    refine lv_iconst (v := 1) hx hb dX34_isStill_12 (by decide) ?_
    refine lv_goto (tgt := 17) hx hb dX34_isStill_13 (by decide) ?_
    exact c_zretR dX34_isStill_17 S hr hk hC0 hG hS h
section DSP
variable {p : Program} {l : Launch} {e : Env} {R : Room} {s : State} {m : MethodId} {args : Array Value} {below : List Frame} {meth : Method} {c : Code} {H : Heap} {locs : List Loc} {cells slots : Nat} {Q : State → Prop}
variable {cc : ByteArray} {pc nL lev0 : Nat} {ls : Array Slot} {rest st : List Value} {E : gX} {G Gz G1 : GH}
theorem hx_Turns_isStill : cHd ⟨"FairHouse$Turns", "isStill", "()Z"⟩ 0 := by decide +kernel
set_option maxHeartbeats 4000000 in
set_option maxRecDepth 100000 in
theorem wd_Turns_isStill {own : String} {a idx count : Nat} {r : Int32} (w1 : Cond.methodLink own idx ⟨"FairHouse$Turns", "isStill", "()Z"⟩ ∈ lw_all) (hdg : decode cc pc = .ok (.invokeinterface idx count, 5)) (S : CallFix p m c cc nL s args lw_all own) (hE : gEnv E s) (hG : gC E G H) (hS : va_S (gx_C E) s.heap H locs) (hC0 : gC E Gz s.heap) (hls : ls.size = nL) (h : cd_Turns_isStill a G = some r) (hst : st = [] ++ .ref a :: rest) (hW : (rest.map fun v => v.category).sum ≤ 8) (hroom : 3 + 1 ≤ lev0)
    (kk : ∀ (H1 : Heap) (locs1 : List Loc), gC E G H1 → va_S (gx_C E) s.heap H1 locs1 → WC E p l e (gRm lev0 (cBx Gz) (cBs Gz)) s m args below meth c H1 locs1 Q (F0 m (pc + 5) ls (.int r :: rest))) : WC E p l e (gRm lev0 (cBx Gz) (cBs Gz)) s m args below meth c H locs Q (F0 m pc ls st) := by
  unfold cd_Turns_isStill at h
  by_cases c14 : cT G a = 14
  · have h := g_it c14 h
    exact c_cD (y := yX34_isStill) (As := []) 73 rfl hdg w1 q2127 q3388 q2129 hx_Turns_isStill S hE hG hS hC0 hls rfl (hE.K.1 13 _ rfl).2 (c_recv hE hG (ci := 13) rfl (by decide) c14) (wm_X34_isStill E l a G _ h) hst hW ⟨by omega, by omega⟩ (fun H1 locs1 h1 h2 => kk H1 locs1 h1 h2)
  have h := g_if c14 h
  by_cases c20 : cT G a = 20
  · have h := g_it c20 h
    exact c_cD (y := yX34_isStill) (As := []) 74 rfl hdg w1 q2127 q3388 q2129 hx_Turns_isStill S hE hG hS hC0 hls rfl (hE.K.1 19 _ rfl).2 (c_recv hE hG (ci := 19) rfl (by decide) c20) (wm_X34_isStill E l a G _ h) hst hW ⟨by omega, by omega⟩ (fun H1 locs1 h1 h2 => kk H1 locs1 h1 h2)
  have h := g_if c20 h
  by_cases c21 : cT G a = 21
  · have h := g_it c21 h
    exact c_cD (y := yX34_isStill) (As := []) 75 rfl hdg w1 q2127 q3388 q2129 hx_Turns_isStill S hE hG hS hC0 hls rfl (hE.K.1 20 _ rfl).2 (c_recv hE hG (ci := 20) rfl (by decide) c21) (wm_X34_isStill E l a G _ h) hst hW ⟨by omega, by omega⟩ (fun H1 locs1 h1 h2 => kk H1 locs1 h1 h2)
  have h := g_if c21 h
  by_cases c27 : cT G a = 27
  · have h := g_it c27 h
    exact c_cD (y := yX34_isStill) (As := []) 76 rfl hdg w1 q2127 q3388 q2129 hx_Turns_isStill S hE hG hS hC0 hls rfl (hE.K.1 26 _ rfl).2 (c_recv hE hG (ci := 26) rfl (by decide) c27) (wm_X34_isStill E l a G _ h) hst hW ⟨by omega, by omega⟩ (fun H1 locs1 h1 h2 => kk H1 locs1 h1 h2)
  have h := g_if c27 h
  by_cases c28 : cT G a = 28
  · have h := g_it c28 h
    exact c_cD (y := yX34_isStill) (As := []) 77 rfl hdg w1 q2127 q3388 q2129 hx_Turns_isStill S hE hG hS hC0 hls rfl (hE.K.1 27 _ rfl).2 (c_recv hE hG (ci := 27) rfl (by decide) c28) (wm_X34_isStill E l a G _ h) hst hW ⟨by omega, by omega⟩ (fun H1 locs1 h1 h2 => kk H1 locs1 h1 h2)
  have h := g_if c28 h
  cases h
end DSP
theorem hc_X34_isCalm : cHd yX34_isCalm 0 := by decide +kernel
set_option maxHeartbeats 4000000 in
set_option maxRecDepth 100000 in
theorem wm_X34_isCalm (E : gX) (l : Launch) (x0 : Nat) (Gz : GH) (r : Int32) (h : cm_X34_isCalm x0 Gz = some r) : gMetC E l yX34_isCalm cX34_isCalm 1 (some Jvm.ClassFile.FieldType.boolean) 4 [.ref x0] Gz Gz (some (.int r)) := by
  refine gMetC.of (own := RX34) (by decide +kernel) (Nat.le_of_ble_eq_true rfl) rfl ?_
  intro p e s m args below meth c S hr hk hnm hE hC0 hG hS ls hl
  have hl : lv_has ls 1 [(0, .ref x0)] := hl
  have hx := S.1
  have hb := S.2.1
  unfold cm_X34_isCalm at h
  refine lv_aload_n hx hb dX34_isCalm_0 rfl (lv_at hl 0 rfl) ?_
  obtain ⟨v1, e1, h⟩ := g_bd h
  refine wd_Turns_isStill (rest := []) q2157 dX34_isCalm_1 S hE hG hS hC0 hl.1 e1 rfl (Nat.le_of_ble_eq_true rfl) (by decide) (fun H locs hG hS => ?_)
  exact c_zretR dX34_isCalm_6 S hr hk hC0 hG hS h
theorem hc_X36_isDown : cHd yX36_isDown 0 := by decide +kernel
set_option maxHeartbeats 4000000 in
set_option maxRecDepth 100000 in
theorem wm_X36_isDown (E : gX) (l : Launch) (x0 : Nat) (Gz : GH) (r : Int32) (h : cm_X36_isDown x0 Gz = some r) : gMetC E l yX36_isDown cX36_isDown 1 (some Jvm.ClassFile.FieldType.boolean) 3 [.ref x0] Gz Gz (some (.int r)) := by
  refine gMetC.of (own := RX36) (by decide +kernel) (Nat.le_of_ble_eq_true rfl) rfl ?_
  intro p e s m args below meth c S hr hk hnm hE hC0 hG hS ls hl
  have hl : lv_has ls 1 [(0, .ref x0)] := hl
  have hx := S.1
  have hb := S.2.1
  unfold cm_X36_isDown at h
  refine lv_aload_n hx hb dX36_isDown_0 rfl (lv_at hl 0 rfl) ?_
  obtain ⟨v1, e1, h⟩ := g_bd h
  refine wd_Lifts_hoist (rest := []) q2087 dX36_isDown_1 S hE hG hS hC0 hl.1 e1 rfl (Nat.le_of_ble_eq_true rfl) (by decide) (fun H locs hG hS => ?_)
  obtain ⟨v6, e6, h⟩ := g_bd h
  refine cg_X36_16 dX36_isDown_6 S hE hG e6 ?_
  refine lv_if_ne (tgt := 16) hx hb dX36_isDown_9 (by decide) (fun c9 => ?_) (fun c9 => ?_)
  · have h := g_if c9 h
    refine lv_iconst (v := 0) hx hb dX36_isDown_16 (by decide) ?_
    exact c_zretR dX36_isDown_17 S hr hk hC0 hG hS h
  · have h := g_it c9 h
    refine lv_iconst (v := 1) hx hb dX36_isDown_12 (by decide) ?_
    refine lv_goto (tgt := 17) hx hb dX36_isDown_13 (by decide) ?_
    exact c_zretR dX36_isDown_17 S hr hk hC0 hG hS h
section DSP
variable {p : Program} {l : Launch} {e : Env} {R : Room} {s : State} {m : MethodId} {args : Array Value} {below : List Frame} {meth : Method} {c : Code} {H : Heap} {locs : List Loc} {cells slots : Nat} {Q : State → Prop}
variable {cc : ByteArray} {pc nL lev0 : Nat} {ls : Array Slot} {rest st : List Value} {E : gX} {G Gz G1 : GH}
theorem hx_Lifts_isDown : cHd ⟨"FairHouse$Lifts", "isDown", "()Z"⟩ 0 := by decide +kernel
set_option maxHeartbeats 4000000 in
set_option maxRecDepth 100000 in
theorem wd_Lifts_isDown {own : String} {a idx count : Nat} {r : Int32} (w1 : Cond.methodLink own idx ⟨"FairHouse$Lifts", "isDown", "()Z"⟩ ∈ lw_all) (hdg : decode cc pc = .ok (.invokeinterface idx count, 5)) (S : CallFix p m c cc nL s args lw_all own) (hE : gEnv E s) (hG : gC E G H) (hS : va_S (gx_C E) s.heap H locs) (hC0 : gC E Gz s.heap) (hls : ls.size = nL) (h : cd_Lifts_isDown a G = some r) (hst : st = [] ++ .ref a :: rest) (hW : (rest.map fun v => v.category).sum ≤ 8) (hroom : 3 + 1 ≤ lev0)
    (kk : ∀ (H1 : Heap) (locs1 : List Loc), gC E G H1 → va_S (gx_C E) s.heap H1 locs1 → WC E p l e (gRm lev0 (cBx Gz) (cBs Gz)) s m args below meth c H1 locs1 Q (F0 m (pc + 5) ls (.int r :: rest))) : WC E p l e (gRm lev0 (cBx Gz) (cBs Gz)) s m args below meth c H locs Q (F0 m pc ls st) := by
  unfold cd_Lifts_isDown at h
  by_cases c18 : cT G a = 18
  · have h := g_it c18 h
    exact c_cD (y := yX36_isDown) (As := []) 12 rfl hdg w1 q2083 q3386 q2085 hx_Lifts_isDown S hE hG hS hC0 hls rfl (hE.K.1 17 _ rfl).2 (c_recv hE hG (ci := 17) rfl (by decide) c18) (wm_X36_isDown E l a G _ h) hst hW ⟨by omega, by omega⟩ (fun H1 locs1 h1 h2 => kk H1 locs1 h1 h2)
  have h := g_if c18 h
  by_cases c20 : cT G a = 20
  · have h := g_it c20 h
    exact c_cD (y := yX36_isDown) (As := []) 13 rfl hdg w1 q2083 q3386 q2085 hx_Lifts_isDown S hE hG hS hC0 hls rfl (hE.K.1 19 _ rfl).2 (c_recv hE hG (ci := 19) rfl (by decide) c20) (wm_X36_isDown E l a G _ h) hst hW ⟨by omega, by omega⟩ (fun H1 locs1 h1 h2 => kk H1 locs1 h1 h2)
  have h := g_if c20 h
  by_cases c25 : cT G a = 25
  · have h := g_it c25 h
    exact c_cD (y := yX36_isDown) (As := []) 14 rfl hdg w1 q2083 q3386 q2085 hx_Lifts_isDown S hE hG hS hC0 hls rfl (hE.K.1 24 _ rfl).2 (c_recv hE hG (ci := 24) rfl (by decide) c25) (wm_X36_isDown E l a G _ h) hst hW ⟨by omega, by omega⟩ (fun H1 locs1 h1 h2 => kk H1 locs1 h1 h2)
  have h := g_if c25 h
  by_cases c27 : cT G a = 27
  · have h := g_it c27 h
    exact c_cD (y := yX36_isDown) (As := []) 15 rfl hdg w1 q2083 q3386 q2085 hx_Lifts_isDown S hE hG hS hC0 hls rfl (hE.K.1 26 _ rfl).2 (c_recv hE hG (ci := 26) rfl (by decide) c27) (wm_X36_isDown E l a G _ h) hst hW ⟨by omega, by omega⟩ (fun H1 locs1 h1 h2 => kk H1 locs1 h1 h2)
  have h := g_if c27 h
  cases h
end DSP
theorem hc_X36_isCalm : cHd yX36_isCalm 0 := by decide +kernel
set_option maxHeartbeats 4000000 in
set_option maxRecDepth 100000 in
theorem wm_X36_isCalm (E : gX) (l : Launch) (x0 : Nat) (Gz : GH) (r : Int32) (h : cm_X36_isCalm x0 Gz = some r) : gMetC E l yX36_isCalm cX36_isCalm 1 (some Jvm.ClassFile.FieldType.boolean) 4 [.ref x0] Gz Gz (some (.int r)) := by
  refine gMetC.of (own := RX36) (by decide +kernel) (Nat.le_of_ble_eq_true rfl) rfl ?_
  intro p e s m args below meth c S hr hk hnm hE hC0 hG hS ls hl
  have hl : lv_has ls 1 [(0, .ref x0)] := hl
  have hx := S.1
  have hb := S.2.1
  unfold cm_X36_isCalm at h
  refine lv_aload_n hx hb dX36_isCalm_0 rfl (lv_at hl 0 rfl) ?_
  obtain ⟨v1, e1, h⟩ := g_bd h
  refine wd_Lifts_isDown (rest := []) q2165 dX36_isCalm_1 S hE hG hS hC0 hl.1 e1 rfl (Nat.le_of_ble_eq_true rfl) (by decide) (fun H locs hG hS => ?_)
  exact c_zretR dX36_isCalm_6 S hr hk hC0 hG hS h
theorem hc_X13_isCalm : cHd yX13_isCalm 0 := by decide +kernel
set_option maxHeartbeats 4000000 in
set_option maxRecDepth 100000 in
theorem wm_X13_isCalm (E : gX) (l : Launch) (x0 : Nat) (Gz : GH) (r : Int32) (h : cm_X13_isCalm x0 Gz = some r) : gMetC E l yX13_isCalm cX13_isCalm 3 (some Jvm.ClassFile.FieldType.boolean) 4 [.ref x0] Gz Gz (some (.int r)) := by
  refine gMetC.of (own := RX13) (by decide +kernel) (Nat.le_of_ble_eq_true rfl) rfl ?_
  intro p e s m args below meth c S hr hk hnm hE hC0 hG hS ls hl
  have hl : lv_has ls 3 [(0, .ref x0)] := hl
  have hx := S.1
  have hb := S.2.1
  unfold cm_X13_isCalm at h
  refine lv_aload_n hx hb dX13_isCalm_0 rfl (lv_at hl 0 rfl) ?_
  refine lv_astore_n (lv' := [(1, .ref x0), (0, .ref x0)]) hx hb dX13_isCalm_1 rfl hl (by decide) rfl (fun ls hl => ?_)
  refine lv_aload_n hx hb dX13_isCalm_2 rfl (lv_at hl 1 rfl) ?_
  refine lv_astore_n (lv' := [(2, .ref x0), (1, .ref x0), (0, .ref x0)]) hx hb dX13_isCalm_3 rfl hl (by decide) rfl (fun ls hl => ?_)
  refine lv_aload_n hx hb dX13_isCalm_4 rfl (lv_at hl 1 rfl) ?_
  obtain ⟨v5, e5, h⟩ := g_bd h
  refine wd_Turns_isStill (rest := []) q2147 dX13_isCalm_5 S hE hG hS hC0 hl.1 e5 rfl (Nat.le_of_ble_eq_true rfl) (by decide) (fun H locs hG hS => ?_)
  refine lv_if_eq (tgt := 26) hx hb dX13_isCalm_10 (by decide) (fun c10 => ?_) (fun c10 => ?_)
  · have h := g_it c10 h
    refine lv_iconst (v := 0) hx hb dX13_isCalm_26 (by decide) ?_
    exact c_zretR dX13_isCalm_27 S hr hk hC0 hG hS h
  · have h := g_if c10 h
    refine lv_aload_n hx hb dX13_isCalm_13 rfl (lv_at hl 0 rfl) ?_
    obtain ⟨v14, e14, h⟩ := g_bd h
    refine wd_Lifts_isDown (rest := []) q2149 dX13_isCalm_14 S hE hG hS hC0 hl.1 e14 rfl (Nat.le_of_ble_eq_true rfl) (by decide) (fun H locs hG hS => ?_)
    refine lv_if_eq (tgt := 26) hx hb dX13_isCalm_19 (by decide) (fun c19 => ?_) (fun c19 => ?_)
    · have h := g_it c19 h
      refine lv_iconst (v := 0) hx hb dX13_isCalm_26 (by decide) ?_
      exact c_zretR dX13_isCalm_27 S hr hk hC0 hG hS h
    · have h := g_if c19 h
      refine lv_iconst (v := 1) hx hb dX13_isCalm_22 (by decide) ?_
      refine lv_goto (tgt := 27) hx hb dX13_isCalm_23 (by decide) ?_
      exact c_zretR dX13_isCalm_27 S hr hk hC0 hG hS h
theorem hc_X14_isCalm : cHd yX14_isCalm 0 := by decide +kernel
set_option maxHeartbeats 4000000 in
set_option maxRecDepth 100000 in
theorem wm_X14_isCalm (E : gX) (l : Launch) (x0 : Nat) (Gz : GH) (r : Int32) (h : cm_X14_isCalm x0 Gz = some r) : gMetC E l yX14_isCalm cX14_isCalm 1 (some Jvm.ClassFile.FieldType.boolean) 2 [.ref x0] Gz Gz (some (.int r)) := by
  refine gMetC.of (own := RX14) (by decide +kernel) (Nat.le_of_ble_eq_true rfl) rfl ?_
  intro p e s m args below meth c S hr hk hnm hE hC0 hG hS ls hl
  have hl : lv_has ls 1 [(0, .ref x0)] := hl
  have hx := S.1
  have hb := S.2.1
  unfold cm_X14_isCalm at h
  refine lv_iconst (v := 1) hx hb dX14_isCalm_0 (by decide) ?_
  exact c_zretR dX14_isCalm_1 S hr hk hC0 hG hS h
theorem hc_X40_isCalm : cHd yX40_isCalm 0 := by decide +kernel
set_option maxHeartbeats 4000000 in
set_option maxRecDepth 100000 in
theorem wm_X40_isCalm (E : gX) (l : Launch) (x0 : Nat) (Gz : GH) (r : Int32) (h : cm_X40_isCalm x0 Gz = some r) : gMetC E l yX40_isCalm cX40_isCalm 1 (some Jvm.ClassFile.FieldType.boolean) 2 [.ref x0] Gz Gz (some (.int r)) := by
  refine gMetC.of (own := RX40) (by decide +kernel) (Nat.le_of_ble_eq_true rfl) rfl ?_
  intro p e s m args below meth c S hr hk hnm hE hC0 hG hS ls hl
  have hl : lv_has ls 1 [(0, .ref x0)] := hl
  have hx := S.1
  have hb := S.2.1
  unfold cm_X40_isCalm at h
  refine lv_iconst (v := 1) hx hb dX40_isCalm_0 (by decide) ?_
  exact c_zretR dX40_isCalm_1 S hr hk hC0 hG hS h
theorem hc_X18_isCalm : cHd yX18_isCalm 0 := by decide +kernel
set_option maxHeartbeats 4000000 in
set_option maxRecDepth 100000 in
theorem wm_X18_isCalm (E : gX) (l : Launch) (x0 : Nat) (Gz : GH) (r : Int32) (h : cm_X18_isCalm x0 Gz = some r) : gMetC E l yX18_isCalm cX18_isCalm 2 (some Jvm.ClassFile.FieldType.boolean) 4 [.ref x0] Gz Gz (some (.int r)) := by
  refine gMetC.of (own := RX18) (by decide +kernel) (Nat.le_of_ble_eq_true rfl) rfl ?_
  intro p e s m args below meth c S hr hk hnm hE hC0 hG hS ls hl
  have hl : lv_has ls 2 [(0, .ref x0)] := hl
  have hx := S.1
  have hb := S.2.1
  unfold cm_X18_isCalm at h
  refine lv_aload_n hx hb dX18_isCalm_0 rfl (lv_at hl 0 rfl) ?_
  refine lv_astore_n (lv' := [(1, .ref x0), (0, .ref x0)]) hx hb dX18_isCalm_1 rfl hl (by decide) rfl (fun ls hl => ?_)
  refine lv_aload_n hx hb dX18_isCalm_2 rfl (lv_at hl 0 rfl) ?_
  obtain ⟨v3, e3, h⟩ := g_bd h
  refine wd_Lifts_isDown (rest := []) q2079 dX18_isCalm_3 S hE hG hS hC0 hl.1 e3 rfl (Nat.le_of_ble_eq_true rfl) (by decide) (fun H locs hG hS => ?_)
  exact c_zretR dX18_isCalm_8 S hr hk hC0 hG hS h
theorem hc_X37_isSoft : cHd yX37_isSoft 0 := by decide +kernel
set_option maxHeartbeats 4000000 in
set_option maxRecDepth 100000 in
theorem wm_X37_isSoft (E : gX) (l : Launch) (x0 : Nat) (Gz : GH) (r : Int32) (h : cm_X37_isSoft x0 Gz = some r) : gMetC E l yX37_isSoft cX37_isSoft 1 (some Jvm.ClassFile.FieldType.boolean) 3 [.ref x0] Gz Gz (some (.int r)) := by
  refine gMetC.of (own := RX37) (by decide +kernel) (Nat.le_of_ble_eq_true rfl) rfl ?_
  intro p e s m args below meth c S hr hk hnm hE hC0 hG hS ls hl
  have hl : lv_has ls 1 [(0, .ref x0)] := hl
  have hx := S.1
  have hb := S.2.1
  unfold cm_X37_isSoft at h
  refine lv_aload_n hx hb dX37_isSoft_0 rfl (lv_at hl 0 rfl) ?_
  obtain ⟨v1, e1, h⟩ := g_bd h
  refine wd_Sounds_voice (rest := []) q2106 dX37_isSoft_1 S hE hG hS hC0 hl.1 e1 rfl (Nat.le_of_ble_eq_true rfl) (by decide) (fun H locs hG hS => ?_)
  obtain ⟨v6, e6, h⟩ := g_bd h
  refine cg_X37_7 dX37_isSoft_6 S hE hG e6 ?_
  refine lv_bipush (v := 50) hx hb dX37_isSoft_9 (by decide) ?_
  refine lv_icmp_gt (tgt := 18) hx hb dX37_isSoft_11 (by decide) (fun c11 => ?_) (fun c11 => ?_)
  · have h := g_it c11 h
    refine lv_iconst (v := 0) hx hb dX37_isSoft_18 (by decide) ?_
    exact c_zretR dX37_isSoft_19 S hr hk hC0 hG hS h
  · have h := g_if c11 h
    refine lv_iconst (v := 1) hx hb dX37_isSoft_14 (by decide) ?_
    refine lv_goto (tgt := 19) hx hb dX37_isSoft_15 (by decide) ?_
    exact c_zretR dX37_isSoft_19 S hr hk hC0 hG hS h
section DSP
variable {p : Program} {l : Launch} {e : Env} {R : Room} {s : State} {m : MethodId} {args : Array Value} {below : List Frame} {meth : Method} {c : Code} {H : Heap} {locs : List Loc} {cells slots : Nat} {Q : State → Prop}
variable {cc : ByteArray} {pc nL lev0 : Nat} {ls : Array Slot} {rest st : List Value} {E : gX} {G Gz G1 : GH}
theorem hx_Sounds_isSoft : cHd ⟨"FairHouse$Sounds", "isSoft", "()Z"⟩ 0 := by decide +kernel
set_option maxHeartbeats 4000000 in
set_option maxRecDepth 100000 in
theorem wd_Sounds_isSoft {own : String} {a idx count : Nat} {r : Int32} (w1 : Cond.methodLink own idx ⟨"FairHouse$Sounds", "isSoft", "()Z"⟩ ∈ lw_all) (hdg : decode cc pc = .ok (.invokeinterface idx count, 5)) (S : CallFix p m c cc nL s args lw_all own) (hE : gEnv E s) (hG : gC E G H) (hS : va_S (gx_C E) s.heap H locs) (hC0 : gC E Gz s.heap) (hls : ls.size = nL) (h : cd_Sounds_isSoft a G = some r) (hst : st = [] ++ .ref a :: rest) (hW : (rest.map fun v => v.category).sum ≤ 8) (hroom : 3 + 1 ≤ lev0)
    (kk : ∀ (H1 : Heap) (locs1 : List Loc), gC E G H1 → va_S (gx_C E) s.heap H1 locs1 → WC E p l e (gRm lev0 (cBx Gz) (cBs Gz)) s m args below meth c H1 locs1 Q (F0 m (pc + 5) ls (.int r :: rest))) : WC E p l e (gRm lev0 (cBx Gz) (cBs Gz)) s m args below meth c H locs Q (F0 m pc ls st) := by
  unfold cd_Sounds_isSoft at h
  by_cases c21 : cT G a = 21
  · have h := g_it c21 h
    exact c_cD (y := yX37_isSoft) (As := []) 64 rfl hdg w1 q2102 q3387 q2104 hx_Sounds_isSoft S hE hG hS hC0 hls rfl (hE.K.1 20 _ rfl).2 (c_recv hE hG (ci := 20) rfl (by decide) c21) (wm_X37_isSoft E l a G _ h) hst hW ⟨by omega, by omega⟩ (fun H1 locs1 h1 h2 => kk H1 locs1 h1 h2)
  have h := g_if c21 h
  by_cases c25 : cT G a = 25
  · have h := g_it c25 h
    exact c_cD (y := yX37_isSoft) (As := []) 65 rfl hdg w1 q2102 q3387 q2104 hx_Sounds_isSoft S hE hG hS hC0 hls rfl (hE.K.1 24 _ rfl).2 (c_recv hE hG (ci := 24) rfl (by decide) c25) (wm_X37_isSoft E l a G _ h) hst hW ⟨by omega, by omega⟩ (fun H1 locs1 h1 h2 => kk H1 locs1 h1 h2)
  have h := g_if c25 h
  by_cases c26 : cT G a = 26
  · have h := g_it c26 h
    exact c_cD (y := yX37_isSoft) (As := []) 66 rfl hdg w1 q2102 q3387 q2104 hx_Sounds_isSoft S hE hG hS hC0 hls rfl (hE.K.1 25 _ rfl).2 (c_recv hE hG (ci := 25) rfl (by decide) c26) (wm_X37_isSoft E l a G _ h) hst hW ⟨by omega, by omega⟩ (fun H1 locs1 h1 h2 => kk H1 locs1 h1 h2)
  have h := g_if c26 h
  by_cases c27 : cT G a = 27
  · have h := g_it c27 h
    exact c_cD (y := yX37_isSoft) (As := []) 67 rfl hdg w1 q2102 q3387 q2104 hx_Sounds_isSoft S hE hG hS hC0 hls rfl (hE.K.1 26 _ rfl).2 (c_recv hE hG (ci := 26) rfl (by decide) c27) (wm_X37_isSoft E l a G _ h) hst hW ⟨by omega, by omega⟩ (fun H1 locs1 h1 h2 => kk H1 locs1 h1 h2)
  have h := g_if c27 h
  cases h
end DSP
theorem hc_X19_isCalm : cHd yX19_isCalm 0 := by decide +kernel
set_option maxHeartbeats 4000000 in
set_option maxRecDepth 100000 in
theorem wm_X19_isCalm (E : gX) (l : Launch) (x0 : Nat) (Gz : GH) (r : Int32) (h : cm_X19_isCalm x0 Gz = some r) : gMetC E l yX19_isCalm cX19_isCalm 2 (some Jvm.ClassFile.FieldType.boolean) 4 [.ref x0] Gz Gz (some (.int r)) := by
  refine gMetC.of (own := RX19) (by decide +kernel) (Nat.le_of_ble_eq_true rfl) rfl ?_
  intro p e s m args below meth c S hr hk hnm hE hC0 hG hS ls hl
  have hl : lv_has ls 2 [(0, .ref x0)] := hl
  have hx := S.1
  have hb := S.2.1
  unfold cm_X19_isCalm at h
  refine lv_aload_n hx hb dX19_isCalm_0 rfl (lv_at hl 0 rfl) ?_
  refine lv_astore_n (lv' := [(1, .ref x0), (0, .ref x0)]) hx hb dX19_isCalm_1 rfl hl (by decide) rfl (fun ls hl => ?_)
  refine lv_aload_n hx hb dX19_isCalm_2 rfl (lv_at hl 1 rfl) ?_
  obtain ⟨v3, e3, h⟩ := g_bd h
  refine cg_X19_28 dX19_isCalm_3 S hE hG e3 ?_
  obtain ⟨v6, e6, h⟩ := g_bd h
  refine cg_X19_47 dX19_isCalm_6 S hE hG e6 ?_
  refine lv_bipush (v := 50) hx hb dX19_isCalm_9 (by decide) ?_
  refine lv_icmp_lt (tgt := 27) hx hb dX19_isCalm_11 (by decide) (fun c11 => ?_) (fun c11 => ?_)
  · have h := g_it c11 h
    refine lv_iconst (v := 0) hx hb dX19_isCalm_27 (by decide) ?_
    exact c_zretR dX19_isCalm_28 S hr hk hC0 hG hS h
  · have h := g_if c11 h
    refine lv_aload_n hx hb dX19_isCalm_14 rfl (lv_at hl 0 rfl) ?_
    obtain ⟨v15, e15, h⟩ := g_bd h
    refine wd_Sounds_isSoft (rest := []) q2098 dX19_isCalm_15 S hE hG hS hC0 hl.1 e15 rfl (Nat.le_of_ble_eq_true rfl) (by decide) (fun H locs hG hS => ?_)
    refine lv_if_eq (tgt := 27) hx hb dX19_isCalm_20 (by decide) (fun c20 => ?_) (fun c20 => ?_)
    · have h := g_it c20 h
      refine lv_iconst (v := 0) hx hb dX19_isCalm_27 (by decide) ?_
      exact c_zretR dX19_isCalm_28 S hr hk hC0 hG hS h
    · have h := g_if c20 h
      refine lv_iconst (v := 1) hx hb dX19_isCalm_23 (by decide) ?_
      refine lv_goto (tgt := 28) hx hb dX19_isCalm_24 (by decide) ?_
      exact c_zretR dX19_isCalm_28 S hr hk hC0 hG hS h
theorem hc_X20_isCalm : cHd yX20_isCalm 0 := by decide +kernel
set_option maxHeartbeats 4000000 in
set_option maxRecDepth 100000 in
theorem wm_X20_isCalm (E : gX) (l : Launch) (x0 : Nat) (Gz : GH) (r : Int32) (h : cm_X20_isCalm x0 Gz = some r) : gMetC E l yX20_isCalm cX20_isCalm 4 (some Jvm.ClassFile.FieldType.boolean) 4 [.ref x0] Gz Gz (some (.int r)) := by
  refine gMetC.of (own := RX20) (by decide +kernel) (Nat.le_of_ble_eq_true rfl) rfl ?_
  intro p e s m args below meth c S hr hk hnm hE hC0 hG hS ls hl
  have hl : lv_has ls 4 [(0, .ref x0)] := hl
  have hx := S.1
  have hb := S.2.1
  unfold cm_X20_isCalm at h
  refine lv_aload_n hx hb dX20_isCalm_0 rfl (lv_at hl 0 rfl) ?_
  refine lv_astore_n (lv' := [(1, .ref x0), (0, .ref x0)]) hx hb dX20_isCalm_1 rfl hl (by decide) rfl (fun ls hl => ?_)
  refine lv_aload_n hx hb dX20_isCalm_2 rfl (lv_at hl 1 rfl) ?_
  refine lv_astore_n (lv' := [(2, .ref x0), (1, .ref x0), (0, .ref x0)]) hx hb dX20_isCalm_3 rfl hl (by decide) rfl (fun ls hl => ?_)
  refine lv_aload_n hx hb dX20_isCalm_4 rfl (lv_at hl 2 rfl) ?_
  refine lv_astore_n (lv' := [(3, .ref x0), (2, .ref x0), (1, .ref x0), (0, .ref x0)]) hx hb dX20_isCalm_5 rfl hl (by decide) rfl (fun ls hl => ?_)
  refine lv_aload_n hx hb dX20_isCalm_6 rfl (lv_at hl 2 rfl) ?_
  obtain ⟨v7, e7, h⟩ := g_bd h
  refine wd_Turns_isStill (rest := []) q2123 dX20_isCalm_7 S hE hG hS hC0 hl.1 e7 rfl (Nat.le_of_ble_eq_true rfl) (by decide) (fun H locs hG hS => ?_)
  refine lv_if_eq (tgt := 49) hx hb dX20_isCalm_12 (by decide) (fun c12 => ?_) (fun c12 => ?_)
  · have h := g_it c12 h
    refine lv_iconst (v := 0) hx hb dX20_isCalm_49 (by decide) ?_
    exact c_zretR dX20_isCalm_50 S hr hk hC0 hG hS h
  · have h := g_if c12 h
    refine lv_aload_n hx hb dX20_isCalm_15 rfl (lv_at hl 1 rfl) ?_
    obtain ⟨v16, e16, h⟩ := g_bd h
    refine wd_Lifts_isDown (rest := []) q2137 dX20_isCalm_16 S hE hG hS hC0 hl.1 e16 rfl (Nat.le_of_ble_eq_true rfl) (by decide) (fun H locs hG hS => ?_)
    refine lv_if_eq (tgt := 49) hx hb dX20_isCalm_21 (by decide) (fun c21 => ?_) (fun c21 => ?_)
    · have h := g_it c21 h
      refine lv_iconst (v := 0) hx hb dX20_isCalm_49 (by decide) ?_
      exact c_zretR dX20_isCalm_50 S hr hk hC0 hG hS h
    · have h := g_if c21 h
      refine lv_aload_n hx hb dX20_isCalm_24 rfl (lv_at hl 0 rfl) ?_
      obtain ⟨v25, e25, h⟩ := g_bd h
      refine wd_Sounds_isSoft (rest := []) q2139 dX20_isCalm_25 S hE hG hS hC0 hl.1 e25 rfl (Nat.le_of_ble_eq_true rfl) (by decide) (fun H locs hG hS => ?_)
      refine lv_if_eq (tgt := 49) hx hb dX20_isCalm_30 (by decide) (fun c30 => ?_) (fun c30 => ?_)
      · have h := g_it c30 h
        refine lv_iconst (v := 0) hx hb dX20_isCalm_49 (by decide) ?_
        exact c_zretR dX20_isCalm_50 S hr hk hC0 hG hS h
      · have h := g_if c30 h
        refine lv_aload_n hx hb dX20_isCalm_33 rfl (lv_at hl 3 rfl) ?_
        obtain ⟨v34, e34, h⟩ := g_bd h
        refine cg_X20_44 dX20_isCalm_34 S hE hG e34 ?_
        obtain ⟨v37, e37, h⟩ := g_bd h
        refine cg_X20_101 dX20_isCalm_37 S hE hG e37 ?_
        refine lv_bipush (v := 20) hx hb dX20_isCalm_40 (by decide) ?_
        refine lv_icmp_lt (tgt := 49) hx hb dX20_isCalm_42 (by decide) (fun c42 => ?_) (fun c42 => ?_)
        · have h := g_it c42 h
          refine lv_iconst (v := 0) hx hb dX20_isCalm_49 (by decide) ?_
          exact c_zretR dX20_isCalm_50 S hr hk hC0 hG hS h
        · have h := g_if c42 h
          refine lv_iconst (v := 1) hx hb dX20_isCalm_45 (by decide) ?_
          refine lv_goto (tgt := 50) hx hb dX20_isCalm_46 (by decide) ?_
          exact c_zretR dX20_isCalm_50 S hr hk hC0 hG hS h
section DSP
variable {p : Program} {l : Launch} {e : Env} {R : Room} {s : State} {m : MethodId} {args : Array Value} {below : List Frame} {meth : Method} {c : Code} {H : Heap} {locs : List Loc} {cells slots : Nat} {Q : State → Prop}
variable {cc : ByteArray} {pc nL lev0 : Nat} {ls : Array Slot} {rest st : List Value} {E : gX} {G Gz G1 : GH}
theorem hx_Machine_isCalm : cHd ⟨"FairHouse$Machine", "isCalm", "()Z"⟩ 0 := by decide +kernel
set_option maxHeartbeats 4000000 in
set_option maxRecDepth 100000 in
theorem wd_Machine_isCalm {own : String} {a idx count : Nat} {r : Int32} (w1 : Cond.methodLink own idx ⟨"FairHouse$Machine", "isCalm", "()Z"⟩ ∈ lw_all) (hdg : decode cc pc = .ok (.invokeinterface idx count, 5)) (S : CallFix p m c cc nL s args lw_all own) (hE : gEnv E s) (hG : gC E G H) (hS : va_S (gx_C E) s.heap H locs) (hC0 : gC E Gz s.heap) (hls : ls.size = nL) (h : cd_Machine_isCalm a G = some r) (hst : st = [] ++ .ref a :: rest) (hW : (rest.map fun v => v.category).sum ≤ 8) (hroom : 4 + 1 ≤ lev0)
    (kk : ∀ (H1 : Heap) (locs1 : List Loc), gC E G H1 → va_S (gx_C E) s.heap H1 locs1 → WC E p l e (gRm lev0 (cBx Gz) (cBs Gz)) s m args below meth c H1 locs1 Q (F0 m (pc + 5) ls (.int r :: rest))) : WC E p l e (gRm lev0 (cBx Gz) (cBs Gz)) s m args below meth c H locs Q (F0 m pc ls st) := by
  unfold cd_Machine_isCalm at h
  by_cases c14 : cT G a = 14
  · have h := g_it c14 h
    exact c_cD (y := yX34_isCalm) (As := []) 33 rfl hdg w1 q2153 q3388 q2155 hx_Machine_isCalm S hE hG hS hC0 hls rfl (hE.K.1 13 _ rfl).2 (c_recv hE hG (ci := 13) rfl (by decide) c14) (wm_X34_isCalm E l a G _ h) hst hW ⟨by omega, by omega⟩ (fun H1 locs1 h1 h2 => kk H1 locs1 h1 h2)
  have h := g_if c14 h
  by_cases c18 : cT G a = 18
  · have h := g_it c18 h
    exact c_cD (y := yX36_isCalm) (As := []) 34 rfl hdg w1 q2161 q3386 q2163 hx_Machine_isCalm S hE hG hS hC0 hls rfl (hE.K.1 17 _ rfl).2 (c_recv hE hG (ci := 17) rfl (by decide) c18) (wm_X36_isCalm E l a G _ h) hst hW ⟨by omega, by omega⟩ (fun H1 locs1 h1 h2 => kk H1 locs1 h1 h2)
  have h := g_if c18 h
  by_cases c20 : cT G a = 20
  · have h := g_it c20 h
    exact c_cF (y := yX13_isCalm) (As := []) 18 rfl hdg w1 q2143 q2141 q155 q2145 hx_Machine_isCalm S hE hG hS hC0 hls rfl (hE.K.1 19 _ rfl).2 (c_recv hE hG (ci := 19) rfl (by decide) c20) (wm_X13_isCalm E l a G _ h) hst hW ⟨by omega, by omega⟩ (fun H1 locs1 h1 h2 => kk H1 locs1 h1 h2)
  have h := g_if c20 h
  by_cases c21 : cT G a = 21
  · have h := g_it c21 h
    exact c_cF (y := yX14_isCalm) (As := []) 19 rfl hdg w1 q2113 q2111 q156 q2115 hx_Machine_isCalm S hE hG hS hC0 hls rfl (hE.K.1 20 _ rfl).2 (c_recv hE hG (ci := 20) rfl (by decide) c21) (wm_X14_isCalm E l a G _ h) hst hW ⟨by omega, by omega⟩ (fun H1 locs1 h1 h2 => kk H1 locs1 h1 h2)
  have h := g_if c21 h
  by_cases c23 : cT G a = 23
  · have h := g_it c23 h
    exact c_cD (y := yX40_isCalm) (As := []) 35 rfl hdg w1 q2069 q3385 q2071 hx_Machine_isCalm S hE hG hS hC0 hls rfl (hE.K.1 22 _ rfl).2 (c_recv hE hG (ci := 22) rfl (by decide) c23) (wm_X40_isCalm E l a G _ h) hst hW ⟨by omega, by omega⟩ (fun H1 locs1 h1 h2 => kk H1 locs1 h1 h2)
  have h := g_if c23 h
  by_cases c25 : cT G a = 25
  · have h := g_it c25 h
    exact c_cF (y := yX18_isCalm) (As := []) 20 rfl hdg w1 q2075 q2073 q160 q2077 hx_Machine_isCalm S hE hG hS hC0 hls rfl (hE.K.1 24 _ rfl).2 (c_recv hE hG (ci := 24) rfl (by decide) c25) (wm_X18_isCalm E l a G _ h) hst hW ⟨by omega, by omega⟩ (fun H1 locs1 h1 h2 => kk H1 locs1 h1 h2)
  have h := g_if c25 h
  by_cases c26 : cT G a = 26
  · have h := g_it c26 h
    exact c_cF (y := yX19_isCalm) (As := []) 21 rfl hdg w1 q2094 q2092 q161 q2096 hx_Machine_isCalm S hE hG hS hC0 hls rfl (hE.K.1 25 _ rfl).2 (c_recv hE hG (ci := 25) rfl (by decide) c26) (wm_X19_isCalm E l a G _ h) hst hW ⟨by omega, by omega⟩ (fun H1 locs1 h1 h2 => kk H1 locs1 h1 h2)
  have h := g_if c26 h
  by_cases c27 : cT G a = 27
  · have h := g_it c27 h
    exact c_cF (y := yX20_isCalm) (As := []) 22 rfl hdg w1 q2119 q2117 q162 q2121 hx_Machine_isCalm S hE hG hS hC0 hls rfl (hE.K.1 26 _ rfl).2 (c_recv hE hG (ci := 26) rfl (by decide) c27) (wm_X20_isCalm E l a G _ h) hst hW ⟨by omega, by omega⟩ (fun H1 locs1 h1 h2 => kk H1 locs1 h1 h2)
  have h := g_if c27 h
  by_cases c28 : cT G a = 28
  · have h := g_it c28 h
    exact c_cD (y := yX34_isCalm) (As := []) 36 rfl hdg w1 q2153 q3388 q2155 hx_Machine_isCalm S hE hG hS hC0 hls rfl (hE.K.1 27 _ rfl).2 (c_recv hE hG (ci := 27) rfl (by decide) c28) (wm_X34_isCalm E l a G _ h) hst hW ⟨by omega, by omega⟩ (fun H1 locs1 h1 h2 => kk H1 locs1 h1 h2)
  have h := g_if c28 h
  cases h
end DSP
theorem hc_X10_shift : cHd yX10_shift 0 := by decide +kernel
set_option maxHeartbeats 4000000 in
set_option maxRecDepth 100000 in
theorem wm_X10_shift (E : gX) (l : Launch) (x0 : Nat) (Gz G' : GH) (h : cm_X10_shift x0 Gz = some G') : gMetC E l yX10_shift cX10_shift 1 none 2 [.ref x0] Gz G' none := by
  refine gMetC.of (own := RX10) (by decide +kernel) (Nat.le_of_ble_eq_true rfl) rfl ?_
  intro p e s m args below meth c S hr hk hnm hE hC0 hG hS ls hl
  have hl : lv_has ls 1 [(0, .ref x0)] := hl
  have hx := S.1
  have hb := S.2.1
  unfold cm_X10_shift at h
  refine lv_aload_n hx hb dX10_shift_0 rfl (lv_at hl 0 rfl) ?_
  refine lv_aload_n hx hb dX10_shift_1 rfl (lv_at hl 0 rfl) ?_
  obtain ⟨v2, e2, h⟩ := g_bd h
  refine cg_X10_25 dX10_shift_2 S hE hG e2 ?_
  refine lv_iconst (v := 1) hx hb dX10_shift_5 (by decide) ?_
  refine lv_iadd hx hb dX10_shift_6 ?_
  refine lv_bipush (v := 30) hx hb dX10_shift_7 (by decide) ?_
  refine lv_irem hx hb dX10_shift_9 (by decide) ?_
  obtain ⟨G10, e10, h⟩ := g_bd h
  refine cp_X10_25 dX10_shift_10 S hE hG hS hC0 e10 (fun H locs hG hS => ?_)
  refine lv_aload_n hx hb dX10_shift_13 rfl (lv_at hl 0 rfl) ?_
  refine lv_dup hx hb dX10_shift_14 rfl ?_
  obtain ⟨v15, e15, h⟩ := g_bd h
  refine cg_X10_28 dX10_shift_15 S hE hG e15 ?_
  refine lv_iconst (v := 1) hx hb dX10_shift_18 (by decide) ?_
  refine lv_isub hx hb dX10_shift_19 ?_
  obtain ⟨G20, e20, h⟩ := g_bd h
  refine cp_X10_28 dX10_shift_20 S hE hG hS hC0 e20 (fun H locs hG hS => ?_)
  exact c_vretW dX10_shift_23 S hr hk hC0 hG hS h
theorem hc_X10_board : cHd yX10_board 1 := by decide +kernel
set_option maxHeartbeats 4000000 in
set_option maxRecDepth 100000 in
theorem wm_X10_board (E : gX) (l : Launch) (x0 : Nat) (x1 : Int32) (Gz G' : GH) (r : Int32) (h : cm_X10_board x0 x1 Gz = some (r, G')) : gMetC E l yX10_board cX10_board 5 (some Jvm.ClassFile.FieldType.int) 3 [.ref x0, .int x1] Gz G' (some (.int r)) := by
  refine gMetC.of (own := RX10) (by decide +kernel) (Nat.le_of_ble_eq_true rfl) rfl ?_
  intro p e s m args below meth c S hr hk hnm hE hC0 hG hS ls hl
  have hl : lv_has ls 5 [(0, .ref x0), (1, .int x1)] := hl
  have hx := S.1
  have hb := S.2.1
  have L46 : ∀ (n : Nat) (x0 : Nat) (x1 : Int32) (x2 : Int32) (x3 : Int32) (G : GH) (H : Heap) (locs : List Loc) (ls : Array Slot), cm_X10_board_L46 n x0 x1 x2 x3 G = some (r, G') → gC E G H → va_S (gx_C E) s.heap H locs → lv_has ls 5 [(0, .ref x0), (1, .int x1), (2, .int x2), (3, .int x3)] → WC E p l e (gRm 3 (cBx Gz) (cBs Gz)) s m args below meth c H locs (MQ below (gQ (some (.int r)) (gC E G') (gx_C E)) args s (cBx Gz) (cBs Gz) (gx_C E)) (F0 m 46 ls []) := by
    intro n46
    induction n46 with
    | zero =>
      intro x0 x1 x2 x3 G H locs ls h
      cases h
    | succ n46 ih46 =>
      have J136 : ∀ (x0 : Nat) (x1 : Int32) (x2 : Int32) (x3 : Int32) (G : GH) (H : Heap) (locs : List Loc) (ls : Array Slot), cm_X10_board_J136 (cm_X10_board_L46 n46) x0 x1 x2 x3 G = some (r, G') → gC E G H → va_S (gx_C E) s.heap H locs → lv_has ls 5 [(0, .ref x0), (1, .int x1), (2, .int x2), (3, .int x3)] → WC E p l e (gRm 3 (cBx Gz) (cBs Gz)) s m args below meth c H locs (MQ below (gQ (some (.int r)) (gC E G') (gx_C E)) args s (cBx Gz) (cBs Gz) (gx_C E)) (F0 m 136 ls []) := by
        intro x0 x1 x2 x3 G H locs ls h hG hS hl
        unfold cm_X10_board_J136 at h
        refine lv_goto (tgt := 46) hx hb dX10_board_136 (by decide) ?_
        exact ih46 x0 x1 x2 x3 G _ _ _ h hG hS (lv_sub hl [0, 1, 2, 3] rfl)
      have J76 : ∀ (x0 : Nat) (x1 : Int32) (x2 : Int32) (x3 : Int32) (s0 : Int32) (G : GH) (H : Heap) (locs : List Loc) (ls : Array Slot), cm_X10_board_J76 (cm_X10_board_L46 n46) x0 x1 x2 x3 s0 G = some (r, G') → gC E G H → va_S (gx_C E) s.heap H locs → lv_has ls 5 [(0, .ref x0), (1, .int x1), (2, .int x2), (3, .int x3)] → WC E p l e (gRm 3 (cBx Gz) (cBs Gz)) s m args below meth c H locs (MQ below (gQ (some (.int r)) (gC E G') (gx_C E)) args s (cBx Gz) (cBs Gz) (gx_C E)) (F0 m 76 ls [.int s0]) := by
        intro x0 x1 x2 x3 s0 G H locs ls h hG hS hl
        unfold cm_X10_board_J76 at h
        refine lv_istore (lv' := [(4, .int s0), (0, .ref x0), (1, .int x1), (2, .int x2), (3, .int x3)]) hx hb dX10_board_76 hl (by decide) rfl (fun ls hl => ?_)
        refine lv_aload_n hx hb dX10_board_78 rfl (lv_at hl 1 rfl) ?_
        refine lv_dup hx hb dX10_board_79 rfl ?_
        obtain ⟨v80, e80, h⟩ := g_bd h
        refine cg_X10_34 dX10_board_80 S hE hG e80 ?_
        refine lv_iload hx hb dX10_board_83 (lv_at hl 0 rfl) ?_
        refine lv_iload_n hx hb dX10_board_85 rfl (lv_at hl 2 rfl) ?_
        refine lv_aload_n hx hb dX10_board_86 rfl (lv_at hl 1 rfl) ?_
        obtain ⟨v87, e87, h⟩ := g_bd h
        refine cg_X10_9 dX10_board_87 S hE hG e87 ?_
        refine lv_aload_n hx hb dX10_board_90 rfl (lv_at hl 1 rfl) ?_
        obtain ⟨v91, e91, h⟩ := g_bd h
        refine cg_X10_25 dX10_board_91 S hE hG e91 ?_
        obtain ⟨v94, e94, h⟩ := g_bd h
        refine c_aldI dX10_board_94 S hE hG e94 ?_
        refine lv_isub hx hb dX10_board_95 ?_
        refine lv_imul hx hb dX10_board_96 ?_
        refine lv_iadd hx hb dX10_board_97 ?_
        obtain ⟨G98, e98, h⟩ := g_bd h
        refine cp_X10_34 dX10_board_98 S hE hG hS hC0 e98 (fun H locs hG hS => ?_)
        refine lv_aload_n hx hb dX10_board_101 rfl (lv_at hl 1 rfl) ?_
        obtain ⟨v102, e102, h⟩ := g_bd h
        refine cg_X10_15 dX10_board_102 S hE hG e102 ?_
        refine lv_aload_n hx hb dX10_board_105 rfl (lv_at hl 1 rfl) ?_
        obtain ⟨v106, e106, h⟩ := g_bd h
        refine cg_X10_25 dX10_board_106 S hE hG e106 ?_
        refine lv_dup2_11 hx hb dX10_board_109 rfl rfl ?_
        obtain ⟨v110, e110, h⟩ := g_bd h
        refine c_aldI dX10_board_110 S hE hG e110 ?_
        refine lv_iload hx hb dX10_board_111 (lv_at hl 0 rfl) ?_
        refine lv_isub hx hb dX10_board_113 ?_
        obtain ⟨G114, e114, h⟩ := g_bd h
        refine c_astI dX10_board_114 S hE hG hS hC0 e114 (fun H locs hG hS => ?_)
        refine lv_iload_n hx hb dX10_board_115 rfl (lv_at hl 4 rfl) ?_
        refine lv_iload hx hb dX10_board_116 (lv_at hl 0 rfl) ?_
        refine lv_isub hx hb dX10_board_118 ?_
        refine lv_istore_n (lv' := [(3, .int (x3 - s0)), (4, .int s0), (0, .ref x0), (1, .int x1), (2, .int x2)]) hx hb dX10_board_119 rfl hl (by decide) rfl (fun ls hl => ?_)
        refine lv_aload_n hx hb dX10_board_120 rfl (lv_at hl 2 rfl) ?_
        obtain ⟨v121, e121, h⟩ := g_bd h
        refine cg_X10_15 dX10_board_121 S hE hG e121 ?_
        refine lv_aload_n hx hb dX10_board_124 rfl (lv_at hl 2 rfl) ?_
        obtain ⟨v125, e125, h⟩ := g_bd h
        refine cg_X10_25 dX10_board_125 S hE hG e125 ?_
        obtain ⟨v128, e128, h⟩ := g_bd h
        refine c_aldI dX10_board_128 S hE hG e128 ?_
        refine lv_if_ne (tgt := 136) hx hb dX10_board_129 (by decide) (fun c129 => ?_) (fun c129 => ?_)
        · have h := g_if c129 h
          exact J136 x0 x1 x2 (x3 - s0) G114 _ _ _ h hG hS (lv_sub hl [2, 3, 4, 0] rfl)
        · have h := g_it c129 h
          refine lv_aload_n hx hb dX10_board_132 rfl (lv_at hl 2 rfl) ?_
          obtain ⟨u133, t133, h⟩ := g_bd h
          obtain ⟨G133, e133, h⟩ := g_bd h
          refine c_cV (y := yX10_shift) (rest := []) dX10_board_133 q1988 q1990 qs42 q152 q1991 hc_X10_shift rfl S hE hG hS hC0 hl.1 rfl (c_recv hE hG (ci := 16) rfl (by decide) (c_castM t133)) (wm_X10_shift E l x0 G114 _ e133) rfl (Nat.le_of_ble_eq_true rfl) ⟨Nat.le_of_ble_eq_true rfl, Nat.le_of_ble_eq_true rfl⟩ (fun H locs hG hS => ?_)
          exact J136 x0 x1 x2 (x3 - s0) G133 _ _ _ h hG hS (lv_sub hl [2, 3, 4, 0] rfl)
      intro x0 x1 x2 x3 G H locs ls h hG hS hl
      have h : cm_X10_board_B46 (cm_X10_board_L46 n46) x0 x1 x2 x3 G = some (r, G') := h
      unfold cm_X10_board_B46 at h
      refine lv_iload_n hx hb dX10_board_46 rfl (lv_at hl 3 rfl) ?_
      refine lv_if_le (tgt := 139) hx hb dX10_board_47 (by decide) (fun c47 => ?_) (fun c47 => ?_)
      · have h := g_it c47 h
        refine lv_aload_n hx hb dX10_board_139 rfl (lv_at hl 0 rfl) ?_
        refine lv_dup hx hb dX10_board_140 rfl ?_
        obtain ⟨v141, e141, h⟩ := g_bd h
        refine cg_X10_31 dX10_board_141 S hE hG e141 ?_
        refine lv_iload_n hx hb dX10_board_144 rfl (lv_at hl 2 rfl) ?_
        refine lv_isub hx hb dX10_board_145 ?_
        obtain ⟨G146, e146, h⟩ := g_bd h
        refine cp_X10_31 dX10_board_146 S hE hG hS hC0 e146 (fun H locs hG hS => ?_)
        refine lv_aload_n hx hb dX10_board_149 rfl (lv_at hl 0 rfl) ?_
        refine lv_dup hx hb dX10_board_150 rfl ?_
        obtain ⟨v151, e151, h⟩ := g_bd h
        refine cg_X10_22 dX10_board_151 S hE hG e151 ?_
        refine lv_iload_n hx hb dX10_board_154 rfl (lv_at hl 2 rfl) ?_
        refine lv_iadd hx hb dX10_board_155 ?_
        obtain ⟨G156, e156, h⟩ := g_bd h
        refine cp_X10_22 dX10_board_156 S hE hG hS hC0 e156 (fun H locs hG hS => ?_)
        refine lv_iload_n hx hb dX10_board_159 rfl (lv_at hl 2 rfl) ?_
        exact c_iretW dX10_board_160 S hr hk hC0 hG hS h
      · have h := g_if c47 h
        refine lv_aload_n hx hb dX10_board_50 rfl (lv_at hl 0 rfl) ?_
        obtain ⟨v51, e51, h⟩ := g_bd h
        refine cg_X10_15 dX10_board_51 S hE hG e51 ?_
        refine lv_aload_n hx hb dX10_board_54 rfl (lv_at hl 0 rfl) ?_
        obtain ⟨v55, e55, h⟩ := g_bd h
        refine cg_X10_25 dX10_board_55 S hE hG e55 ?_
        obtain ⟨v58, e58, h⟩ := g_bd h
        refine c_aldI dX10_board_58 S hE hG e58 ?_
        refine lv_iload_n hx hb dX10_board_59 rfl (lv_at hl 3 rfl) ?_
        refine lv_icmp_ge (tgt := 75) hx hb dX10_board_60 (by decide) (fun c60 => ?_) (fun c60 => ?_)
        · have h := g_it c60 h
          refine lv_iload_n hx hb dX10_board_75 rfl (lv_at hl 3 rfl) ?_
          exact J76 x0 x1 x2 x3 x3 G _ _ _ h hG hS (lv_sub hl [0, 1, 2, 3] rfl)
        · have h := g_if c60 h
          refine lv_aload_n hx hb dX10_board_63 rfl (lv_at hl 0 rfl) ?_
          obtain ⟨v64, e64, h⟩ := g_bd h
          refine cg_X10_15 dX10_board_64 S hE hG e64 ?_
          refine lv_aload_n hx hb dX10_board_67 rfl (lv_at hl 0 rfl) ?_
          obtain ⟨v68, e68, h⟩ := g_bd h
          refine cg_X10_25 dX10_board_68 S hE hG e68 ?_
          obtain ⟨v71, e71, h⟩ := g_bd h
          refine c_aldI dX10_board_71 S hE hG e71 ?_
          refine lv_goto (tgt := 76) hx hb dX10_board_72 (by decide) ?_
          exact J76 x0 x1 x2 x3 v71 G _ _ _ h hG hS (lv_sub hl [0, 1, 2, 3] rfl)
  have J43 : ∀ (x0 : Nat) (x1 : Int32) (s0 : Int32) (G : GH) (H : Heap) (locs : List Loc) (ls : Array Slot), cm_X10_board_J43 x0 x1 s0 G = some (r, G') → gC E G H → va_S (gx_C E) s.heap H locs → lv_has ls 5 [(0, .ref x0), (1, .int x1)] → WC E p l e (gRm 3 (cBx Gz) (cBs Gz)) s m args below meth c H locs (MQ below (gQ (some (.int r)) (gC E G') (gx_C E)) args s (cBx Gz) (cBs Gz) (gx_C E)) (F0 m 43 ls [.int s0]) := by
    intro x0 x1 s0 G H locs ls h hG hS hl
    unfold cm_X10_board_J43 at h
    refine lv_istore_n (lv' := [(2, .int s0), (0, .ref x0), (1, .int x1)]) hx hb dX10_board_43 rfl hl (by decide) rfl (fun ls hl => ?_)
    refine lv_iload_n hx hb dX10_board_44 rfl (lv_at hl 0 rfl) ?_
    refine lv_istore_n (lv' := [(3, .int s0), (2, .int s0), (0, .ref x0), (1, .int x1)]) hx hb dX10_board_45 rfl hl (by decide) rfl (fun ls hl => ?_)
    exact L46 gF x0 x1 s0 s0 G _ _ _ h hG hS (lv_sub hl [2, 3, 1, 0] rfl)
  have J16 : ∀ (x0 : Nat) (x1 : Int32) (s0 : Int32) (G : GH) (H : Heap) (locs : List Loc) (ls : Array Slot), cm_X10_board_J16 x0 x1 s0 G = some (r, G') → gC E G H → va_S (gx_C E) s.heap H locs → lv_has ls 5 [(0, .ref x0), (1, .int x1)] → WC E p l e (gRm 3 (cBx Gz) (cBs Gz)) s m args below meth c H locs (MQ below (gQ (some (.int r)) (gC E G') (gx_C E)) args s (cBx Gz) (cBs Gz) (gx_C E)) (F0 m 16 ls [.int s0]) := by
    intro x0 x1 s0 G H locs ls h hG hS hl
    unfold cm_X10_board_J16 at h
    refine lv_istore_n (lv' := [(2, .int s0), (0, .ref x0), (1, .int x1)]) hx hb dX10_board_16 rfl hl (by decide) rfl (fun ls hl => ?_)
    refine lv_aload_n hx hb dX10_board_17 rfl (lv_at hl 1 rfl) ?_
    obtain ⟨v18, e18, h⟩ := g_bd h
    refine cg_X10_18 dX10_board_18 S hE hG e18 ?_
    refine lv_aload_n hx hb dX10_board_21 rfl (lv_at hl 1 rfl) ?_
    obtain ⟨v22, e22, h⟩ := g_bd h
    refine cg_X10_22 dX10_board_22 S hE hG e22 ?_
    refine lv_isub hx hb dX10_board_25 ?_
    refine lv_iload_n hx hb dX10_board_26 rfl (lv_at hl 0 rfl) ?_
    refine lv_icmp_ge (tgt := 42) hx hb dX10_board_27 (by decide) (fun c27 => ?_) (fun c27 => ?_)
    · have h := g_it c27 h
      refine lv_iload_n hx hb dX10_board_42 rfl (lv_at hl 0 rfl) ?_
      exact J43 x0 x1 s0 G _ _ _ h hG hS (lv_sub hl [1, 2] rfl)
    · have h := g_if c27 h
      refine lv_aload_n hx hb dX10_board_30 rfl (lv_at hl 1 rfl) ?_
      obtain ⟨v31, e31, h⟩ := g_bd h
      refine cg_X10_18 dX10_board_31 S hE hG e31 ?_
      refine lv_aload_n hx hb dX10_board_34 rfl (lv_at hl 1 rfl) ?_
      obtain ⟨v35, e35, h⟩ := g_bd h
      refine cg_X10_22 dX10_board_35 S hE hG e35 ?_
      refine lv_isub hx hb dX10_board_38 ?_
      refine lv_goto (tgt := 43) hx hb dX10_board_39 (by decide) ?_
      exact J43 x0 x1 (v31 - v35) G _ _ _ h hG hS (lv_sub hl [1, 2] rfl)
  unfold cm_X10_board at h
  refine lv_aload_n hx hb dX10_board_0 rfl (lv_at hl 0 rfl) ?_
  obtain ⟨v1, e1, h⟩ := g_bd h
  refine cg_X10_31 dX10_board_1 S hE hG e1 ?_
  refine lv_iconst (v := 5) hx hb dX10_board_4 (by decide) ?_
  refine lv_icmp_ge (tgt := 15) hx hb dX10_board_5 (by decide) (fun c5 => ?_) (fun c5 => ?_)
  · have h := g_it c5 h
    refine lv_iconst (v := 5) hx hb dX10_board_15 (by decide) ?_
    exact J16 x0 x1 5 Gz _ _ _ h hG hS (lv_sub hl [0, 1] rfl)
  · have h := g_if c5 h
    refine lv_aload_n hx hb dX10_board_8 rfl (lv_at hl 0 rfl) ?_
    obtain ⟨v9, e9, h⟩ := g_bd h
    refine cg_X10_31 dX10_board_9 S hE hG e9 ?_
    refine lv_goto (tgt := 16) hx hb dX10_board_12 (by decide) ?_
    exact J16 x0 x1 v9 Gz _ _ _ h hG hS (lv_sub hl [0, 1] rfl)
