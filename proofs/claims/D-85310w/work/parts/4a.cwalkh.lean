/-! walks of the component's methods: printed by cgen.py -/
set_option maxRecDepth 100000
theorem hc_X3_whole : cHd yX3_whole 0 := by decide +kernel
set_option maxHeartbeats 4000000 in
set_option maxRecDepth 100000 in
theorem wm_X3_whole (E : gX) (l : Launch) (hl9 : l.stackTraces = false) (x0 : Nat) (Gz : GH) (r : (GX Nat)) (h : cm_X3_whole x0 Gz = some r) : gMetX E l yX3_whole cX3_whole 3 (some (Jvm.ClassFile.FieldType.object "FairHouse$Exp\x72")) 71 [.ref x0] Gz (gRs (fun r => some (.ref r)) r) := by
  refine gMetX.of (own := RX3) (by decide +kernel) (Nat.le_of_ble_eq_true rfl) rfl ?_
  intro p e s m args below meth c S hr hk hx9 hE hC0 hG hS ls hl
  have hl : lv_has ls 3 [(0, .ref x0)] := hl
  have hx := S.1
  have hb := S.2.1
  unfold cm_X3_whole at h
  refine lv_aload_n hx hb dX3_whole_0 rfl (lv_at hl 0 rfl) ?_
  obtain ⟨v1, e1, h⟩ := g_bd h
  refine cg_X3_358 dX3_whole_1 S hE hG e1 ?_
  refine lv_istore_n (lv' := [(1, .int v1), (0, .ref x0)]) hx hb dX3_whole_4 rfl hl (by decide) rfl (fun ls hl => ?_)
  refine lv_aload_n hx hb dX3_whole_5 rfl (lv_at hl 1 rfl) ?_
  refine lv_iconst (v := 0) hx hb dX3_whole_6 (by decide) ?_
  obtain ⟨G7, e7, h⟩ := g_bd h
  refine cp_X3_358 dX3_whole_7 S hE hG hS hC0 e7 (fun H locs hG hS => ?_)
  refine lv_aload_n hx hb dX3_whole_10 rfl (lv_at hl 1 rfl) ?_
  obtain ⟨u11, t11, h⟩ := g_bd h
  rcases gXb_e h with ⟨qx11, e11, h⟩ | ⟨xx11, e11, rfl⟩
  rotate_left
  · exact c_xV (r := .inr xx11) (y := yX3_sum) (rest := []) dX3_whole_11 q1518 q1520 qs26 q125 q1521 hc_X3_sum rfl S hE hG hS hC0 hl.1 rfl (c_recv hE hG (ci := 10) rfl (by decide) (c_castM t11)) (wm_X3_sum E l hl9 60 x0 G7 _ e11) rfl (Nat.le_of_ble_eq_true rfl) ⟨Nat.le_of_ble_eq_true rfl, Nat.le_of_ble_eq_true rfl⟩ (fun hr9 => c_xthrew hC0 hr9 hS (fun H locs ce hG hS h1 h2 h3 => c_xout rfl hx9 hk hC0 hG hS h1 h2 h3))
  refine c_xV (r := .inl (some (.ref qx11.1), qx11.2)) (y := yX3_sum) (rest := []) dX3_whole_11 q1518 q1520 qs26 q125 q1521 hc_X3_sum rfl S hE hG hS hC0 hl.1 rfl (c_recv hE hG (ci := 10) rfl (by decide) (c_castM t11)) (wm_X3_sum E l hl9 60 x0 G7 _ e11) rfl (Nat.le_of_ble_eq_true rfl) ⟨Nat.le_of_ble_eq_true rfl, Nat.le_of_ble_eq_true rfl⟩ (fun hr9 => c_xback hC0 hr9 hS (fun H locs hG hS => ?_))
  refine lv_astore_n (lv' := [(2, .ref qx11.1), (1, .int v1), (0, .ref x0)]) hx hb dX3_whole_14 rfl hl (by decide) rfl (fun ls hl => ?_)
  refine lv_aload_n hx hb dX3_whole_15 rfl (lv_at hl 2 rfl) ?_
  refine lv_iload_n hx hb dX3_whole_16 rfl (lv_at hl 1 rfl) ?_
  obtain ⟨G17, e17, h⟩ := g_bd h
  refine cp_X3_358 dX3_whole_17 S hE hG hS hC0 e17 (fun H locs hG hS => ?_)
  refine lv_aload_n hx hb dX3_whole_20 rfl (lv_at hl 0 rfl) ?_
  cases h
  exact c_xret (v := some (.ref qx11.1)) (G1 := G17) rfl (c_aretW dX3_whole_21 (Or.inl ⟨_, rfl⟩) S hr hk hC0 hG hS rfl)
theorem hc_X3_isWord : cHd yX3_isWord 1 := by decide +kernel
set_option maxHeartbeats 4000000 in
set_option maxRecDepth 100000 in
theorem wm_X3_isWord (E : gX) (l : Launch) (x0 : Nat) (x1 : Nat) (Gz G' : GH) (r : Int32) (h : cm_X3_isWord x0 x1 Gz = some (r, G')) : gMetC E l yX3_isWord cX3_isWord 2 (some Jvm.ClassFile.FieldType.boolean) 7 [.ref x0, .ref x1] Gz G' (some (.int r)) := by
  refine gMetC.of (own := RX3) (by decide +kernel) (Nat.le_of_ble_eq_true rfl) rfl ?_
  intro p e s m args below meth c S hr hk hnm hE hC0 hG hS ls hl
  have hl : lv_has ls 2 [(0, .ref x0), (1, .ref x1)] := hl
  have hx := S.1
  have hb := S.2.1
  unfold cm_X3_isWord at h
  refine lv_aload_n hx hb dX3_isWord_0 rfl (lv_at hl 0 rfl) ?_
  obtain ⟨v1, e1, h⟩ := g_bd h
  refine cg_X3_58 dX3_isWord_1 S hE hG e1 ?_
  refine c_gets q723 rfl (hE.stat.1 0 (by decide)) dX3_isWord_4 S hS ?_
  rw [← hG.2.2.2.2.1]
  refine lv_acmp_ne (rx := (some v1)) (ry := (some (cK Gz (10 + 0)))) (tgt := 26) hx hb dX3_isWord_7 (by decide) (fun c7 => ?_) (fun c7 => ?_)
  · have h := g_if c7 h
    refine lv_iconst (v := 0) hx hb dX3_isWord_26 (by decide) ?_
    exact c_zretW dX3_isWord_27 S hr hk hC0 hG hS h
  · have h := g_it c7 h
    refine lv_aload_n hx hb dX3_isWord_10 rfl (lv_at hl 0 rfl) ?_
    obtain ⟨v11, e11, h⟩ := g_bd h
    refine cg_X3_77 dX3_isWord_11 S hE hG e11 ?_
    refine lv_aload_n hx hb dX3_isWord_14 rfl (lv_at hl 1 rfl) ?_
    obtain ⟨qx15, e15, h⟩ := g_bd h
    refine c_cSN (y := yX1_word) (rest := [.long v11]) dX3_isWord_15 (lw_nw q793 rfl) q794 q119 q795 hc_X1_word S hE hG hS hC0 hl.1 rfl (wm_X1_word E l x1 Gz _ _ e15) rfl (Nat.le_of_ble_eq_true rfl) ⟨Nat.le_of_ble_eq_true rfl, Nat.le_of_ble_eq_true rfl⟩ (fun H locs hG hS => ?_)
    refine W.lcmp hx hb dX3_isWord_18 ?_
    refine lv_if_ne (tgt := 26) hx hb dX3_isWord_19 (by decide) (fun c19 => ?_) (fun c19 => ?_)
    · have h := g_if c19 h
      refine lv_iconst (v := 0) hx hb dX3_isWord_26 (by decide) ?_
      exact c_zretW dX3_isWord_27 S hr hk hC0 hG hS h
    · have h := g_it c19 h
      refine lv_iconst (v := 1) hx hb dX3_isWord_22 (by decide) ?_
      refine lv_goto (tgt := 27) hx hb dX3_isWord_23 (by decide) ?_
      exact c_zretW dX3_isWord_27 S hr hk hC0 hG hS h
theorem hc_X3_takes : cHd yX3_takes 1 := by decide +kernel
set_option maxHeartbeats 4000000 in
set_option maxRecDepth 100000 in
theorem wm_X3_takes (E : gX) (l : Launch) (x0 : Nat) (x1 : Nat) (Gz G' : GH) (r : Int32) (h : cm_X3_takes x0 x1 Gz = some (r, G')) : gMetC E l yX3_takes cX3_takes 2 (some Jvm.ClassFile.FieldType.boolean) 8 [.ref x0, .ref x1] Gz G' (some (.int r)) := by
  refine gMetC.of (own := RX3) (by decide +kernel) (Nat.le_of_ble_eq_true rfl) rfl ?_
  intro p e s m args below meth c S hr hk hnm hE hC0 hG hS ls hl
  have hl : lv_has ls 2 [(0, .ref x0), (1, .ref x1)] := hl
  have hx := S.1
  have hb := S.2.1
  unfold cm_X3_takes at h
  refine lv_aload_n hx hb dX3_takes_0 rfl (lv_at hl 0 rfl) ?_
  refine lv_aload_n hx hb dX3_takes_1 rfl (lv_at hl 1 rfl) ?_
  obtain ⟨u2, t2, h⟩ := g_bd h
  obtain ⟨qx2, e2, h⟩ := g_bd h
  refine c_cV (y := yX3_isWord) (rest := []) dX3_takes_2 q789 q791 qs7 q125 q792 hc_X3_isWord rfl S hE hG hS hC0 hl.1 rfl (c_recv hE hG (ci := 10) rfl (by decide) (c_castM t2)) (wm_X3_isWord E l x0 x1 Gz _ _ e2) rfl (Nat.le_of_ble_eq_true rfl) ⟨Nat.le_of_ble_eq_true rfl, Nat.le_of_ble_eq_true rfl⟩ (fun H locs hG hS => ?_)
  refine lv_if_ne (tgt := 10) hx hb dX3_takes_5 (by decide) (fun c5 => ?_) (fun c5 => ?_)
  · have h := g_if c5 h
    refine lv_aload_n hx hb dX3_takes_10 rfl (lv_at hl 0 rfl) ?_
    obtain ⟨u11, t11, h⟩ := g_bd h
    obtain ⟨G11, e11, h⟩ := g_bd h
    refine c_cV (y := yX3_go) (rest := []) dX3_takes_11 q701 q703 qs2 q125 q704 hc_X3_go rfl S hE hG hS hC0 hl.1 rfl (c_recv hE hG (ci := 10) rfl (by decide) (c_castM t11)) (wm_X3_go E l x0 qx2.2 _ e11) rfl (Nat.le_of_ble_eq_true rfl) ⟨Nat.le_of_ble_eq_true rfl, Nat.le_of_ble_eq_true rfl⟩ (fun H locs hG hS => ?_)
    refine lv_iconst (v := 1) hx hb dX3_takes_14 (by decide) ?_
    exact c_zretW dX3_takes_15 S hr hk hC0 hG hS h
  · have h := g_it c5 h
    refine lv_iconst (v := 0) hx hb dX3_takes_8 (by decide) ?_
    exact c_zretW dX3_takes_9 S hr hk hC0 hG hS h
theorem hc_X3_old : cHd yX3_old 1 := by decide +kernel
set_option maxHeartbeats 4000000 in
set_option maxRecDepth 100000 in
theorem wm_X3_old (E : gX) (l : Launch) (hl9 : l.stackTraces = false) (x0 : Nat) (x1 : Int32) (Gz : GH) (r : (GX Int32)) (h : cm_X3_old x0 x1 Gz = some r) : gMetX E l yX3_old cX3_old 3 (some Jvm.ClassFile.FieldType.int) 9 [.ref x0, .int x1] Gz (gRs (fun r => some (.int r)) r) := by
  refine gMetX.of (own := RX3) (by decide +kernel) (Nat.le_of_ble_eq_true rfl) rfl ?_
  intro p e s m args below meth c S hr hk hx9 hE hC0 hG hS ls hl
  have hl : lv_has ls 3 [(0, .ref x0), (1, .int x1)] := hl
  have hx := S.1
  have hb := S.2.1
  have J25 : ∀ (x0 : Nat) (G : GH) (H : Heap) (locs : List Loc) (ls : Array Slot), cm_X3_old_J25 x0 G = some r → gC E G H → va_S (gx_C E) s.heap H locs → lv_has ls 3 [(0, .ref x0)] → WC E p l e (gRm 9 (cBx Gz) (cBs Gz)) s m args below meth c H locs (gXMQ E below (gRs (fun r => some (.int r)) r) args s Gz) (F0 m 25 ls []) := by
    intro x0 G H locs ls h hG hS hl
    unfold cm_X3_old_J25 at h
    refine lv_aload_n hx hb dX3_old_25 rfl (lv_at hl 0 rfl) ?_
    refine lv_iconst (v := 3) hx hb dX3_old_26 (by decide) ?_
    obtain ⟨u27, t27, h⟩ := g_bd h
    obtain ⟨qx27, e27, h⟩ := g_bd h
    refine c_cV (y := yX3_wrong) (rest := []) dX3_old_27 q817 q819 qs8 q125 q820 hc_X3_wrong rfl S hE hG hS hC0 hl.1 rfl (c_recv hE hG (ci := 10) rfl (by decide) (c_castM t27)) (wm_X3_wrong E l hl9 x0 3 G _ _ e27) rfl (Nat.le_of_ble_eq_true rfl) ⟨Nat.le_of_ble_eq_true rfl, Nat.le_of_ble_eq_true rfl⟩ (fun H locs hG hS => ?_)
    exact c_throwW dX3_old_30 S hE hG hS hC0 hx9 hk h
  unfold cm_X3_old at h
  refine lv_aload_n hx hb dX3_old_0 rfl (lv_at hl 0 rfl) ?_
  obtain ⟨u1, t1, h⟩ := g_bd h
  rcases gXb_e h with ⟨qx1, e1, h⟩ | ⟨xx1, e1, rfl⟩
  rotate_left
  · exact c_xV (r := .inr xx1) (y := yX3_needWord) (rest := []) dX3_old_1 q861 q863 qs13 q125 q864 hc_X3_needWord rfl S hE hG hS hC0 hl.1 rfl (c_recv hE hG (ci := 10) rfl (by decide) (c_castM t1)) (wm_X3_needWord E l hl9 x0 Gz _ e1) rfl (Nat.le_of_ble_eq_true rfl) ⟨Nat.le_of_ble_eq_true rfl, Nat.le_of_ble_eq_true rfl⟩ (fun hr9 => c_xthrew hC0 hr9 hS (fun H locs ce hG hS h1 h2 h3 => c_xout rfl hx9 hk hC0 hG hS h1 h2 h3))
  refine c_xV (r := .inl (none, qx1.2)) (y := yX3_needWord) (rest := []) dX3_old_1 q861 q863 qs13 q125 q864 hc_X3_needWord rfl S hE hG hS hC0 hl.1 rfl (c_recv hE hG (ci := 10) rfl (by decide) (c_castM t1)) (wm_X3_needWord E l hl9 x0 Gz _ e1) rfl (Nat.le_of_ble_eq_true rfl) ⟨Nat.le_of_ble_eq_true rfl, Nat.le_of_ble_eq_true rfl⟩ (fun hr9 => c_xback hC0 hr9 hS (fun H locs hG hS => ?_))
  refine lv_aload_n hx hb dX3_old_4 rfl (lv_at hl 0 rfl) ?_
  refine lv_aload_n hx hb dX3_old_5 rfl (lv_at hl 0 rfl) ?_
  obtain ⟨v6, e6, h⟩ := g_bd h
  refine cg_X3_77 dX3_old_6 S hE hG e6 ?_
  obtain ⟨u9, t9, h⟩ := g_bd h
  obtain ⟨v9, e9, h⟩ := g_bd h
  refine c_cV (y := yX3_named) (rest := []) dX3_old_9 q877 q879 qs14 q125 q880 hc_X3_named rfl S hE hG hS hC0 hl.1 rfl (c_recv hE hG (ci := 10) rfl (by decide) (c_castM t9)) (wm_X3_named E l x0 v6 qx1.2 _ e9) rfl (Nat.le_of_ble_eq_true rfl) ⟨Nat.le_of_ble_eq_true rfl, Nat.le_of_ble_eq_true rfl⟩ (fun H locs hG hS => ?_)
  refine c_astoreQ_n (lv' := [(2, va_rf v9), (0, .ref x0), (1, .int x1)]) hx hb dX3_old_12 rfl hl (by decide) (by cases v9 <;> rfl) (fun ls hl => ?_)
  refine c_aloadQ_n hx hb dX3_old_13 rfl (lv_at hl 0 rfl) ?_
  refine c_ifnull (tgt := 25) hx hb dX3_old_14 (by decide) (fun c14 => ?_) (fun c14 => ?_)
  · have h := g_it c14 h
    exact J25 x0 qx1.2 _ _ _ h hG hS (lv_sub hl [1] rfl)
  · have h := g_if c14 h
    refine c_aloadQ_n hx hb dX3_old_17 rfl (lv_at hl 0 rfl) ?_
    obtain ⟨b18, eb18, h⟩ := g_bd h
    have rb18 : va_rf v9 = .ref b18 := by rw [eb18]; rfl
    (try rw [rb18] at hl)
    (try rw [rb18])
    obtain ⟨u18, t18, h⟩ := g_bd h
    obtain ⟨v18, e18, h⟩ := g_bd h
    refine c_cV (y := yX5_sort) (rest := []) dX3_old_18 q1382 q1383 q1384 q147 q1385 hc_X5_sort rfl S hE hG hS hC0 hl.1 rfl (c_recv hE hG (ci := 12) rfl (by decide) (c_castM t18)) (wm_X5_sort E l b18 qx1.2 _ e18) rfl (Nat.le_of_ble_eq_true rfl) ⟨Nat.le_of_ble_eq_true rfl, Nat.le_of_ble_eq_true rfl⟩ (fun H locs hG hS => ?_)
    refine lv_iload_n hx hb dX3_old_21 rfl (lv_at hl 2 rfl) ?_
    refine lv_icmp_eq (tgt := 31) hx hb dX3_old_22 (by decide) (fun c22 => ?_) (fun c22 => ?_)
    · have h := g_it c22 h
      refine lv_aload_n hx hb dX3_old_31 rfl (lv_at hl 1 rfl) ?_
      obtain ⟨u32, t32, h⟩ := g_bd h
      obtain ⟨G32, e32, h⟩ := g_bd h
      refine c_cV (y := yX3_go) (rest := []) dX3_old_32 q701 q703 qs2 q125 q704 hc_X3_go rfl S hE hG hS hC0 hl.1 rfl (c_recv hE hG (ci := 10) rfl (by decide) (c_castM t32)) (wm_X3_go E l x0 qx1.2 _ e32) rfl (Nat.le_of_ble_eq_true rfl) ⟨Nat.le_of_ble_eq_true rfl, Nat.le_of_ble_eq_true rfl⟩ (fun H locs hG hS => ?_)
      refine lv_aload_n hx hb dX3_old_35 rfl (lv_at hl 0 rfl) ?_
      obtain ⟨u36, t36, h⟩ := g_bd h
      obtain ⟨v36, e36, h⟩ := g_bd h
      refine c_cV (y := yX5_number) (rest := []) dX3_old_36 q1386 q1387 q1388 q147 q1389 hc_X5_number rfl S hE hG hS hC0 hl.1 rfl (c_recv hE hG (ci := 12) rfl (by decide) (c_castM t36)) (wm_X5_number E l b18 G32 _ e36) rfl (Nat.le_of_ble_eq_true rfl) ⟨Nat.le_of_ble_eq_true rfl, Nat.le_of_ble_eq_true rfl⟩ (fun H locs hG hS => ?_)
      cases h
      exact c_xret (v := some (.int v36)) (G1 := G32) rfl (c_iretW dX3_old_39 S hr hk hC0 hG hS rfl)
    · have h := g_if c22 h
      exact J25 x0 qx1.2 _ _ _ h hG hS (lv_sub hl [1] rfl)
theorem hc_X31_init : cHd yX31_init 2 := by decide +kernel
set_option maxHeartbeats 4000000 in
set_option maxRecDepth 100000 in
theorem wm_X31_init (E : gX) (l : Launch) (x0 : Nat) (x1 : Int32) (x2 : Int32) (Gz G' : GH) (h : cm_X31_init x0 x1 x2 Gz = some G') : gMetC E l yX31_init cX31_init 3 none 3 [.ref x0, .int x1, .int x2] Gz G' none := by
  refine gMetC.of (own := RX31) (by decide +kernel) (Nat.le_of_ble_eq_true rfl) rfl ?_
  intro p e s m args below meth c S hr hk hnm hE hC0 hG hS ls hl
  have hl : lv_has ls 3 [(0, .ref x0), (1, .int x1), (2, .int x2)] := hl
  have hx := S.1
  have hb := S.2.1
  unfold cm_X31_init at h
  refine lv_aload_n hx hb dX31_init_0 rfl (lv_at hl 0 rfl) ?_
  obtain ⟨G1, e1, h⟩ := g_bd h
  refine c_cIN (y := yX30_init) (rest := []) dX31_init_1 (lw_nw q1651 rfl) q1652 q172 q1653 hc_X30_init rfl S hE hG hS hC0 hl.1 rfl (wm_X30_init E l x0 Gz _ e1) rfl (Nat.le_of_ble_eq_true rfl) ⟨Nat.le_of_ble_eq_true rfl, Nat.le_of_ble_eq_true rfl⟩ (fun H locs hG hS => ?_)
  refine lv_aload_n hx hb dX31_init_4 rfl (lv_at hl 0 rfl) ?_
  refine lv_iload_n hx hb dX31_init_5 rfl (lv_at hl 1 rfl) ?_
  obtain ⟨G6, e6, h⟩ := g_bd h
  refine cp_X31_7i dX31_init_6 S hE hG hS hC0 hnm e6 (fun H locs hG hS => ?_)
  refine lv_aload_n hx hb dX31_init_9 rfl (lv_at hl 0 rfl) ?_
  refine lv_iload_n hx hb dX31_init_10 rfl (lv_at hl 2 rfl) ?_
  obtain ⟨G11, e11, h⟩ := g_bd h
  refine cp_X31_13i dX31_init_11 S hE hG hS hC0 hnm e11 (fun H locs hG hS => ?_)
  exact c_vretW dX31_init_14 S hr hk hC0 hG hS h
theorem hc_X3_one : cHd yX3_one 0 := by decide +kernel
set_option maxHeartbeats 4000000 in
set_option maxRecDepth 100000 in
theorem wm_X3_one (E : gX) (l : Launch) (hl9 : l.stackTraces = false) (x0 : Nat) (Gz : GH) (r : (GX Nat)) (h : cm_X3_one x0 Gz = some r) : gMetX E l yX3_one cX3_one 5 (some (Jvm.ClassFile.FieldType.object "FairHouse$Cond")) 72 [.ref x0] Gz (gRs (fun r => some (.ref r)) r) := by
  refine gMetX.of (own := RX3) (by decide +kernel) (Nat.le_of_ble_eq_true rfl) rfl ?_
  intro p e s m args below meth c S hr hk hx9 hE hC0 hG hS ls hl
  have hl : lv_has ls 5 [(0, .ref x0)] := hl
  have hx := S.1
  have hb := S.2.1
  have J124 : ∀ (x0 : Nat) (x2 : Int32) (x3 : Nat) (x4 : Int32) (G : GH) (H : Heap) (locs : List Loc) (ls : Array Slot), cm_X3_one_J124 x0 x2 x3 x4 G = some r → gC E G H → va_S (gx_C E) s.heap H locs → lv_has ls 5 [(0, .ref x0), (2, .int x2), (3, .ref x3), (4, .int x4)] → WC E p l e (gRm 72 (cBx Gz) (cBs Gz)) s m args below meth c H locs (gXMQ E below (gRs (fun r => some (.ref r)) r) args s Gz) (F0 m 124 ls []) := by
    intro x0 x2 x3 x4 G H locs ls h hG hS hl
    unfold cm_X3_one_J124 at h
    refine lv_aload_n hx hb dX3_one_124 rfl (lv_at hl 0 rfl) ?_
    obtain ⟨u125, t125, h⟩ := g_bd h
    obtain ⟨G125, e125, h⟩ := g_bd h
    refine c_cV (y := yX3_go) (rest := []) dX3_one_125 q701 q703 qs2 q125 q704 hc_X3_go rfl S hE hG hS hC0 hl.1 rfl (c_recv hE hG (ci := 10) rfl (by decide) (c_castM t125)) (wm_X3_go E l x0 G _ e125) rfl (Nat.le_of_ble_eq_true rfl) ⟨Nat.le_of_ble_eq_true rfl, Nat.le_of_ble_eq_true rfl⟩ (fun H locs hG hS => ?_)
    obtain ⟨qx128, e128, h⟩ := g_bd h
    refine c_new (n := 4) dX3_one_128 q1662 q1663 q174 rfl in_X32 tyX32_ok rfl (by decide) (by decide) S hE hG hS hC0 e128 (fun H locs hG hS => ?_)
    refine lv_dup hx hb dX3_one_131 rfl ?_
    refine lv_iload hx hb dX3_one_132 (lv_at hl 3 rfl) ?_
    refine lv_aload_n hx hb dX3_one_134 rfl (lv_at hl 2 rfl) ?_
    refine lv_aload_n hx hb dX3_one_135 rfl (lv_at hl 0 rfl) ?_
    obtain ⟨u136, t136, h⟩ := g_bd h
    rcases gXb_e h with ⟨qx136, e136, h⟩ | ⟨xx136, e136, rfl⟩
    rotate_left
    · exact c_xV (r := .inr xx136) (y := yX3_whole) (rest := [.ref x3, .int x4, .ref qx128.1, .ref qx128.1]) dX3_one_136 q1514 q1516 qs25 q125 q1517 hc_X3_whole rfl S hE hG hS hC0 hl.1 rfl (c_recv hE hG (ci := 10) rfl (by decide) (c_castM t136)) (wm_X3_whole E l hl9 x0 qx128.2 _ e136) rfl (Nat.le_of_ble_eq_true rfl) ⟨Nat.le_of_ble_eq_true rfl, Nat.le_of_ble_eq_true rfl⟩ (fun hr9 => c_xthrew hC0 hr9 hS (fun H locs ce hG hS h1 h2 h3 => c_xout rfl hx9 hk hC0 hG hS h1 h2 h3))
    refine c_xV (r := .inl (some (.ref qx136.1), qx136.2)) (y := yX3_whole) (rest := [.ref x3, .int x4, .ref qx128.1, .ref qx128.1]) dX3_one_136 q1514 q1516 qs25 q125 q1517 hc_X3_whole rfl S hE hG hS hC0 hl.1 rfl (c_recv hE hG (ci := 10) rfl (by decide) (c_castM t136)) (wm_X3_whole E l hl9 x0 qx128.2 _ e136) rfl (Nat.le_of_ble_eq_true rfl) ⟨Nat.le_of_ble_eq_true rfl, Nat.le_of_ble_eq_true rfl⟩ (fun hr9 => c_xback hC0 hr9 hS (fun H locs hG hS => ?_))
    refine lv_iload_n hx hb dX3_one_139 rfl (lv_at hl 1 rfl) ?_
    obtain ⟨G140, e140, h⟩ := g_bd h
    refine c_cI (y := yX32_init) (rest := [.ref qx128.1]) dX3_one_140 q1664 q1665 q174 q1666 hc_X32_init rfl S hE hG hS hC0 hl.1 rfl (wm_X32_init E l qx128.1 x4 x3 qx136.1 x2 qx136.2 _ e140) rfl (Nat.le_of_ble_eq_true rfl) ⟨Nat.le_of_ble_eq_true rfl, Nat.le_of_ble_eq_true rfl⟩ (fun H locs hG hS => ?_)
    cases h
    exact c_xret (v := some (.ref qx128.1)) (G1 := G140) rfl (c_aretW dX3_one_143 (Or.inl ⟨_, rfl⟩) S hr hk hC0 hG hS rfl)
  have J94 : ∀ (x0 : Nat) (x2 : Int32) (x3 : Nat) (s0 : Int32) (G : GH) (H : Heap) (locs : List Loc) (ls : Array Slot), cm_X3_one_J94 x0 x2 x3 s0 G = some r → gC E G H → va_S (gx_C E) s.heap H locs → lv_has ls 5 [(0, .ref x0), (2, .int x2), (3, .ref x3)] → WC E p l e (gRm 72 (cBx Gz) (cBs Gz)) s m args below meth c H locs (gXMQ E below (gRs (fun r => some (.ref r)) r) args s Gz) (F0 m 94 ls [.int s0]) := by
    intro x0 x2 x3 s0 G H locs ls h hG hS hl
    unfold cm_X3_one_J94 at h
    refine lv_istore (lv' := [(4, .int s0), (0, .ref x0), (2, .int x2), (3, .ref x3)]) hx hb dX3_one_94 hl (by decide) rfl (fun ls hl => ?_)
    refine lv_iload hx hb dX3_one_96 (lv_at hl 0 rfl) ?_
    refine lv_bipush (v := 60) hx hb dX3_one_98 (by decide) ?_
    refine lv_icmp_eq (tgt := 124) hx hb dX3_one_100 (by decide) (fun c100 => ?_) (fun c100 => ?_)
    · have h := g_it c100 h
      exact J124 x0 x2 x3 s0 G _ _ _ h hG hS (lv_sub hl [1, 2, 3, 0] rfl)
    · have h := g_if c100 h
      refine lv_iload hx hb dX3_one_103 (lv_at hl 0 rfl) ?_
      refine lv_bipush (v := 62) hx hb dX3_one_105 (by decide) ?_
      refine lv_icmp_eq (tgt := 124) hx hb dX3_one_107 (by decide) (fun c107 => ?_) (fun c107 => ?_)
      · have h := g_it c107 h
        exact J124 x0 x2 x3 s0 G _ _ _ h hG hS (lv_sub hl [1, 2, 3, 0] rfl)
      · have h := g_if c107 h
        refine lv_iload hx hb dX3_one_110 (lv_at hl 0 rfl) ?_
        refine lv_sipush (v := 256) hx hb dX3_one_112 (by decide) ?_
        refine lv_icmp_ge (tgt := 124) hx hb dX3_one_115 (by decide) (fun c115 => ?_) (fun c115 => ?_)
        · have h := g_it c115 h
          exact J124 x0 x2 x3 s0 G _ _ _ h hG hS (lv_sub hl [1, 2, 3, 0] rfl)
        · have h := g_if c115 h
          refine lv_aload_n hx hb dX3_one_118 rfl (lv_at hl 1 rfl) ?_
          refine lv_iconst (v := 1) hx hb dX3_one_119 (by decide) ?_
          obtain ⟨u120, t120, h⟩ := g_bd h
          obtain ⟨qx120, e120, h⟩ := g_bd h
          refine c_cV (y := yX3_wrong) (rest := []) dX3_one_120 q817 q819 qs8 q125 q820 hc_X3_wrong rfl S hE hG hS hC0 hl.1 rfl (c_recv hE hG (ci := 10) rfl (by decide) (c_castM t120)) (wm_X3_wrong E l hl9 x0 1 G _ _ e120) rfl (Nat.le_of_ble_eq_true rfl) ⟨Nat.le_of_ble_eq_true rfl, Nat.le_of_ble_eq_true rfl⟩ (fun H locs hG hS => ?_)
          exact c_throwW dX3_one_123 S hE hG hS hC0 hx9 hk h
  have J46 : ∀ (x0 : Nat) (s0 : Int32) (G : GH) (H : Heap) (locs : List Loc) (ls : Array Slot), cm_X3_one_J46 x0 s0 G = some r → gC E G H → va_S (gx_C E) s.heap H locs → lv_has ls 5 [(0, .ref x0)] → WC E p l e (gRm 72 (cBx Gz) (cBs Gz)) s m args below meth c H locs (gXMQ E below (gRs (fun r => some (.ref r)) r) args s Gz) (F0 m 46 ls [.int s0]) := by
    intro x0 s0 G H locs ls h hG hS hl
    unfold cm_X3_one_J46 at h
    refine lv_istore_n (lv' := [(2, .int s0), (0, .ref x0)]) hx hb dX3_one_46 rfl hl (by decide) rfl (fun ls hl => ?_)
    refine lv_aload_n hx hb dX3_one_47 rfl (lv_at hl 1 rfl) ?_
    refine c_ldcW (i := 71) rfl dX3_one_48 S hE hG ?_
    obtain ⟨u51, t51, h⟩ := g_bd h
    obtain ⟨qx51, e51, h⟩ := g_bd h
    refine c_cV (y := yX3_takes) (rest := []) dX3_one_51 q1638 q1640 qs32 q125 q1641 hc_X3_takes rfl S hE hG hS hC0 hl.1 rfl (c_recv hE hG (ci := 10) rfl (by decide) (c_castM t51)) (wm_X3_takes E l x0 (cK G (100 + 71)) G _ _ e51) rfl (Nat.le_of_ble_eq_true rfl) ⟨Nat.le_of_ble_eq_true rfl, Nat.le_of_ble_eq_true rfl⟩ (fun H locs hG hS => ?_)
    refine lv_if_eq (tgt := 71) hx hb dX3_one_54 (by decide) (fun c54 => ?_) (fun c54 => ?_)
    · have h := g_it c54 h
      refine lv_aload_n hx hb dX3_one_71 rfl (lv_at hl 1 rfl) ?_
      obtain ⟨u72, t72, h⟩ := g_bd h
      rcases gXb_e h with ⟨qx72, e72, h⟩ | ⟨xx72, e72, rfl⟩
      rotate_left
      · exact c_xV (r := .inr xx72) (y := yX3_whole) (rest := []) dX3_one_72 q1514 q1516 qs25 q125 q1517 hc_X3_whole rfl S hE hG hS hC0 hl.1 rfl (c_recv hE hG (ci := 10) rfl (by decide) (c_castM t72)) (wm_X3_whole E l hl9 x0 qx51.2 _ e72) rfl (Nat.le_of_ble_eq_true rfl) ⟨Nat.le_of_ble_eq_true rfl, Nat.le_of_ble_eq_true rfl⟩ (fun hr9 => c_xthrew hC0 hr9 hS (fun H locs ce hG hS h1 h2 h3 => c_xout rfl hx9 hk hC0 hG hS h1 h2 h3))
      refine c_xV (r := .inl (some (.ref qx72.1), qx72.2)) (y := yX3_whole) (rest := []) dX3_one_72 q1514 q1516 qs25 q125 q1517 hc_X3_whole rfl S hE hG hS hC0 hl.1 rfl (c_recv hE hG (ci := 10) rfl (by decide) (c_castM t72)) (wm_X3_whole E l hl9 x0 qx51.2 _ e72) rfl (Nat.le_of_ble_eq_true rfl) ⟨Nat.le_of_ble_eq_true rfl, Nat.le_of_ble_eq_true rfl⟩ (fun hr9 => c_xback hC0 hr9 hS (fun H locs hG hS => ?_))
      refine lv_astore_n (lv' := [(3, .ref qx72.1), (2, .int s0), (0, .ref x0)]) hx hb dX3_one_75 rfl hl (by decide) rfl (fun ls hl => ?_)
      refine lv_aload_n hx hb dX3_one_76 rfl (lv_at hl 2 rfl) ?_
      obtain ⟨v77, e77, h⟩ := g_bd h
      refine cg_X3_58 dX3_one_77 S hE hG e77 ?_
      refine c_gets q735 rfl (hE.stat.1 2 (by decide)) dX3_one_80 S hS ?_
      rw [← hG.2.2.2.2.1]
      refine lv_acmp_ne (rx := (some v77)) (ry := (some (cK qx72.2 (10 + 2)))) (tgt := 93) hx hb dX3_one_83 (by decide) (fun c83 => ?_) (fun c83 => ?_)
      · have h := g_if c83 h
        refine lv_iconst (v := 0) hx hb dX3_one_93 (by decide) ?_
        exact J94 x0 s0 qx72.1 0 qx72.2 _ _ _ h hG hS (lv_sub hl [2, 1, 0] rfl)
      · have h := g_it c83 h
        refine lv_aload_n hx hb dX3_one_86 rfl (lv_at hl 2 rfl) ?_
        obtain ⟨v87, e87, h⟩ := g_bd h
        refine cg_X3_96 dX3_one_87 S hE hG e87 ?_
        refine lv_goto (tgt := 94) hx hb dX3_one_90 (by decide) ?_
        exact J94 x0 s0 qx72.1 v87 qx72.2 _ _ _ h hG hS (lv_sub hl [2, 1, 0] rfl)
    · have h := g_if c54 h
      obtain ⟨qx57, e57, h⟩ := g_bd h
      refine c_new (n := 2) dX3_one_57 q1642 q1643 q173 rfl in_X31 tyX31_ok rfl (by decide) (by decide) S hE hG hS hC0 e57 (fun H locs hG hS => ?_)
      refine lv_dup hx hb dX3_one_60 rfl ?_
      refine lv_aload_n hx hb dX3_one_61 rfl (lv_at hl 1 rfl) ?_
      refine lv_iconst (v := 1) hx hb dX3_one_62 (by decide) ?_
      obtain ⟨u63, t63, h⟩ := g_bd h
      rcases gXb_e h with ⟨qx63, e63, h⟩ | ⟨xx63, e63, rfl⟩
      rotate_left
      · exact c_xV (r := .inr xx63) (y := yX3_old) (rest := [.ref qx57.1, .ref qx57.1]) dX3_one_63 q1644 q1646 qs33 q125 q1647 hc_X3_old rfl S hE hG hS hC0 hl.1 rfl (c_recv hE hG (ci := 10) rfl (by decide) (c_castM t63)) (wm_X3_old E l hl9 x0 1 qx57.2 _ e63) rfl (Nat.le_of_ble_eq_true rfl) ⟨Nat.le_of_ble_eq_true rfl, Nat.le_of_ble_eq_true rfl⟩ (fun hr9 => c_xthrew hC0 hr9 hS (fun H locs ce hG hS h1 h2 h3 => c_xout rfl hx9 hk hC0 hG hS h1 h2 h3))
      refine c_xV (r := .inl (some (.int qx63.1), qx63.2)) (y := yX3_old) (rest := [.ref qx57.1, .ref qx57.1]) dX3_one_63 q1644 q1646 qs33 q125 q1647 hc_X3_old rfl S hE hG hS hC0 hl.1 rfl (c_recv hE hG (ci := 10) rfl (by decide) (c_castM t63)) (wm_X3_old E l hl9 x0 1 qx57.2 _ e63) rfl (Nat.le_of_ble_eq_true rfl) ⟨Nat.le_of_ble_eq_true rfl, Nat.le_of_ble_eq_true rfl⟩ (fun hr9 => c_xback hC0 hr9 hS (fun H locs hG hS => ?_))
      refine lv_iload_n hx hb dX3_one_66 rfl (lv_at hl 0 rfl) ?_
      obtain ⟨G67, e67, h⟩ := g_bd h
      refine c_cI (y := yX31_init) (rest := [.ref qx57.1]) dX3_one_67 q1648 q1649 q173 q1650 hc_X31_init rfl S hE hG hS hC0 hl.1 rfl (wm_X31_init E l qx57.1 qx63.1 s0 qx63.2 _ e67) rfl (Nat.le_of_ble_eq_true rfl) ⟨Nat.le_of_ble_eq_true rfl, Nat.le_of_ble_eq_true rfl⟩ (fun H locs hG hS => ?_)
      cases h
      exact c_xret (v := some (.ref qx57.1)) (G1 := G67) rfl (c_aretW dX3_one_70 (Or.inl ⟨_, rfl⟩) S hr hk hC0 hG hS rfl)
  have L2 : ∀ (n : Nat) (x0 : Nat) (x1 : Int32) (G : GH) (H : Heap) (locs : List Loc) (ls : Array Slot), cm_X3_one_L2 n x0 x1 G = some r → gC E G H → va_S (gx_C E) s.heap H locs → lv_has ls 5 [(0, .ref x0), (1, .int x1)] → WC E p l e (gRm 72 (cBx Gz) (cBs Gz)) s m args below meth c H locs (gXMQ E below (gRs (fun r => some (.ref r)) r) args s Gz) (F0 m 2 ls []) := by
    intro n2
    induction n2 with
    | zero =>
      intro x0 x1 G H locs ls h
      cases h
    | succ n2 ih2 =>
      intro x0 x1 G H locs ls h hG hS hl
      have h : cm_X3_one_B2 (cm_X3_one_L2 n2) x0 x1 G = some r := h
      unfold cm_X3_one_B2 at h
      refine lv_aload_n hx hb dX3_one_2 rfl (lv_at hl 0 rfl) ?_
      refine c_ldcW (i := 70) rfl dX3_one_3 S hE hG ?_
      obtain ⟨u6, t6, h⟩ := g_bd h
      obtain ⟨qx6, e6, h⟩ := g_bd h
      refine c_cV (y := yX3_isWord) (rest := []) dX3_one_6 q789 q791 qs7 q125 q792 hc_X3_isWord rfl S hE hG hS hC0 hl.1 rfl (c_recv hE hG (ci := 10) rfl (by decide) (c_castM t6)) (wm_X3_isWord E l x0 (cK G (100 + 70)) G _ _ e6) rfl (Nat.le_of_ble_eq_true rfl) ⟨Nat.le_of_ble_eq_true rfl, Nat.le_of_ble_eq_true rfl⟩ (fun H locs hG hS => ?_)
      refine lv_if_eq (tgt := 34) hx hb dX3_one_9 (by decide) (fun c9 => ?_) (fun c9 => ?_)
      · have h := g_it c9 h
        refine lv_iload_n hx hb dX3_one_34 rfl (lv_at hl 1 rfl) ?_
        refine lv_iconst (v := 2) hx hb dX3_one_35 (by decide) ?_
        refine lv_irem hx hb dX3_one_36 (by decide) ?_
        refine lv_iconst (v := 1) hx hb dX3_one_37 (by decide) ?_
        refine lv_icmp_ne (tgt := 45) hx hb dX3_one_38 (by decide) (fun c38 => ?_) (fun c38 => ?_)
        · have h := g_if c38 h
          refine lv_iconst (v := 0) hx hb dX3_one_45 (by decide) ?_
          exact J46 x0 0 qx6.2 _ _ _ h hG hS (lv_sub hl [0] rfl)
        · have h := g_it c38 h
          refine lv_iconst (v := 1) hx hb dX3_one_41 (by decide) ?_
          refine lv_goto (tgt := 46) hx hb dX3_one_42 (by decide) ?_
          exact J46 x0 1 qx6.2 _ _ _ h hG hS (lv_sub hl [0] rfl)
      · have h := g_if c9 h
        refine lv_iload_n hx hb dX3_one_12 rfl (lv_at hl 1 rfl) ?_
        refine lv_bipush (v := 12) hx hb dX3_one_13 (by decide) ?_
        refine lv_icmp_ne (tgt := 24) hx hb dX3_one_15 (by decide) (fun c15 => ?_) (fun c15 => ?_)
        · have h := g_if c15 h
          refine lv_iinc (k := 1) (v := (x1 + 1)) (lv' := [(1, .int (x1 + 1)), (0, .ref x0)]) hx hb dX3_one_24 hl rfl rfl (by decide) rfl (fun ls hl => ?_)
          refine lv_aload_n hx hb dX3_one_27 rfl (lv_at hl 1 rfl) ?_
          obtain ⟨u28, t28, h⟩ := g_bd h
          obtain ⟨G28, e28, h⟩ := g_bd h
          refine c_cV (y := yX3_go) (rest := []) dX3_one_28 q701 q703 qs2 q125 q704 hc_X3_go rfl S hE hG hS hC0 hl.1 rfl (c_recv hE hG (ci := 10) rfl (by decide) (c_castM t28)) (wm_X3_go E l x0 qx6.2 _ e28) rfl (Nat.le_of_ble_eq_true rfl) ⟨Nat.le_of_ble_eq_true rfl, Nat.le_of_ble_eq_true rfl⟩ (fun H locs hG hS => ?_)
          refine lv_goto (tgt := 2) hx hb dX3_one_31 (by decide) ?_
          exact ih2 x0 (x1 + 1) G28 _ _ _ h hG hS (lv_sub hl [1, 0] rfl)
        · have h := g_it c15 h
          refine lv_aload_n hx hb dX3_one_18 rfl (lv_at hl 0 rfl) ?_
          refine lv_iconst (v := 4) hx hb dX3_one_19 (by decide) ?_
          obtain ⟨u20, t20, h⟩ := g_bd h
          obtain ⟨qx20, e20, h⟩ := g_bd h
          refine c_cV (y := yX3_wrong) (rest := []) dX3_one_20 q817 q819 qs8 q125 q820 hc_X3_wrong rfl S hE hG hS hC0 hl.1 rfl (c_recv hE hG (ci := 10) rfl (by decide) (c_castM t20)) (wm_X3_wrong E l hl9 x0 4 qx6.2 _ _ e20) rfl (Nat.le_of_ble_eq_true rfl) ⟨Nat.le_of_ble_eq_true rfl, Nat.le_of_ble_eq_true rfl⟩ (fun H locs hG hS => ?_)
          exact c_throwW dX3_one_23 S hE hG hS hC0 hx9 hk h
  unfold cm_X3_one at h
  refine lv_iconst (v := 0) hx hb dX3_one_0 (by decide) ?_
  refine lv_istore_n (lv' := [(1, .int 0), (0, .ref x0)]) hx hb dX3_one_1 rfl hl (by decide) rfl (fun ls hl => ?_)
  exact L2 gF x0 0 Gz _ _ _ h hG hS (lv_sub hl [1, 0] rfl)
theorem hc_X33_init : cHd yX33_init 1 := by decide +kernel
set_option maxHeartbeats 4000000 in
set_option maxRecDepth 100000 in
theorem wm_X33_init (E : gX) (l : Launch) (x0 : Nat) (x1 : Int32) (Gz G' : GH) (h : cm_X33_init x0 x1 Gz = some G') : gMetC E l yX33_init cX33_init 2 none 5 [.ref x0, .int x1] Gz G' none := by
  refine gMetC.of (own := RX33) (by decide +kernel) (Nat.le_of_ble_eq_true rfl) rfl ?_
  intro p e s m args below meth c S hr hk hnm hE hC0 hG hS ls hl
  have hl : lv_has ls 2 [(0, .ref x0), (1, .int x1)] := hl
  have hx := S.1
  have hb := S.2.1
  unfold cm_X33_init at h
  refine lv_aload_n hx hb dX33_init_0 rfl (lv_at hl 0 rfl) ?_
  obtain ⟨G1, e1, h⟩ := g_bd h
  refine c_cIN (y := yX30_init) (rest := []) dX33_init_1 (lw_nw q1688 rfl) q1652 q172 q1653 hc_X30_init rfl S hE hG hS hC0 hl.1 rfl (wm_X30_init E l x0 Gz _ e1) rfl (Nat.le_of_ble_eq_true rfl) ⟨Nat.le_of_ble_eq_true rfl, Nat.le_of_ble_eq_true rfl⟩ (fun H locs hG hS => ?_)
  refine lv_aload_n hx hb dX33_init_4 rfl (lv_at hl 0 rfl) ?_
  obtain ⟨qx5, e5, h⟩ := g_bd h
  refine c_new (n := 3) dX33_init_5 q1689 q338 q128 rfl in_J6 tyJ6_ok rfl (by decide) (by decide) S hE hG hS hC0 e5 (fun H locs hG hS => ?_)
  refine lv_dup hx hb dX33_init_8 rfl ?_
  refine lv_iconst (v := 2) hx hb dX33_init_9 (by decide) ?_
  obtain ⟨G10, e10, h⟩ := g_bd h
  refine c_cI (y := yJ6_init_2) (rest := [.ref qx5.1, .ref x0]) dX33_init_10 q1690 q364 q128 q365 hc_J6_init_2 rfl S hE hG hS hC0 hl.1 rfl (wm_J6_init_2 E l qx5.1 2 qx5.2 _ e10) rfl (Nat.le_of_ble_eq_true rfl) ⟨Nat.le_of_ble_eq_true rfl, Nat.le_of_ble_eq_true rfl⟩ (fun H locs hG hS => ?_)
  obtain ⟨G13, e13, h⟩ := g_bd h
  refine cp_X33_12i dX33_init_13 S hE hG hS hC0 hnm e13 (fun H locs hG hS => ?_)
  refine lv_aload_n hx hb dX33_init_16 rfl (lv_at hl 0 rfl) ?_
  refine lv_iload_n hx hb dX33_init_17 rfl (lv_at hl 1 rfl) ?_
  obtain ⟨G18, e18, h⟩ := g_bd h
  refine cp_X33_18i dX33_init_18 S hE hG hS hC0 hnm e18 (fun H locs hG hS => ?_)
  exact c_vretW dX33_init_21 S hr hk hC0 hG hS h
theorem hc_X3_cond : cHd yX3_cond 0 := by decide +kernel
set_option maxHeartbeats 4000000 in
set_option maxRecDepth 100000 in
theorem wm_X3_cond (E : gX) (l : Launch) (hl9 : l.stackTraces = false) (x0 : Nat) (Gz : GH) (r : (GX Nat)) (h : cm_X3_cond x0 Gz = some r) : gMetX E l yX3_cond cX3_cond 3 (some (Jvm.ClassFile.FieldType.object "FairHouse$Cond")) 73 [.ref x0] Gz (gRs (fun r => some (.ref r)) r) := by
  refine gMetX.of (own := RX3) (by decide +kernel) (Nat.le_of_ble_eq_true rfl) rfl ?_
  intro p e s m args below meth c S hr hk hx9 hE hC0 hG hS ls hl
  have hl : lv_has ls 3 [(0, .ref x0)] := hl
  have hx := S.1
  have hb := S.2.1
  have L51 : ∀ (n : Nat) (x0 : Nat) (x2 : Nat) (G : GH) (H : Heap) (locs : List Loc) (ls : Array Slot), cm_X3_cond_L51 n x0 x2 G = some r → gC E G H → va_S (gx_C E) s.heap H locs → lv_has ls 3 [(0, .ref x0), (2, .ref x2)] → WC E p l e (gRm 73 (cBx Gz) (cBs Gz)) s m args below meth c H locs (gXMQ E below (gRs (fun r => some (.ref r)) r) args s Gz) (F0 m 51 ls []) := by
    intro n51
    induction n51 with
    | zero =>
      intro x0 x2 G H locs ls h
      cases h
    | succ n51 ih51 =>
      have J68 : ∀ (x0 : Nat) (x2 : Nat) (s0 : Nat) (s1 : Nat) (G : GH) (H : Heap) (locs : List Loc) (ls : Array Slot), cm_X3_cond_J68 (cm_X3_cond_L51 n51) x0 x2 s0 s1 G = some r → gC E G H → va_S (gx_C E) s.heap H locs → lv_has ls 3 [(0, .ref x0), (2, .ref x2)] → WC E p l e (gRm 73 (cBx Gz) (cBs Gz)) s m args below meth c H locs (gXMQ E below (gRs (fun r => some (.ref r)) r) args s Gz) (F0 m 68 ls [.ref s1, .ref s0]) := by
        intro x0 x2 s0 s1 G H locs ls h hG hS hl
        unfold cm_X3_cond_J68 at h
        obtain ⟨u68, t68, h⟩ := g_bd h
        obtain ⟨qx68, e68, h⟩ := g_bd h
        refine c_cV (y := yX3_takes) (rest := []) dX3_cond_68 q1638 q1640 qs32 q125 q1641 hc_X3_takes rfl S hE hG hS hC0 hl.1 rfl (c_recv hE hG (ci := 10) rfl (by decide) (c_castM t68)) (wm_X3_takes E l s0 s1 G _ _ e68) rfl (Nat.le_of_ble_eq_true rfl) ⟨Nat.le_of_ble_eq_true rfl, Nat.le_of_ble_eq_true rfl⟩ (fun H locs hG hS => ?_)
        refine lv_if_eq (tgt := 89) hx hb dX3_cond_71 (by decide) (fun c71 => ?_) (fun c71 => ?_)
        · have h := g_it c71 h
          refine lv_aload_n hx hb dX3_cond_89 rfl (lv_at hl 1 rfl) ?_
          cases h
          exact c_xret (v := some (.ref x2)) (G1 := qx68.2) rfl (c_aretW dX3_cond_90 (Or.inl ⟨_, rfl⟩) S hr hk hC0 hG hS rfl)
        · have h := g_if c71 h
          refine lv_aload_n hx hb dX3_cond_74 rfl (lv_at hl 1 rfl) ?_
          obtain ⟨v75, e75, h⟩ := g_bd h
          refine cg_X3_416 dX3_cond_75 S hE hG e75 ?_
          refine lv_aload_n hx hb dX3_cond_78 rfl (lv_at hl 0 rfl) ?_
          obtain ⟨u79, t79, h⟩ := g_bd h
          rcases gXb_e h with ⟨qx79, e79, h⟩ | ⟨xx79, e79, rfl⟩
          rotate_left
          · exact c_xV (r := .inr xx79) (y := yX3_one) (rest := [.ref v75]) dX3_cond_79 q1632 q1634 qs31 q125 q1635 hc_X3_one rfl S hE hG hS hC0 hl.1 rfl (c_recv hE hG (ci := 10) rfl (by decide) (c_castM t79)) (wm_X3_one E l hl9 x0 qx68.2 _ e79) rfl (Nat.le_of_ble_eq_true rfl) ⟨Nat.le_of_ble_eq_true rfl, Nat.le_of_ble_eq_true rfl⟩ (fun hr9 => c_xthrew hC0 hr9 hS (fun H locs ce hG hS h1 h2 h3 => c_xout rfl hx9 hk hC0 hG hS h1 h2 h3))
          refine c_xV (r := .inl (some (.ref qx79.1), qx79.2)) (y := yX3_one) (rest := [.ref v75]) dX3_cond_79 q1632 q1634 qs31 q125 q1635 hc_X3_one rfl S hE hG hS hC0 hl.1 rfl (c_recv hE hG (ci := 10) rfl (by decide) (c_castM t79)) (wm_X3_one E l hl9 x0 qx68.2 _ e79) rfl (Nat.le_of_ble_eq_true rfl) ⟨Nat.le_of_ble_eq_true rfl, Nat.le_of_ble_eq_true rfl⟩ (fun hr9 => c_xback hC0 hr9 hS (fun H locs hG hS => ?_))
          obtain ⟨u82, t82, h⟩ := g_bd h
          obtain ⟨qx82, e82, h⟩ := g_bd h
          refine c_cV (y := yJ6_add) (rest := []) dX3_cond_82 q920 q921 q922 q128 q923 hc_J6_add rfl S hE hG hS hC0 hl.1 rfl (c_recv hE hG (ci := 2) rfl (by decide) (c_castM t82)) (wm_J6_add E l v75 qx79.1 qx79.2 _ _ e82) rfl (Nat.le_of_ble_eq_true rfl) ⟨Nat.le_of_ble_eq_true rfl, Nat.le_of_ble_eq_true rfl⟩ (fun H locs hG hS => ?_)
          refine lv_pop hx hb dX3_cond_85 rfl ?_
          refine lv_goto (tgt := 51) hx hb dX3_cond_86 (by decide) ?_
          exact ih51 x0 x2 qx82.2 _ _ _ h hG hS (lv_sub hl [0, 1] rfl)
      intro x0 x2 G H locs ls h hG hS hl
      have h : cm_X3_cond_B51 (cm_X3_cond_L51 n51) x0 x2 G = some r := h
      unfold cm_X3_cond_B51 at h
      refine lv_aload_n hx hb dX3_cond_51 rfl (lv_at hl 0 rfl) ?_
      refine lv_aload_n hx hb dX3_cond_52 rfl (lv_at hl 1 rfl) ?_
      obtain ⟨v53, e53, h⟩ := g_bd h
      refine cg_X3_419 dX3_cond_53 S hE hG e53 ?_
      refine lv_if_eq (tgt := 65) hx hb dX3_cond_56 (by decide) (fun c56 => ?_) (fun c56 => ?_)
      · have h := g_it c56 h
        refine c_ldcW (i := 73) rfl dX3_cond_65 S hE hG ?_
        exact J68 x0 x2 x0 (cK G (100 + 73)) G _ _ _ h hG hS (lv_sub hl [0, 1] rfl)
      · have h := g_if c56 h
        refine c_ldcW (i := 72) rfl dX3_cond_59 S hE hG ?_
        refine lv_goto (tgt := 68) hx hb dX3_cond_62 (by decide) ?_
        exact J68 x0 x2 x0 (cK G (100 + 72)) G _ _ _ h hG hS (lv_sub hl [0, 1] rfl)
  have J27 : ∀ (x0 : Nat) (x1 : Nat) (G : GH) (H : Heap) (locs : List Loc) (ls : Array Slot), cm_X3_cond_J27 x0 x1 G = some r → gC E G H → va_S (gx_C E) s.heap H locs → lv_has ls 3 [(0, .ref x0), (1, .ref x1)] → WC E p l e (gRm 73 (cBx Gz) (cBs Gz)) s m args below meth c H locs (gXMQ E below (gRs (fun r => some (.ref r)) r) args s Gz) (F0 m 27 ls []) := by
    intro x0 x1 G H locs ls h hG hS hl
    unfold cm_X3_cond_J27 at h
    obtain ⟨qx27, e27, h⟩ := g_bd h
    refine c_new (n := 2) dX3_cond_27 q1683 q1684 q175 rfl in_X33 tyX33_ok rfl (by decide) (by decide) S hE hG hS hC0 e27 (fun H locs hG hS => ?_)
    refine lv_dup hx hb dX3_cond_30 rfl ?_
    refine lv_aload_n hx hb dX3_cond_31 rfl (lv_at hl 0 rfl) ?_
    refine c_ldcW (i := 72) rfl dX3_cond_32 S hE hG ?_
    obtain ⟨u35, t35, h⟩ := g_bd h
    obtain ⟨qx35, e35, h⟩ := g_bd h
    refine c_cV (y := yX3_isWord) (rest := [.ref qx27.1, .ref qx27.1]) dX3_cond_35 q789 q791 qs7 q125 q792 hc_X3_isWord rfl S hE hG hS hC0 hl.1 rfl (c_recv hE hG (ci := 10) rfl (by decide) (c_castM t35)) (wm_X3_isWord E l x0 (cK qx27.2 (100 + 72)) qx27.2 _ _ e35) rfl (Nat.le_of_ble_eq_true rfl) ⟨Nat.le_of_ble_eq_true rfl, Nat.le_of_ble_eq_true rfl⟩ (fun H locs hG hS => ?_)
    obtain ⟨G38, e38, h⟩ := g_bd h
    refine c_cI (y := yX33_init) (rest := [.ref qx27.1]) dX3_cond_38 q1685 q1686 q175 q1687 hc_X33_init rfl S hE hG hS hC0 hl.1 rfl (wm_X33_init E l qx27.1 qx35.1 qx35.2 _ e38) rfl (Nat.le_of_ble_eq_true rfl) ⟨Nat.le_of_ble_eq_true rfl, Nat.le_of_ble_eq_true rfl⟩ (fun H locs hG hS => ?_)
    refine lv_astore_n (lv' := [(2, .ref qx27.1), (0, .ref x0), (1, .ref x1)]) hx hb dX3_cond_41 rfl hl (by decide) rfl (fun ls hl => ?_)
    refine lv_aload_n hx hb dX3_cond_42 rfl (lv_at hl 0 rfl) ?_
    obtain ⟨v43, e43, h⟩ := g_bd h
    refine cg_X3_416 dX3_cond_43 S hE hG e43 ?_
    refine lv_aload_n hx hb dX3_cond_46 rfl (lv_at hl 2 rfl) ?_
    obtain ⟨u47, t47, h⟩ := g_bd h
    obtain ⟨qx47, e47, h⟩ := g_bd h
    refine c_cV (y := yJ6_add) (rest := []) dX3_cond_47 q920 q921 q922 q128 q923 hc_J6_add rfl S hE hG hS hC0 hl.1 rfl (c_recv hE hG (ci := 2) rfl (by decide) (c_castM t47)) (wm_J6_add E l v43 x1 G38 _ _ e47) rfl (Nat.le_of_ble_eq_true rfl) ⟨Nat.le_of_ble_eq_true rfl, Nat.le_of_ble_eq_true rfl⟩ (fun H locs hG hS => ?_)
    refine lv_pop hx hb dX3_cond_50 rfl ?_
    exact L51 gF x0 qx27.1 qx47.2 _ _ _ h hG hS (lv_sub hl [1, 0] rfl)
  unfold cm_X3_cond at h
  refine lv_aload_n hx hb dX3_cond_0 rfl (lv_at hl 0 rfl) ?_
  obtain ⟨u1, t1, h⟩ := g_bd h
  rcases gXb_e h with ⟨qx1, e1, h⟩ | ⟨xx1, e1, rfl⟩
  rotate_left
  · exact c_xV (r := .inr xx1) (y := yX3_one) (rest := []) dX3_cond_1 q1632 q1634 qs31 q125 q1635 hc_X3_one rfl S hE hG hS hC0 hl.1 rfl (c_recv hE hG (ci := 10) rfl (by decide) (c_castM t1)) (wm_X3_one E l hl9 x0 Gz _ e1) rfl (Nat.le_of_ble_eq_true rfl) ⟨Nat.le_of_ble_eq_true rfl, Nat.le_of_ble_eq_true rfl⟩ (fun hr9 => c_xthrew hC0 hr9 hS (fun H locs ce hG hS h1 h2 h3 => c_xout rfl hx9 hk hC0 hG hS h1 h2 h3))
  refine c_xV (r := .inl (some (.ref qx1.1), qx1.2)) (y := yX3_one) (rest := []) dX3_cond_1 q1632 q1634 qs31 q125 q1635 hc_X3_one rfl S hE hG hS hC0 hl.1 rfl (c_recv hE hG (ci := 10) rfl (by decide) (c_castM t1)) (wm_X3_one E l hl9 x0 Gz _ e1) rfl (Nat.le_of_ble_eq_true rfl) ⟨Nat.le_of_ble_eq_true rfl, Nat.le_of_ble_eq_true rfl⟩ (fun hr9 => c_xback hC0 hr9 hS (fun H locs hG hS => ?_))
  refine lv_astore_n (lv' := [(1, .ref qx1.1), (0, .ref x0)]) hx hb dX3_cond_4 rfl hl (by decide) rfl (fun ls hl => ?_)
  refine lv_aload_n hx hb dX3_cond_5 rfl (lv_at hl 1 rfl) ?_
  refine c_ldcW (i := 72) rfl dX3_cond_6 S hE hG ?_
  obtain ⟨u9, t9, h⟩ := g_bd h
  obtain ⟨qx9, e9, h⟩ := g_bd h
  refine c_cV (y := yX3_isWord) (rest := []) dX3_cond_9 q789 q791 qs7 q125 q792 hc_X3_isWord rfl S hE hG hS hC0 hl.1 rfl (c_recv hE hG (ci := 10) rfl (by decide) (c_castM t9)) (wm_X3_isWord E l x0 (cK qx1.2 (100 + 72)) qx1.2 _ _ e9) rfl (Nat.le_of_ble_eq_true rfl) ⟨Nat.le_of_ble_eq_true rfl, Nat.le_of_ble_eq_true rfl⟩ (fun H locs hG hS => ?_)
  refine lv_if_ne (tgt := 27) hx hb dX3_cond_12 (by decide) (fun c12 => ?_) (fun c12 => ?_)
  · have h := g_if c12 h
    exact J27 x0 qx1.1 qx9.2 _ _ _ h hG hS (lv_sub hl [1, 0] rfl)
  · have h := g_it c12 h
    refine lv_aload_n hx hb dX3_cond_15 rfl (lv_at hl 1 rfl) ?_
    refine c_ldcW (i := 73) rfl dX3_cond_16 S hE hG ?_
    obtain ⟨u19, t19, h⟩ := g_bd h
    obtain ⟨qx19, e19, h⟩ := g_bd h
    refine c_cV (y := yX3_isWord) (rest := []) dX3_cond_19 q789 q791 qs7 q125 q792 hc_X3_isWord rfl S hE hG hS hC0 hl.1 rfl (c_recv hE hG (ci := 10) rfl (by decide) (c_castM t19)) (wm_X3_isWord E l x0 (cK qx9.2 (100 + 73)) qx9.2 _ _ e19) rfl (Nat.le_of_ble_eq_true rfl) ⟨Nat.le_of_ble_eq_true rfl, Nat.le_of_ble_eq_true rfl⟩ (fun H locs hG hS => ?_)
    refine lv_if_ne (tgt := 27) hx hb dX3_cond_22 (by decide) (fun c22 => ?_) (fun c22 => ?_)
    · have h := g_if c22 h
      exact J27 x0 qx1.1 qx19.2 _ _ _ h hG hS (lv_sub hl [1, 0] rfl)
    · have h := g_it c22 h
      refine lv_aload_n hx hb dX3_cond_25 rfl (lv_at hl 0 rfl) ?_
      cases h
      exact c_xret (v := some (.ref qx1.1)) (G1 := qx19.2) rfl (c_aretW dX3_cond_26 (Or.inl ⟨_, rfl⟩) S hr hk hC0 hG hS rfl)
theorem hc_X3_end : cHd yX3_end 0 := by decide +kernel
set_option maxHeartbeats 4000000 in
set_option maxRecDepth 100000 in
theorem wm_X3_end (E : gX) (l : Launch) (x0 : Nat) (Gz : GH) (r : Int32) (h : cm_X3_end x0 Gz = some r) : gMetC E l yX3_end cX3_end 1 (some Jvm.ClassFile.FieldType.int) 3 [.ref x0] Gz Gz (some (.int r)) := by
  refine gMetC.of (own := RX3) (by decide +kernel) (Nat.le_of_ble_eq_true rfl) rfl ?_
  intro p e s m args below meth c S hr hk hnm hE hC0 hG hS ls hl
  have hl : lv_has ls 1 [(0, .ref x0)] := hl
  have hx := S.1
  have hb := S.2.1
  unfold cm_X3_end at h
  refine lv_aload_n hx hb dX3_end_0 rfl (lv_at hl 0 rfl) ?_
  obtain ⟨v1, e1, h⟩ := g_bd h
  refine cg_X3_216 dX3_end_1 S hE hG e1 ?_
  obtain ⟨v4, e4, h⟩ := g_bd h
  refine cg_X3_229 dX3_end_4 S hE hG e4 ?_
  obtain ⟨v7, e7, h⟩ := g_bd h
  refine cg_X3_286 dX3_end_7 S hE hG e7 ?_
  obtain ⟨u10, t10, h⟩ := g_bd h
  obtain ⟨v10, e10, h⟩ := g_bd h
  refine c_cV (y := yJ6_size) (rest := []) dX3_end_10 q881 q882 q883 q128 q884 hc_J6_size rfl S hE hG hS hC0 hl.1 rfl (c_recv hE hG (ci := 2) rfl (by decide) (c_castM t10)) (wm_J6_size E l v7 Gz _ e10) rfl (Nat.le_of_ble_eq_true rfl) ⟨Nat.le_of_ble_eq_true rfl, Nat.le_of_ble_eq_true rfl⟩ (fun H locs hG hS => ?_)
  exact c_iretR dX3_end_13 S hr hk hC0 hG hS h
theorem hc_X3_block : cHd yX3_block 0 := by decide +kernel
theorem hc_X3_step : cHd yX3_step 0 := by decide +kernel
theorem hc_X3_loop : cHd yX3_loop 1 := by decide +kernel
theorem hc_X3_whether : cHd yX3_whether 1 := by decide +kernel
theorem hc_X3_guard : cHd yX3_guard 1 := by decide +kernel
set_option maxHeartbeats 4000000 in
set_option maxRecDepth 100000 in
theorem wm_S231 (E : gX) (l : Launch) (hl9 : l.stackTraces = false) : ∀ d : Nat, (∀ (x0 : Nat) (Gz : GH) (r : (GX Unit)), (cm_S231 d).1 x0 Gz = some r → gMetX E l yX3_block cX3_block 1 none (74 + d) [.ref x0] Gz (gRs (fun _ => none) r)) ∧ (∀ (x0 : Nat) (Gz : GH) (r : (GX Unit)), (cm_S231 d).2.1 x0 Gz = some r → gMetX E l yX3_step cX3_step 4 none (74 + d) [.ref x0] Gz (gRs (fun _ => none) r)) ∧ (∀ (x0 : Nat) (x1 : Nat) (Gz : GH) (r : (GX Unit)), (cm_S231 d).2.2.1 x0 x1 Gz = some r → gMetX E l yX3_loop cX3_loop 4 none (74 + d) [.ref x0, .ref x1] Gz (gRs (fun _ => none) r)) ∧ (∀ (x0 : Nat) (x1 : Nat) (Gz : GH) (r : (GX Unit)), (cm_S231 d).2.2.2.1 x0 x1 Gz = some r → gMetX E l yX3_whether cX3_whether 3 none (74 + d) [.ref x0, .ref x1] Gz (gRs (fun _ => none) r)) ∧ (∀ (x0 : Nat) (x1 : Nat) (Gz : GH) (r : (GX Unit)), (cm_S231 d).2.2.2.2 x0 x1 Gz = some r → gMetX E l yX3_guard cX3_guard 3 none (74 + d) [.ref x0, .ref x1] Gz (gRs (fun _ => none) r)) := by
  intro d
  induction d with
  | zero =>
    exact ⟨fun _ _ _ h => (nomatch (show (none : Option (GX Unit)) = some _ from h)), fun _ _ _ h => (nomatch (show (none : Option (GX Unit)) = some _ from h)), fun _ _ _ _ h => (nomatch (show (none : Option (GX Unit)) = some _ from h)), fun _ _ _ _ h => (nomatch (show (none : Option (GX Unit)) = some _ from h)), fun _ _ _ _ h => (nomatch (show (none : Option (GX Unit)) = some _ from h))⟩
  | succ d ihd =>
    refine ⟨?_, ?_, ?_, ?_, ?_⟩
    · intro x0 Gz r h
      refine gMetX.of (own := RX3) (by decide +kernel) (Nat.le_of_ble_eq_true rfl) rfl ?_
      intro p e s m args below meth c S hr hk hx9 hE hC0 hG hS ls hl
      have hl : lv_has ls 1 [(0, .ref x0)] := hl
      have hx := S.1
      have hb := S.2.1
      have L44 : ∀ (n : Nat) (x0 : Nat) (G : GH) (H : Heap) (locs : List Loc) (ls : Array Slot), cm_X3_block_L44 (cm_S231 d) n x0 G = some r → gC E G H → va_S (gx_C E) s.heap H locs → lv_has ls 1 [(0, .ref x0)] → WC E p l e (gRm (74 + (d + 1)) (cBx Gz) (cBs Gz)) s m args below meth c H locs (gXMQ E below (gRs (fun _ => none) r) args s Gz) (F0 m 44 ls []) := by
        intro n44
        induction n44 with
        | zero =>
          intro x0 G H locs ls h
          cases h
        | succ n44 ih44 =>
          intro x0 G H locs ls h hG hS hl
          have h : cm_X3_block_B44 (cm_S231 d) (cm_X3_block_L44 (cm_S231 d) n44) x0 G = some r := h
          unfold cm_X3_block_B44 at h
          refine lv_aload_n hx hb dX3_block_44 rfl (lv_at hl 0 rfl) ?_
          refine lv_bipush (v := 125) hx hb dX3_block_45 (by decide) ?_
          obtain ⟨u47, t47, h⟩ := g_bd h
          obtain ⟨v47, e47, h⟩ := g_bd h
          refine c_cV (y := yX3_isSign) (rest := []) dX3_block_47 q852 q854 qs11 q125 q855 hc_X3_isSign rfl S hE hG hS hC0 hl.1 rfl (c_recv hE hG (ci := 10) rfl (by decide) (c_castM t47)) (wm_X3_isSign E l x0 125 G _ e47) rfl (Nat.le_of_ble_eq_true rfl) ⟨by omega, by omega⟩ (fun H locs hG hS => ?_)
          refine lv_if_ne (tgt := 60) hx hb dX3_block_50 (by decide) (fun c50 => ?_) (fun c50 => ?_)
          · have h := g_if c50 h
            refine lv_aload_n hx hb dX3_block_60 rfl (lv_at hl 0 rfl) ?_
            obtain ⟨u61, t61, h⟩ := g_bd h
            obtain ⟨G61, e61, h⟩ := g_bd h
            refine c_cV (y := yX3_go) (rest := []) dX3_block_61 q701 q703 qs2 q125 q704 hc_X3_go rfl S hE hG hS hC0 hl.1 rfl (c_recv hE hG (ci := 10) rfl (by decide) (c_castM t61)) (wm_X3_go E l x0 G _ e61) rfl (Nat.le_of_ble_eq_true rfl) ⟨by omega, by omega⟩ (fun H locs hG hS => ?_)
            refine lv_aload_n hx hb dX3_block_64 rfl (lv_at hl 0 rfl) ?_
            refine lv_dup hx hb dX3_block_65 rfl ?_
            obtain ⟨v66, e66, h⟩ := g_bd h
            refine cg_X3_220 dX3_block_66 S hE hG e66 ?_
            refine lv_iconst (v := 1) hx hb dX3_block_69 (by decide) ?_
            refine lv_isub hx hb dX3_block_70 ?_
            obtain ⟨G71, e71, h⟩ := g_bd h
            refine cp_X3_220 dX3_block_71 S hE hG hS hC0 e71 (fun H locs hG hS => ?_)
            cases h
            exact c_xret (v := none) (G1 := G71) rfl (c_vretW dX3_block_74 S hr hk hC0 hG hS rfl)
          · have h := g_it c50 h
            refine lv_aload_n hx hb dX3_block_53 rfl (lv_at hl 0 rfl) ?_
            obtain ⟨u54, t54, h⟩ := g_bd h
            rcases gXb_e h with ⟨qx54, e54, h⟩ | ⟨xx54, e54, rfl⟩
            rotate_left
            · exact c_xV (r := .inr xx54) (y := yX3_step) (rest := []) dX3_block_54 q1452 q1454 qs22 q125 q1455 hc_X3_step rfl S hE hG hS hC0 hl.1 rfl (c_recv hE hG (ci := 10) rfl (by decide) (c_castM t54)) (ihd.2.1 x0 G _ e54) rfl (Nat.le_of_ble_eq_true rfl) ⟨by omega, by omega⟩ (fun hr9 => c_xthrew hC0 hr9 hS (fun H locs ce hG hS h1 h2 h3 => c_xout rfl hx9 hk hC0 hG hS h1 h2 h3))
            refine c_xV (r := .inl (none, qx54.2)) (y := yX3_step) (rest := []) dX3_block_54 q1452 q1454 qs22 q125 q1455 hc_X3_step rfl S hE hG hS hC0 hl.1 rfl (c_recv hE hG (ci := 10) rfl (by decide) (c_castM t54)) (ihd.2.1 x0 G _ e54) rfl (Nat.le_of_ble_eq_true rfl) ⟨by omega, by omega⟩ (fun hr9 => c_xback hC0 hr9 hS (fun H locs hG hS => ?_))
            refine lv_goto (tgt := 44) hx hb dX3_block_57 (by decide) ?_
            exact ih44 x0 qx54.2 _ _ _ h hG hS (lv_sub hl [0] rfl)
      have h : cm_X3_block_B (cm_S231 d) x0 Gz = some r := h
      unfold cm_X3_block_B at h
      refine lv_aload_n hx hb dX3_block_0 rfl (lv_at hl 0 rfl) ?_
      refine lv_bipush (v := 123) hx hb dX3_block_1 (by decide) ?_
      obtain ⟨u3, t3, h⟩ := g_bd h
      obtain ⟨v3, e3, h⟩ := g_bd h
      refine c_cV (y := yX3_isSign) (rest := []) dX3_block_3 q852 q854 qs11 q125 q855 hc_X3_isSign rfl S hE hG hS hC0 hl.1 rfl (c_recv hE hG (ci := 10) rfl (by decide) (c_castM t3)) (wm_X3_isSign E l x0 123 Gz _ e3) rfl (Nat.le_of_ble_eq_true rfl) ⟨by omega, by omega⟩ (fun H locs hG hS => ?_)
      refine lv_if_ne (tgt := 15) hx hb dX3_block_6 (by decide) (fun c6 => ?_) (fun c6 => ?_)
      · have h := g_if c6 h
        refine lv_aload_n hx hb dX3_block_15 rfl (lv_at hl 0 rfl) ?_
        obtain ⟨v16, e16, h⟩ := g_bd h
        refine cg_X3_220 dX3_block_16 S hE hG e16 ?_
        refine lv_bipush (v := 10) hx hb dX3_block_19 (by decide) ?_
        refine lv_icmp_ne (tgt := 30) hx hb dX3_block_21 (by decide) (fun c21 => ?_) (fun c21 => ?_)
        · have h := g_if c21 h
          refine lv_aload_n hx hb dX3_block_30 rfl (lv_at hl 0 rfl) ?_
          refine lv_dup hx hb dX3_block_31 rfl ?_
          obtain ⟨v32, e32, h⟩ := g_bd h
          refine cg_X3_220 dX3_block_32 S hE hG e32 ?_
          refine lv_iconst (v := 1) hx hb dX3_block_35 (by decide) ?_
          refine lv_iadd hx hb dX3_block_36 ?_
          obtain ⟨G37, e37, h⟩ := g_bd h
          refine cp_X3_220 dX3_block_37 S hE hG hS hC0 e37 (fun H locs hG hS => ?_)
          refine lv_aload_n hx hb dX3_block_40 rfl (lv_at hl 0 rfl) ?_
          obtain ⟨u41, t41, h⟩ := g_bd h
          obtain ⟨G41, e41, h⟩ := g_bd h
          refine c_cV (y := yX3_go) (rest := []) dX3_block_41 q701 q703 qs2 q125 q704 hc_X3_go rfl S hE hG hS hC0 hl.1 rfl (c_recv hE hG (ci := 10) rfl (by decide) (c_castM t41)) (wm_X3_go E l x0 G37 _ e41) rfl (Nat.le_of_ble_eq_true rfl) ⟨by omega, by omega⟩ (fun H locs hG hS => ?_)
          exact L44 gF x0 G41 _ _ _ h hG hS (lv_sub hl [0] rfl)
        · have h := g_it c21 h
          refine lv_aload_n hx hb dX3_block_24 rfl (lv_at hl 0 rfl) ?_
          refine lv_iconst (v := 4) hx hb dX3_block_25 (by decide) ?_
          obtain ⟨u26, t26, h⟩ := g_bd h
          obtain ⟨qx26, e26, h⟩ := g_bd h
          refine c_cV (y := yX3_wrong) (rest := []) dX3_block_26 q817 q819 qs8 q125 q820 hc_X3_wrong rfl S hE hG hS hC0 hl.1 rfl (c_recv hE hG (ci := 10) rfl (by decide) (c_castM t26)) (wm_X3_wrong E l hl9 x0 4 Gz _ _ e26) rfl (Nat.le_of_ble_eq_true rfl) ⟨by omega, by omega⟩ (fun H locs hG hS => ?_)
          exact c_throwW dX3_block_29 S hE hG hS hC0 hx9 hk h
      · have h := g_it c6 h
        refine lv_aload_n hx hb dX3_block_9 rfl (lv_at hl 0 rfl) ?_
        refine lv_iconst (v := 1) hx hb dX3_block_10 (by decide) ?_
        obtain ⟨u11, t11, h⟩ := g_bd h
        obtain ⟨qx11, e11, h⟩ := g_bd h
        refine c_cV (y := yX3_wrong) (rest := []) dX3_block_11 q817 q819 qs8 q125 q820 hc_X3_wrong rfl S hE hG hS hC0 hl.1 rfl (c_recv hE hG (ci := 10) rfl (by decide) (c_castM t11)) (wm_X3_wrong E l hl9 x0 1 Gz _ _ e11) rfl (Nat.le_of_ble_eq_true rfl) ⟨by omega, by omega⟩ (fun H locs hG hS => ?_)
        exact c_throwW dX3_block_14 S hE hG hS hC0 hx9 hk h
    · intro x0 Gz r h
      refine gMetX.of (own := RX3) (by decide +kernel) (Nat.le_of_ble_eq_true rfl) rfl ?_
      intro p e s m args below meth c S hr hk hx9 hE hC0 hG hS ls hl
      have hl : lv_has ls 4 [(0, .ref x0)] := hl
      have hx := S.1
      have hb := S.2.1
      have J47 : ∀ (x0 : Nat) (G : GH) (H : Heap) (locs : List Loc) (ls : Array Slot), cm_X3_step_J47 (cm_S231 d) x0 G = some r → gC E G H → va_S (gx_C E) s.heap H locs → lv_has ls 4 [(0, .ref x0)] → WC E p l e (gRm (74 + (d + 1)) (cBx Gz) (cBs Gz)) s m args below meth c H locs (gXMQ E below (gRs (fun _ => none) r) args s Gz) (F0 m 47 ls []) := by
        intro x0 G H locs ls h hG hS hl
        unfold cm_X3_step_J47 at h
        refine lv_aload_n hx hb dX3_step_47 rfl (lv_at hl 0 rfl) ?_
        refine lv_iconst (v := 1) hx hb dX3_step_48 (by decide) ?_
        obtain ⟨u49, t49, h⟩ := g_bd h
        obtain ⟨qx49, e49, h⟩ := g_bd h
        refine c_cV (y := yX3_wrong) (rest := []) dX3_step_49 q817 q819 qs8 q125 q820 hc_X3_wrong rfl S hE hG hS hC0 hl.1 rfl (c_recv hE hG (ci := 10) rfl (by decide) (c_castM t49)) (wm_X3_wrong E l hl9 x0 1 G _ _ e49) rfl (Nat.le_of_ble_eq_true rfl) ⟨by omega, by omega⟩ (fun H locs hG hS => ?_)
        exact c_throwW dX3_step_52 S hE hG hS hC0 hx9 hk h
      have J90 : ∀ (x0 : Nat) (G : GH) (H : Heap) (locs : List Loc) (ls : Array Slot), cm_X3_step_J90 (cm_S231 d) x0 G = some r → gC E G H → va_S (gx_C E) s.heap H locs → lv_has ls 4 [(0, .ref x0)] → WC E p l e (gRm (74 + (d + 1)) (cBx Gz) (cBs Gz)) s m args below meth c H locs (gXMQ E below (gRs (fun _ => none) r) args s Gz) (F0 m 90 ls []) := by
        intro x0 G H locs ls h hG hS hl
        unfold cm_X3_step_J90 at h
        refine lv_aload_n hx hb dX3_step_90 rfl (lv_at hl 0 rfl) ?_
        refine lv_iconst (v := 5) hx hb dX3_step_91 (by decide) ?_
        obtain ⟨u92, t92, h⟩ := g_bd h
        obtain ⟨qx92, e92, h⟩ := g_bd h
        refine c_cV (y := yX3_wrong) (rest := []) dX3_step_92 q817 q819 qs8 q125 q820 hc_X3_wrong rfl S hE hG hS hC0 hl.1 rfl (c_recv hE hG (ci := 10) rfl (by decide) (c_castM t92)) (wm_X3_wrong E l hl9 x0 5 G _ _ e92) rfl (Nat.le_of_ble_eq_true rfl) ⟨by omega, by omega⟩ (fun H locs hG hS => ?_)
        exact c_throwW dX3_step_95 S hE hG hS hC0 hx9 hk h
      have J96 : ∀ (x0 : Nat) (x1 : Int32) (x2 : Int32) (G : GH) (H : Heap) (locs : List Loc) (ls : Array Slot), cm_X3_step_J96 (cm_S231 d) x0 x1 x2 G = some r → gC E G H → va_S (gx_C E) s.heap H locs → lv_has ls 4 [(0, .ref x0), (1, .int x1), (2, .int x2)] → WC E p l e (gRm (74 + (d + 1)) (cBx Gz) (cBs Gz)) s m args below meth c H locs (gXMQ E below (gRs (fun _ => none) r) args s Gz) (F0 m 96 ls []) := by
        intro x0 x1 x2 G H locs ls h hG hS hl
        unfold cm_X3_step_J96 at h
        refine lv_aload_n hx hb dX3_step_96 rfl (lv_at hl 0 rfl) ?_
        refine lv_dup hx hb dX3_step_97 rfl ?_
        obtain ⟨v98, e98, h⟩ := g_bd h
        refine cg_X3_217 dX3_step_98 S hE hG e98 ?_
        refine lv_iconst (v := 1) hx hb dX3_step_101 (by decide) ?_
        refine lv_iadd hx hb dX3_step_102 ?_
        obtain ⟨G103, e103, h⟩ := g_bd h
        refine cp_X3_217 dX3_step_103 S hE hG hS hC0 e103 (fun H locs hG hS => ?_)
        refine lv_aload_n hx hb dX3_step_106 rfl (lv_at hl 0 rfl) ?_
        refine lv_iload_n hx hb dX3_step_107 rfl (lv_at hl 2 rfl) ?_
        refine lv_aload_n hx hb dX3_step_108 rfl (lv_at hl 0 rfl) ?_
        obtain ⟨v109, e109, h⟩ := g_bd h
        refine cg_X3_45 dX3_step_109 S hE hG e109 ?_
        obtain ⟨u112, t112, h⟩ := g_bd h
        obtain ⟨qx112, e112, h⟩ := g_bd h
        refine c_cV (y := yX3_act) (rest := []) dX3_step_112 q1469 q1471 qs24 q125 q1472 hc_X3_act rfl S hE hG hS hC0 hl.1 rfl (c_recv hE hG (ci := 10) rfl (by decide) (c_castM t112)) (wm_X3_act E l x0 x2 v109 G103 _ _ e112) rfl (Nat.le_of_ble_eq_true rfl) ⟨by omega, by omega⟩ (fun H locs hG hS => ?_)
        refine lv_astore_n (lv' := [(3, .ref qx112.1), (0, .ref x0), (1, .int x1), (2, .int x2)]) hx hb dX3_step_115 rfl hl (by decide) rfl (fun ls hl => ?_)
        refine lv_aload_n hx hb dX3_step_116 rfl (lv_at hl 1 rfl) ?_
        obtain ⟨u117, t117, h⟩ := g_bd h
        obtain ⟨G117, e117, h⟩ := g_bd h
        refine c_cV (y := yX3_go) (rest := []) dX3_step_117 q701 q703 qs2 q125 q704 hc_X3_go rfl S hE hG hS hC0 hl.1 rfl (c_recv hE hG (ci := 10) rfl (by decide) (c_castM t117)) (wm_X3_go E l x0 qx112.2 _ e117) rfl (Nat.le_of_ble_eq_true rfl) ⟨by omega, by omega⟩ (fun H locs hG hS => ?_)
        refine lv_iload_n hx hb dX3_step_120 rfl (lv_at hl 3 rfl) ?_
        by_cases c121_0 : x2 = 0
        · have h := g_it c121_0 h
          refine lv_tableIn (off := 87) (tgt := 208) hx hb dX3_step_121 (by rw [c121_0]; decide) (by rw [c121_0]; decide) (by rw [c121_0]; rfl) (by decide) ?_
          refine lv_aload_n hx hb dX3_step_208 rfl (lv_at hl 0 rfl) ?_
          refine lv_aload_n hx hb dX3_step_209 rfl (lv_at hl 1 rfl) ?_
          obtain ⟨u210, t210, h⟩ := g_bd h
          rcases gXb_e h with ⟨qx210, e210, h⟩ | ⟨xx210, e210, rfl⟩
          rotate_left
          · exact c_xV (r := .inr xx210) (y := yX3_whole) (rest := [.ref qx112.1]) dX3_step_210 q1514 q1516 qs25 q125 q1517 hc_X3_whole rfl S hE hG hS hC0 hl.1 rfl (c_recv hE hG (ci := 10) rfl (by decide) (c_castM t210)) (wm_X3_whole E l hl9 x0 G117 _ e210) rfl (Nat.le_of_ble_eq_true rfl) ⟨by omega, by omega⟩ (fun hr9 => c_xthrew hC0 hr9 hS (fun H locs ce hG hS h1 h2 h3 => c_xout rfl hx9 hk hC0 hG hS h1 h2 h3))
          refine c_xV (r := .inl (some (.ref qx210.1), qx210.2)) (y := yX3_whole) (rest := [.ref qx112.1]) dX3_step_210 q1514 q1516 qs25 q125 q1517 hc_X3_whole rfl S hE hG hS hC0 hl.1 rfl (c_recv hE hG (ci := 10) rfl (by decide) (c_castM t210)) (wm_X3_whole E l hl9 x0 G117 _ e210) rfl (Nat.le_of_ble_eq_true rfl) ⟨by omega, by omega⟩ (fun hr9 => c_xback hC0 hr9 hS (fun H locs hG hS => ?_))
          obtain ⟨G213, e213, h⟩ := g_bd h
          refine cp_X3_314 dX3_step_213 S hE hG hS hC0 e213 (fun H locs hG hS => ?_)
          refine lv_aload_n hx hb dX3_step_216 rfl (lv_at hl 1 rfl) ?_
          refine lv_bipush (v := 59) hx hb dX3_step_217 (by decide) ?_
          obtain ⟨u219, t219, h⟩ := g_bd h
          rcases gXb_e h with ⟨qx219, e219, h⟩ | ⟨xx219, e219, rfl⟩
          rotate_left
          · exact c_xV (r := .inr xx219) (y := yX3_need) (rest := []) dX3_step_219 q848 q850 qs10 q125 q851 hc_X3_need rfl S hE hG hS hC0 hl.1 rfl (c_recv hE hG (ci := 10) rfl (by decide) (c_castM t219)) (wm_X3_need E l hl9 x0 59 G213 _ e219) rfl (Nat.le_of_ble_eq_true rfl) ⟨by omega, by omega⟩ (fun hr9 => c_xthrew hC0 hr9 hS (fun H locs ce hG hS h1 h2 h3 => c_xout rfl hx9 hk hC0 hG hS h1 h2 h3))
          refine c_xV (r := .inl (none, qx219.2)) (y := yX3_need) (rest := []) dX3_step_219 q848 q850 qs10 q125 q851 hc_X3_need rfl S hE hG hS hC0 hl.1 rfl (c_recv hE hG (ci := 10) rfl (by decide) (c_castM t219)) (wm_X3_need E l hl9 x0 59 G213 _ e219) rfl (Nat.le_of_ble_eq_true rfl) ⟨by omega, by omega⟩ (fun hr9 => c_xback hC0 hr9 hS (fun H locs hG hS => ?_))
          refine lv_goto (tgt := 336) hx hb dX3_step_222 (by decide) ?_
          cases h
          exact c_xret (v := none) (G1 := qx219.2) rfl (c_vretW dX3_step_336 S hr hk hC0 hG hS rfl)
        have h := g_if c121_0 h
        by_cases c121_1 : x2 = 1
        · have h := g_it c121_1 h
          refine lv_tableIn (off := 87) (tgt := 208) hx hb dX3_step_121 (by rw [c121_1]; decide) (by rw [c121_1]; decide) (by rw [c121_1]; rfl) (by decide) ?_
          refine lv_aload_n hx hb dX3_step_208 rfl (lv_at hl 0 rfl) ?_
          refine lv_aload_n hx hb dX3_step_209 rfl (lv_at hl 1 rfl) ?_
          obtain ⟨u210, t210, h⟩ := g_bd h
          rcases gXb_e h with ⟨qx210, e210, h⟩ | ⟨xx210, e210, rfl⟩
          rotate_left
          · exact c_xV (r := .inr xx210) (y := yX3_whole) (rest := [.ref qx112.1]) dX3_step_210 q1514 q1516 qs25 q125 q1517 hc_X3_whole rfl S hE hG hS hC0 hl.1 rfl (c_recv hE hG (ci := 10) rfl (by decide) (c_castM t210)) (wm_X3_whole E l hl9 x0 G117 _ e210) rfl (Nat.le_of_ble_eq_true rfl) ⟨by omega, by omega⟩ (fun hr9 => c_xthrew hC0 hr9 hS (fun H locs ce hG hS h1 h2 h3 => c_xout rfl hx9 hk hC0 hG hS h1 h2 h3))
          refine c_xV (r := .inl (some (.ref qx210.1), qx210.2)) (y := yX3_whole) (rest := [.ref qx112.1]) dX3_step_210 q1514 q1516 qs25 q125 q1517 hc_X3_whole rfl S hE hG hS hC0 hl.1 rfl (c_recv hE hG (ci := 10) rfl (by decide) (c_castM t210)) (wm_X3_whole E l hl9 x0 G117 _ e210) rfl (Nat.le_of_ble_eq_true rfl) ⟨by omega, by omega⟩ (fun hr9 => c_xback hC0 hr9 hS (fun H locs hG hS => ?_))
          obtain ⟨G213, e213, h⟩ := g_bd h
          refine cp_X3_314 dX3_step_213 S hE hG hS hC0 e213 (fun H locs hG hS => ?_)
          refine lv_aload_n hx hb dX3_step_216 rfl (lv_at hl 1 rfl) ?_
          refine lv_bipush (v := 59) hx hb dX3_step_217 (by decide) ?_
          obtain ⟨u219, t219, h⟩ := g_bd h
          rcases gXb_e h with ⟨qx219, e219, h⟩ | ⟨xx219, e219, rfl⟩
          rotate_left
          · exact c_xV (r := .inr xx219) (y := yX3_need) (rest := []) dX3_step_219 q848 q850 qs10 q125 q851 hc_X3_need rfl S hE hG hS hC0 hl.1 rfl (c_recv hE hG (ci := 10) rfl (by decide) (c_castM t219)) (wm_X3_need E l hl9 x0 59 G213 _ e219) rfl (Nat.le_of_ble_eq_true rfl) ⟨by omega, by omega⟩ (fun hr9 => c_xthrew hC0 hr9 hS (fun H locs ce hG hS h1 h2 h3 => c_xout rfl hx9 hk hC0 hG hS h1 h2 h3))
          refine c_xV (r := .inl (none, qx219.2)) (y := yX3_need) (rest := []) dX3_step_219 q848 q850 qs10 q125 q851 hc_X3_need rfl S hE hG hS hC0 hl.1 rfl (c_recv hE hG (ci := 10) rfl (by decide) (c_castM t219)) (wm_X3_need E l hl9 x0 59 G213 _ e219) rfl (Nat.le_of_ble_eq_true rfl) ⟨by omega, by omega⟩ (fun hr9 => c_xback hC0 hr9 hS (fun H locs hG hS => ?_))
          refine lv_goto (tgt := 336) hx hb dX3_step_222 (by decide) ?_
          cases h
          exact c_xret (v := none) (G1 := qx219.2) rfl (c_vretW dX3_step_336 S hr hk hC0 hG hS rfl)
        have h := g_if c121_1 h
        by_cases c121_2 : x2 = 2
        · have h := g_it c121_2 h
          refine lv_tableIn (off := 87) (tgt := 208) hx hb dX3_step_121 (by rw [c121_2]; decide) (by rw [c121_2]; decide) (by rw [c121_2]; rfl) (by decide) ?_
          refine lv_aload_n hx hb dX3_step_208 rfl (lv_at hl 0 rfl) ?_
          refine lv_aload_n hx hb dX3_step_209 rfl (lv_at hl 1 rfl) ?_
          obtain ⟨u210, t210, h⟩ := g_bd h
          rcases gXb_e h with ⟨qx210, e210, h⟩ | ⟨xx210, e210, rfl⟩
          rotate_left
          · exact c_xV (r := .inr xx210) (y := yX3_whole) (rest := [.ref qx112.1]) dX3_step_210 q1514 q1516 qs25 q125 q1517 hc_X3_whole rfl S hE hG hS hC0 hl.1 rfl (c_recv hE hG (ci := 10) rfl (by decide) (c_castM t210)) (wm_X3_whole E l hl9 x0 G117 _ e210) rfl (Nat.le_of_ble_eq_true rfl) ⟨by omega, by omega⟩ (fun hr9 => c_xthrew hC0 hr9 hS (fun H locs ce hG hS h1 h2 h3 => c_xout rfl hx9 hk hC0 hG hS h1 h2 h3))
          refine c_xV (r := .inl (some (.ref qx210.1), qx210.2)) (y := yX3_whole) (rest := [.ref qx112.1]) dX3_step_210 q1514 q1516 qs25 q125 q1517 hc_X3_whole rfl S hE hG hS hC0 hl.1 rfl (c_recv hE hG (ci := 10) rfl (by decide) (c_castM t210)) (wm_X3_whole E l hl9 x0 G117 _ e210) rfl (Nat.le_of_ble_eq_true rfl) ⟨by omega, by omega⟩ (fun hr9 => c_xback hC0 hr9 hS (fun H locs hG hS => ?_))
          obtain ⟨G213, e213, h⟩ := g_bd h
          refine cp_X3_314 dX3_step_213 S hE hG hS hC0 e213 (fun H locs hG hS => ?_)
          refine lv_aload_n hx hb dX3_step_216 rfl (lv_at hl 1 rfl) ?_
          refine lv_bipush (v := 59) hx hb dX3_step_217 (by decide) ?_
          obtain ⟨u219, t219, h⟩ := g_bd h
          rcases gXb_e h with ⟨qx219, e219, h⟩ | ⟨xx219, e219, rfl⟩
          rotate_left
          · exact c_xV (r := .inr xx219) (y := yX3_need) (rest := []) dX3_step_219 q848 q850 qs10 q125 q851 hc_X3_need rfl S hE hG hS hC0 hl.1 rfl (c_recv hE hG (ci := 10) rfl (by decide) (c_castM t219)) (wm_X3_need E l hl9 x0 59 G213 _ e219) rfl (Nat.le_of_ble_eq_true rfl) ⟨by omega, by omega⟩ (fun hr9 => c_xthrew hC0 hr9 hS (fun H locs ce hG hS h1 h2 h3 => c_xout rfl hx9 hk hC0 hG hS h1 h2 h3))
          refine c_xV (r := .inl (none, qx219.2)) (y := yX3_need) (rest := []) dX3_step_219 q848 q850 qs10 q125 q851 hc_X3_need rfl S hE hG hS hC0 hl.1 rfl (c_recv hE hG (ci := 10) rfl (by decide) (c_castM t219)) (wm_X3_need E l hl9 x0 59 G213 _ e219) rfl (Nat.le_of_ble_eq_true rfl) ⟨by omega, by omega⟩ (fun hr9 => c_xback hC0 hr9 hS (fun H locs hG hS => ?_))
          refine lv_goto (tgt := 336) hx hb dX3_step_222 (by decide) ?_
          cases h
          exact c_xret (v := none) (G1 := qx219.2) rfl (c_vretW dX3_step_336 S hr hk hC0 hG hS rfl)
        have h := g_if c121_2 h
        by_cases c121_3 : x2 = 3
        · have h := g_it c121_3 h
          refine lv_tableIn (off := 87) (tgt := 208) hx hb dX3_step_121 (by rw [c121_3]; decide) (by rw [c121_3]; decide) (by rw [c121_3]; rfl) (by decide) ?_
          refine lv_aload_n hx hb dX3_step_208 rfl (lv_at hl 0 rfl) ?_
          refine lv_aload_n hx hb dX3_step_209 rfl (lv_at hl 1 rfl) ?_
          obtain ⟨u210, t210, h⟩ := g_bd h
          rcases gXb_e h with ⟨qx210, e210, h⟩ | ⟨xx210, e210, rfl⟩
          rotate_left
          · exact c_xV (r := .inr xx210) (y := yX3_whole) (rest := [.ref qx112.1]) dX3_step_210 q1514 q1516 qs25 q125 q1517 hc_X3_whole rfl S hE hG hS hC0 hl.1 rfl (c_recv hE hG (ci := 10) rfl (by decide) (c_castM t210)) (wm_X3_whole E l hl9 x0 G117 _ e210) rfl (Nat.le_of_ble_eq_true rfl) ⟨by omega, by omega⟩ (fun hr9 => c_xthrew hC0 hr9 hS (fun H locs ce hG hS h1 h2 h3 => c_xout rfl hx9 hk hC0 hG hS h1 h2 h3))
          refine c_xV (r := .inl (some (.ref qx210.1), qx210.2)) (y := yX3_whole) (rest := [.ref qx112.1]) dX3_step_210 q1514 q1516 qs25 q125 q1517 hc_X3_whole rfl S hE hG hS hC0 hl.1 rfl (c_recv hE hG (ci := 10) rfl (by decide) (c_castM t210)) (wm_X3_whole E l hl9 x0 G117 _ e210) rfl (Nat.le_of_ble_eq_true rfl) ⟨by omega, by omega⟩ (fun hr9 => c_xback hC0 hr9 hS (fun H locs hG hS => ?_))
          obtain ⟨G213, e213, h⟩ := g_bd h
          refine cp_X3_314 dX3_step_213 S hE hG hS hC0 e213 (fun H locs hG hS => ?_)
          refine lv_aload_n hx hb dX3_step_216 rfl (lv_at hl 1 rfl) ?_
          refine lv_bipush (v := 59) hx hb dX3_step_217 (by decide) ?_
          obtain ⟨u219, t219, h⟩ := g_bd h
          rcases gXb_e h with ⟨qx219, e219, h⟩ | ⟨xx219, e219, rfl⟩
          rotate_left
          · exact c_xV (r := .inr xx219) (y := yX3_need) (rest := []) dX3_step_219 q848 q850 qs10 q125 q851 hc_X3_need rfl S hE hG hS hC0 hl.1 rfl (c_recv hE hG (ci := 10) rfl (by decide) (c_castM t219)) (wm_X3_need E l hl9 x0 59 G213 _ e219) rfl (Nat.le_of_ble_eq_true rfl) ⟨by omega, by omega⟩ (fun hr9 => c_xthrew hC0 hr9 hS (fun H locs ce hG hS h1 h2 h3 => c_xout rfl hx9 hk hC0 hG hS h1 h2 h3))
          refine c_xV (r := .inl (none, qx219.2)) (y := yX3_need) (rest := []) dX3_step_219 q848 q850 qs10 q125 q851 hc_X3_need rfl S hE hG hS hC0 hl.1 rfl (c_recv hE hG (ci := 10) rfl (by decide) (c_castM t219)) (wm_X3_need E l hl9 x0 59 G213 _ e219) rfl (Nat.le_of_ble_eq_true rfl) ⟨by omega, by omega⟩ (fun hr9 => c_xback hC0 hr9 hS (fun H locs hG hS => ?_))
          refine lv_goto (tgt := 336) hx hb dX3_step_222 (by decide) ?_
          cases h
          exact c_xret (v := none) (G1 := qx219.2) rfl (c_vretW dX3_step_336 S hr hk hC0 hG hS rfl)
        have h := g_if c121_3 h
        by_cases c121_4 : x2 = 4
        · have h := g_it c121_4 h
          refine lv_tableIn (off := 87) (tgt := 208) hx hb dX3_step_121 (by rw [c121_4]; decide) (by rw [c121_4]; decide) (by rw [c121_4]; rfl) (by decide) ?_
          refine lv_aload_n hx hb dX3_step_208 rfl (lv_at hl 0 rfl) ?_
          refine lv_aload_n hx hb dX3_step_209 rfl (lv_at hl 1 rfl) ?_
          obtain ⟨u210, t210, h⟩ := g_bd h
          rcases gXb_e h with ⟨qx210, e210, h⟩ | ⟨xx210, e210, rfl⟩
          rotate_left
          · exact c_xV (r := .inr xx210) (y := yX3_whole) (rest := [.ref qx112.1]) dX3_step_210 q1514 q1516 qs25 q125 q1517 hc_X3_whole rfl S hE hG hS hC0 hl.1 rfl (c_recv hE hG (ci := 10) rfl (by decide) (c_castM t210)) (wm_X3_whole E l hl9 x0 G117 _ e210) rfl (Nat.le_of_ble_eq_true rfl) ⟨by omega, by omega⟩ (fun hr9 => c_xthrew hC0 hr9 hS (fun H locs ce hG hS h1 h2 h3 => c_xout rfl hx9 hk hC0 hG hS h1 h2 h3))
          refine c_xV (r := .inl (some (.ref qx210.1), qx210.2)) (y := yX3_whole) (rest := [.ref qx112.1]) dX3_step_210 q1514 q1516 qs25 q125 q1517 hc_X3_whole rfl S hE hG hS hC0 hl.1 rfl (c_recv hE hG (ci := 10) rfl (by decide) (c_castM t210)) (wm_X3_whole E l hl9 x0 G117 _ e210) rfl (Nat.le_of_ble_eq_true rfl) ⟨by omega, by omega⟩ (fun hr9 => c_xback hC0 hr9 hS (fun H locs hG hS => ?_))
          obtain ⟨G213, e213, h⟩ := g_bd h
          refine cp_X3_314 dX3_step_213 S hE hG hS hC0 e213 (fun H locs hG hS => ?_)
          refine lv_aload_n hx hb dX3_step_216 rfl (lv_at hl 1 rfl) ?_
          refine lv_bipush (v := 59) hx hb dX3_step_217 (by decide) ?_
          obtain ⟨u219, t219, h⟩ := g_bd h
          rcases gXb_e h with ⟨qx219, e219, h⟩ | ⟨xx219, e219, rfl⟩
          rotate_left
          · exact c_xV (r := .inr xx219) (y := yX3_need) (rest := []) dX3_step_219 q848 q850 qs10 q125 q851 hc_X3_need rfl S hE hG hS hC0 hl.1 rfl (c_recv hE hG (ci := 10) rfl (by decide) (c_castM t219)) (wm_X3_need E l hl9 x0 59 G213 _ e219) rfl (Nat.le_of_ble_eq_true rfl) ⟨by omega, by omega⟩ (fun hr9 => c_xthrew hC0 hr9 hS (fun H locs ce hG hS h1 h2 h3 => c_xout rfl hx9 hk hC0 hG hS h1 h2 h3))
          refine c_xV (r := .inl (none, qx219.2)) (y := yX3_need) (rest := []) dX3_step_219 q848 q850 qs10 q125 q851 hc_X3_need rfl S hE hG hS hC0 hl.1 rfl (c_recv hE hG (ci := 10) rfl (by decide) (c_castM t219)) (wm_X3_need E l hl9 x0 59 G213 _ e219) rfl (Nat.le_of_ble_eq_true rfl) ⟨by omega, by omega⟩ (fun hr9 => c_xback hC0 hr9 hS (fun H locs hG hS => ?_))
          refine lv_goto (tgt := 336) hx hb dX3_step_222 (by decide) ?_
          cases h
          exact c_xret (v := none) (G1 := qx219.2) rfl (c_vretW dX3_step_336 S hr hk hC0 hG hS rfl)
        have h := g_if c121_4 h
        by_cases c121_5 : x2 = 5
        · have h := g_it c121_5 h
          refine lv_tableIn (off := 209) (tgt := 330) hx hb dX3_step_121 (by rw [c121_5]; decide) (by rw [c121_5]; decide) (by rw [c121_5]; rfl) (by decide) ?_
          refine lv_aload_n hx hb dX3_step_330 rfl (lv_at hl 1 rfl) ?_
          refine lv_bipush (v := 59) hx hb dX3_step_331 (by decide) ?_
          obtain ⟨u333, t333, h⟩ := g_bd h
          rcases gXb_e h with ⟨qx333, e333, h⟩ | ⟨xx333, e333, rfl⟩
          rotate_left
          · exact c_xV (r := .inr xx333) (y := yX3_need) (rest := []) dX3_step_333 q848 q850 qs10 q125 q851 hc_X3_need rfl S hE hG hS hC0 hl.1 rfl (c_recv hE hG (ci := 10) rfl (by decide) (c_castM t333)) (wm_X3_need E l hl9 x0 59 G117 _ e333) rfl (Nat.le_of_ble_eq_true rfl) ⟨by omega, by omega⟩ (fun hr9 => c_xthrew hC0 hr9 hS (fun H locs ce hG hS h1 h2 h3 => c_xout rfl hx9 hk hC0 hG hS h1 h2 h3))
          refine c_xV (r := .inl (none, qx333.2)) (y := yX3_need) (rest := []) dX3_step_333 q848 q850 qs10 q125 q851 hc_X3_need rfl S hE hG hS hC0 hl.1 rfl (c_recv hE hG (ci := 10) rfl (by decide) (c_castM t333)) (wm_X3_need E l hl9 x0 59 G117 _ e333) rfl (Nat.le_of_ble_eq_true rfl) ⟨by omega, by omega⟩ (fun hr9 => c_xback hC0 hr9 hS (fun H locs hG hS => ?_))
          cases h
          exact c_xret (v := none) (G1 := qx333.2) rfl (c_vretW dX3_step_336 S hr hk hC0 hG hS rfl)
        have h := g_if c121_5 h
        by_cases c121_6 : x2 = 6
        · have h := g_it c121_6 h
          refine lv_tableIn (off := 87) (tgt := 208) hx hb dX3_step_121 (by rw [c121_6]; decide) (by rw [c121_6]; decide) (by rw [c121_6]; rfl) (by decide) ?_
          refine lv_aload_n hx hb dX3_step_208 rfl (lv_at hl 0 rfl) ?_
          refine lv_aload_n hx hb dX3_step_209 rfl (lv_at hl 1 rfl) ?_
          obtain ⟨u210, t210, h⟩ := g_bd h
          rcases gXb_e h with ⟨qx210, e210, h⟩ | ⟨xx210, e210, rfl⟩
          rotate_left
          · exact c_xV (r := .inr xx210) (y := yX3_whole) (rest := [.ref qx112.1]) dX3_step_210 q1514 q1516 qs25 q125 q1517 hc_X3_whole rfl S hE hG hS hC0 hl.1 rfl (c_recv hE hG (ci := 10) rfl (by decide) (c_castM t210)) (wm_X3_whole E l hl9 x0 G117 _ e210) rfl (Nat.le_of_ble_eq_true rfl) ⟨by omega, by omega⟩ (fun hr9 => c_xthrew hC0 hr9 hS (fun H locs ce hG hS h1 h2 h3 => c_xout rfl hx9 hk hC0 hG hS h1 h2 h3))
          refine c_xV (r := .inl (some (.ref qx210.1), qx210.2)) (y := yX3_whole) (rest := [.ref qx112.1]) dX3_step_210 q1514 q1516 qs25 q125 q1517 hc_X3_whole rfl S hE hG hS hC0 hl.1 rfl (c_recv hE hG (ci := 10) rfl (by decide) (c_castM t210)) (wm_X3_whole E l hl9 x0 G117 _ e210) rfl (Nat.le_of_ble_eq_true rfl) ⟨by omega, by omega⟩ (fun hr9 => c_xback hC0 hr9 hS (fun H locs hG hS => ?_))
          obtain ⟨G213, e213, h⟩ := g_bd h
          refine cp_X3_314 dX3_step_213 S hE hG hS hC0 e213 (fun H locs hG hS => ?_)
          refine lv_aload_n hx hb dX3_step_216 rfl (lv_at hl 1 rfl) ?_
          refine lv_bipush (v := 59) hx hb dX3_step_217 (by decide) ?_
          obtain ⟨u219, t219, h⟩ := g_bd h
          rcases gXb_e h with ⟨qx219, e219, h⟩ | ⟨xx219, e219, rfl⟩
          rotate_left
          · exact c_xV (r := .inr xx219) (y := yX3_need) (rest := []) dX3_step_219 q848 q850 qs10 q125 q851 hc_X3_need rfl S hE hG hS hC0 hl.1 rfl (c_recv hE hG (ci := 10) rfl (by decide) (c_castM t219)) (wm_X3_need E l hl9 x0 59 G213 _ e219) rfl (Nat.le_of_ble_eq_true rfl) ⟨by omega, by omega⟩ (fun hr9 => c_xthrew hC0 hr9 hS (fun H locs ce hG hS h1 h2 h3 => c_xout rfl hx9 hk hC0 hG hS h1 h2 h3))
          refine c_xV (r := .inl (none, qx219.2)) (y := yX3_need) (rest := []) dX3_step_219 q848 q850 qs10 q125 q851 hc_X3_need rfl S hE hG hS hC0 hl.1 rfl (c_recv hE hG (ci := 10) rfl (by decide) (c_castM t219)) (wm_X3_need E l hl9 x0 59 G213 _ e219) rfl (Nat.le_of_ble_eq_true rfl) ⟨by omega, by omega⟩ (fun hr9 => c_xback hC0 hr9 hS (fun H locs hG hS => ?_))
          refine lv_goto (tgt := 336) hx hb dX3_step_222 (by decide) ?_
          cases h
          exact c_xret (v := none) (G1 := qx219.2) rfl (c_vretW dX3_step_336 S hr hk hC0 hG hS rfl)
        have h := g_if c121_6 h
        by_cases c121_7 : x2 = 7
        · have h := g_it c121_7 h
          refine lv_tableIn (off := 87) (tgt := 208) hx hb dX3_step_121 (by rw [c121_7]; decide) (by rw [c121_7]; decide) (by rw [c121_7]; rfl) (by decide) ?_
          refine lv_aload_n hx hb dX3_step_208 rfl (lv_at hl 0 rfl) ?_
          refine lv_aload_n hx hb dX3_step_209 rfl (lv_at hl 1 rfl) ?_
          obtain ⟨u210, t210, h⟩ := g_bd h
          rcases gXb_e h with ⟨qx210, e210, h⟩ | ⟨xx210, e210, rfl⟩
          rotate_left
          · exact c_xV (r := .inr xx210) (y := yX3_whole) (rest := [.ref qx112.1]) dX3_step_210 q1514 q1516 qs25 q125 q1517 hc_X3_whole rfl S hE hG hS hC0 hl.1 rfl (c_recv hE hG (ci := 10) rfl (by decide) (c_castM t210)) (wm_X3_whole E l hl9 x0 G117 _ e210) rfl (Nat.le_of_ble_eq_true rfl) ⟨by omega, by omega⟩ (fun hr9 => c_xthrew hC0 hr9 hS (fun H locs ce hG hS h1 h2 h3 => c_xout rfl hx9 hk hC0 hG hS h1 h2 h3))
          refine c_xV (r := .inl (some (.ref qx210.1), qx210.2)) (y := yX3_whole) (rest := [.ref qx112.1]) dX3_step_210 q1514 q1516 qs25 q125 q1517 hc_X3_whole rfl S hE hG hS hC0 hl.1 rfl (c_recv hE hG (ci := 10) rfl (by decide) (c_castM t210)) (wm_X3_whole E l hl9 x0 G117 _ e210) rfl (Nat.le_of_ble_eq_true rfl) ⟨by omega, by omega⟩ (fun hr9 => c_xback hC0 hr9 hS (fun H locs hG hS => ?_))
          obtain ⟨G213, e213, h⟩ := g_bd h
          refine cp_X3_314 dX3_step_213 S hE hG hS hC0 e213 (fun H locs hG hS => ?_)
          refine lv_aload_n hx hb dX3_step_216 rfl (lv_at hl 1 rfl) ?_
          refine lv_bipush (v := 59) hx hb dX3_step_217 (by decide) ?_
          obtain ⟨u219, t219, h⟩ := g_bd h
          rcases gXb_e h with ⟨qx219, e219, h⟩ | ⟨xx219, e219, rfl⟩
          rotate_left
          · exact c_xV (r := .inr xx219) (y := yX3_need) (rest := []) dX3_step_219 q848 q850 qs10 q125 q851 hc_X3_need rfl S hE hG hS hC0 hl.1 rfl (c_recv hE hG (ci := 10) rfl (by decide) (c_castM t219)) (wm_X3_need E l hl9 x0 59 G213 _ e219) rfl (Nat.le_of_ble_eq_true rfl) ⟨by omega, by omega⟩ (fun hr9 => c_xthrew hC0 hr9 hS (fun H locs ce hG hS h1 h2 h3 => c_xout rfl hx9 hk hC0 hG hS h1 h2 h3))
          refine c_xV (r := .inl (none, qx219.2)) (y := yX3_need) (rest := []) dX3_step_219 q848 q850 qs10 q125 q851 hc_X3_need rfl S hE hG hS hC0 hl.1 rfl (c_recv hE hG (ci := 10) rfl (by decide) (c_castM t219)) (wm_X3_need E l hl9 x0 59 G213 _ e219) rfl (Nat.le_of_ble_eq_true rfl) ⟨by omega, by omega⟩ (fun hr9 => c_xback hC0 hr9 hS (fun H locs hG hS => ?_))
          refine lv_goto (tgt := 336) hx hb dX3_step_222 (by decide) ?_
          cases h
          exact c_xret (v := none) (G1 := qx219.2) rfl (c_vretW dX3_step_336 S hr hk hC0 hG hS rfl)
        have h := g_if c121_7 h
        by_cases c121_8 : x2 = 8
        · have h := g_it c121_8 h
          refine lv_tableIn (off := 132) (tgt := 253) hx hb dX3_step_121 (by rw [c121_8]; decide) (by rw [c121_8]; decide) (by rw [c121_8]; rfl) (by decide) ?_
          refine lv_aload_n hx hb dX3_step_253 rfl (lv_at hl 0 rfl) ?_
          refine lv_aload_n hx hb dX3_step_254 rfl (lv_at hl 1 rfl) ?_
          obtain ⟨u255, t255, h⟩ := g_bd h
          rcases gXb_e h with ⟨qx255, e255, h⟩ | ⟨xx255, e255, rfl⟩
          rotate_left
          · exact c_xV (r := .inr xx255) (y := yX3_cond) (rest := [.ref qx112.1]) dX3_step_255 q1628 q1630 qs30 q125 q1631 hc_X3_cond rfl S hE hG hS hC0 hl.1 rfl (c_recv hE hG (ci := 10) rfl (by decide) (c_castM t255)) (wm_X3_cond E l hl9 x0 G117 _ e255) rfl (Nat.le_of_ble_eq_true rfl) ⟨by omega, by omega⟩ (fun hr9 => c_xthrew hC0 hr9 hS (fun H locs ce hG hS h1 h2 h3 => c_xout rfl hx9 hk hC0 hG hS h1 h2 h3))
          refine c_xV (r := .inl (some (.ref qx255.1), qx255.2)) (y := yX3_cond) (rest := [.ref qx112.1]) dX3_step_255 q1628 q1630 qs30 q125 q1631 hc_X3_cond rfl S hE hG hS hC0 hl.1 rfl (c_recv hE hG (ci := 10) rfl (by decide) (c_castM t255)) (wm_X3_cond E l hl9 x0 G117 _ e255) rfl (Nat.le_of_ble_eq_true rfl) ⟨by omega, by omega⟩ (fun hr9 => c_xback hC0 hr9 hS (fun H locs hG hS => ?_))
          obtain ⟨G258, e258, h⟩ := g_bd h
          refine cp_X3_323 dX3_step_258 S hE hG hS hC0 e258 (fun H locs hG hS => ?_)
          refine lv_aload_n hx hb dX3_step_261 rfl (lv_at hl 1 rfl) ?_
          refine lv_bipush (v := 59) hx hb dX3_step_262 (by decide) ?_
          obtain ⟨u264, t264, h⟩ := g_bd h
          rcases gXb_e h with ⟨qx264, e264, h⟩ | ⟨xx264, e264, rfl⟩
          rotate_left
          · exact c_xV (r := .inr xx264) (y := yX3_need) (rest := []) dX3_step_264 q848 q850 qs10 q125 q851 hc_X3_need rfl S hE hG hS hC0 hl.1 rfl (c_recv hE hG (ci := 10) rfl (by decide) (c_castM t264)) (wm_X3_need E l hl9 x0 59 G258 _ e264) rfl (Nat.le_of_ble_eq_true rfl) ⟨by omega, by omega⟩ (fun hr9 => c_xthrew hC0 hr9 hS (fun H locs ce hG hS h1 h2 h3 => c_xout rfl hx9 hk hC0 hG hS h1 h2 h3))
          refine c_xV (r := .inl (none, qx264.2)) (y := yX3_need) (rest := []) dX3_step_264 q848 q850 qs10 q125 q851 hc_X3_need rfl S hE hG hS hC0 hl.1 rfl (c_recv hE hG (ci := 10) rfl (by decide) (c_castM t264)) (wm_X3_need E l hl9 x0 59 G258 _ e264) rfl (Nat.le_of_ble_eq_true rfl) ⟨by omega, by omega⟩ (fun hr9 => c_xback hC0 hr9 hS (fun H locs hG hS => ?_))
          refine lv_goto (tgt := 336) hx hb dX3_step_267 (by decide) ?_
          cases h
          exact c_xret (v := none) (G1 := qx264.2) rfl (c_vretW dX3_step_336 S hr hk hC0 hG hS rfl)
        have h := g_if c121_8 h
        by_cases c121_9 : x2 = 9
        · have h := g_it c121_9 h
          refine lv_tableIn (off := 149) (tgt := 270) hx hb dX3_step_121 (by rw [c121_9]; decide) (by rw [c121_9]; decide) (by rw [c121_9]; rfl) (by decide) ?_
          refine lv_aload_n hx hb dX3_step_270 rfl (lv_at hl 0 rfl) ?_
          refine lv_aload_n hx hb dX3_step_271 rfl (lv_at hl 1 rfl) ?_
          refine lv_iconst (v := 0) hx hb dX3_step_272 (by decide) ?_
          obtain ⟨u273, t273, h⟩ := g_bd h
          rcases gXb_e h with ⟨qx273, e273, h⟩ | ⟨xx273, e273, rfl⟩
          rotate_left
          · exact c_xV (r := .inr xx273) (y := yX3_old) (rest := [.ref qx112.1]) dX3_step_273 q1644 q1646 qs33 q125 q1647 hc_X3_old rfl S hE hG hS hC0 hl.1 rfl (c_recv hE hG (ci := 10) rfl (by decide) (c_castM t273)) (wm_X3_old E l hl9 x0 0 G117 _ e273) rfl (Nat.le_of_ble_eq_true rfl) ⟨by omega, by omega⟩ (fun hr9 => c_xthrew hC0 hr9 hS (fun H locs ce hG hS h1 h2 h3 => c_xout rfl hx9 hk hC0 hG hS h1 h2 h3))
          refine c_xV (r := .inl (some (.int qx273.1), qx273.2)) (y := yX3_old) (rest := [.ref qx112.1]) dX3_step_273 q1644 q1646 qs33 q125 q1647 hc_X3_old rfl S hE hG hS hC0 hl.1 rfl (c_recv hE hG (ci := 10) rfl (by decide) (c_castM t273)) (wm_X3_old E l hl9 x0 0 G117 _ e273) rfl (Nat.le_of_ble_eq_true rfl) ⟨by omega, by omega⟩ (fun hr9 => c_xback hC0 hr9 hS (fun H locs hG hS => ?_))
          obtain ⟨G276, e276, h⟩ := g_bd h
          refine cp_X3_318 dX3_step_276 S hE hG hS hC0 e276 (fun H locs hG hS => ?_)
          refine lv_aload_n hx hb dX3_step_279 rfl (lv_at hl 1 rfl) ?_
          refine lv_bipush (v := 59) hx hb dX3_step_280 (by decide) ?_
          obtain ⟨u282, t282, h⟩ := g_bd h
          rcases gXb_e h with ⟨qx282, e282, h⟩ | ⟨xx282, e282, rfl⟩
          rotate_left
          · exact c_xV (r := .inr xx282) (y := yX3_need) (rest := []) dX3_step_282 q848 q850 qs10 q125 q851 hc_X3_need rfl S hE hG hS hC0 hl.1 rfl (c_recv hE hG (ci := 10) rfl (by decide) (c_castM t282)) (wm_X3_need E l hl9 x0 59 G276 _ e282) rfl (Nat.le_of_ble_eq_true rfl) ⟨by omega, by omega⟩ (fun hr9 => c_xthrew hC0 hr9 hS (fun H locs ce hG hS h1 h2 h3 => c_xout rfl hx9 hk hC0 hG hS h1 h2 h3))
          refine c_xV (r := .inl (none, qx282.2)) (y := yX3_need) (rest := []) dX3_step_282 q848 q850 qs10 q125 q851 hc_X3_need rfl S hE hG hS hC0 hl.1 rfl (c_recv hE hG (ci := 10) rfl (by decide) (c_castM t282)) (wm_X3_need E l hl9 x0 59 G276 _ e282) rfl (Nat.le_of_ble_eq_true rfl) ⟨by omega, by omega⟩ (fun hr9 => c_xback hC0 hr9 hS (fun H locs hG hS => ?_))
          refine lv_goto (tgt := 336) hx hb dX3_step_285 (by decide) ?_
          cases h
          exact c_xret (v := none) (G1 := qx282.2) rfl (c_vretW dX3_step_336 S hr hk hC0 hG hS rfl)
        have h := g_if c121_9 h
        by_cases c121_10 : x2 = 10
        · have h := g_it c121_10 h
          refine lv_tableIn (off := 149) (tgt := 270) hx hb dX3_step_121 (by rw [c121_10]; decide) (by rw [c121_10]; decide) (by rw [c121_10]; rfl) (by decide) ?_
          refine lv_aload_n hx hb dX3_step_270 rfl (lv_at hl 0 rfl) ?_
          refine lv_aload_n hx hb dX3_step_271 rfl (lv_at hl 1 rfl) ?_
          refine lv_iconst (v := 0) hx hb dX3_step_272 (by decide) ?_
          obtain ⟨u273, t273, h⟩ := g_bd h
          rcases gXb_e h with ⟨qx273, e273, h⟩ | ⟨xx273, e273, rfl⟩
          rotate_left
          · exact c_xV (r := .inr xx273) (y := yX3_old) (rest := [.ref qx112.1]) dX3_step_273 q1644 q1646 qs33 q125 q1647 hc_X3_old rfl S hE hG hS hC0 hl.1 rfl (c_recv hE hG (ci := 10) rfl (by decide) (c_castM t273)) (wm_X3_old E l hl9 x0 0 G117 _ e273) rfl (Nat.le_of_ble_eq_true rfl) ⟨by omega, by omega⟩ (fun hr9 => c_xthrew hC0 hr9 hS (fun H locs ce hG hS h1 h2 h3 => c_xout rfl hx9 hk hC0 hG hS h1 h2 h3))
          refine c_xV (r := .inl (some (.int qx273.1), qx273.2)) (y := yX3_old) (rest := [.ref qx112.1]) dX3_step_273 q1644 q1646 qs33 q125 q1647 hc_X3_old rfl S hE hG hS hC0 hl.1 rfl (c_recv hE hG (ci := 10) rfl (by decide) (c_castM t273)) (wm_X3_old E l hl9 x0 0 G117 _ e273) rfl (Nat.le_of_ble_eq_true rfl) ⟨by omega, by omega⟩ (fun hr9 => c_xback hC0 hr9 hS (fun H locs hG hS => ?_))
          obtain ⟨G276, e276, h⟩ := g_bd h
          refine cp_X3_318 dX3_step_276 S hE hG hS hC0 e276 (fun H locs hG hS => ?_)
          refine lv_aload_n hx hb dX3_step_279 rfl (lv_at hl 1 rfl) ?_
          refine lv_bipush (v := 59) hx hb dX3_step_280 (by decide) ?_
          obtain ⟨u282, t282, h⟩ := g_bd h
          rcases gXb_e h with ⟨qx282, e282, h⟩ | ⟨xx282, e282, rfl⟩
          rotate_left
          · exact c_xV (r := .inr xx282) (y := yX3_need) (rest := []) dX3_step_282 q848 q850 qs10 q125 q851 hc_X3_need rfl S hE hG hS hC0 hl.1 rfl (c_recv hE hG (ci := 10) rfl (by decide) (c_castM t282)) (wm_X3_need E l hl9 x0 59 G276 _ e282) rfl (Nat.le_of_ble_eq_true rfl) ⟨by omega, by omega⟩ (fun hr9 => c_xthrew hC0 hr9 hS (fun H locs ce hG hS h1 h2 h3 => c_xout rfl hx9 hk hC0 hG hS h1 h2 h3))
          refine c_xV (r := .inl (none, qx282.2)) (y := yX3_need) (rest := []) dX3_step_282 q848 q850 qs10 q125 q851 hc_X3_need rfl S hE hG hS hC0 hl.1 rfl (c_recv hE hG (ci := 10) rfl (by decide) (c_castM t282)) (wm_X3_need E l hl9 x0 59 G276 _ e282) rfl (Nat.le_of_ble_eq_true rfl) ⟨by omega, by omega⟩ (fun hr9 => c_xback hC0 hr9 hS (fun H locs hG hS => ?_))
          refine lv_goto (tgt := 336) hx hb dX3_step_285 (by decide) ?_
          cases h
          exact c_xret (v := none) (G1 := qx282.2) rfl (c_vretW dX3_step_336 S hr hk hC0 hG hS rfl)
        have h := g_if c121_10 h
        by_cases c121_11 : x2 = 11
        · have h := g_it c121_11 h
          refine lv_tableIn (off := 167) (tgt := 288) hx hb dX3_step_121 (by rw [c121_11]; decide) (by rw [c121_11]; decide) (by rw [c121_11]; rfl) (by decide) ?_
          refine lv_aload_n hx hb dX3_step_288 rfl (lv_at hl 0 rfl) ?_
          refine lv_aload_n hx hb dX3_step_289 rfl (lv_at hl 1 rfl) ?_
          refine lv_iconst (v := 1) hx hb dX3_step_290 (by decide) ?_
          obtain ⟨u291, t291, h⟩ := g_bd h
          rcases gXb_e h with ⟨qx291, e291, h⟩ | ⟨xx291, e291, rfl⟩
          rotate_left
          · exact c_xV (r := .inr xx291) (y := yX3_old) (rest := [.ref qx112.1]) dX3_step_291 q1644 q1646 qs33 q125 q1647 hc_X3_old rfl S hE hG hS hC0 hl.1 rfl (c_recv hE hG (ci := 10) rfl (by decide) (c_castM t291)) (wm_X3_old E l hl9 x0 1 G117 _ e291) rfl (Nat.le_of_ble_eq_true rfl) ⟨by omega, by omega⟩ (fun hr9 => c_xthrew hC0 hr9 hS (fun H locs ce hG hS h1 h2 h3 => c_xout rfl hx9 hk hC0 hG hS h1 h2 h3))
          refine c_xV (r := .inl (some (.int qx291.1), qx291.2)) (y := yX3_old) (rest := [.ref qx112.1]) dX3_step_291 q1644 q1646 qs33 q125 q1647 hc_X3_old rfl S hE hG hS hC0 hl.1 rfl (c_recv hE hG (ci := 10) rfl (by decide) (c_castM t291)) (wm_X3_old E l hl9 x0 1 G117 _ e291) rfl (Nat.le_of_ble_eq_true rfl) ⟨by omega, by omega⟩ (fun hr9 => c_xback hC0 hr9 hS (fun H locs hG hS => ?_))
          obtain ⟨G294, e294, h⟩ := g_bd h
          refine cp_X3_318 dX3_step_294 S hE hG hS hC0 e294 (fun H locs hG hS => ?_)
          refine lv_aload_n hx hb dX3_step_297 rfl (lv_at hl 1 rfl) ?_
          refine lv_bipush (v := 59) hx hb dX3_step_298 (by decide) ?_
          obtain ⟨u300, t300, h⟩ := g_bd h
          rcases gXb_e h with ⟨qx300, e300, h⟩ | ⟨xx300, e300, rfl⟩
          rotate_left
          · exact c_xV (r := .inr xx300) (y := yX3_need) (rest := []) dX3_step_300 q848 q850 qs10 q125 q851 hc_X3_need rfl S hE hG hS hC0 hl.1 rfl (c_recv hE hG (ci := 10) rfl (by decide) (c_castM t300)) (wm_X3_need E l hl9 x0 59 G294 _ e300) rfl (Nat.le_of_ble_eq_true rfl) ⟨by omega, by omega⟩ (fun hr9 => c_xthrew hC0 hr9 hS (fun H locs ce hG hS h1 h2 h3 => c_xout rfl hx9 hk hC0 hG hS h1 h2 h3))
          refine c_xV (r := .inl (none, qx300.2)) (y := yX3_need) (rest := []) dX3_step_300 q848 q850 qs10 q125 q851 hc_X3_need rfl S hE hG hS hC0 hl.1 rfl (c_recv hE hG (ci := 10) rfl (by decide) (c_castM t300)) (wm_X3_need E l hl9 x0 59 G294 _ e300) rfl (Nat.le_of_ble_eq_true rfl) ⟨by omega, by omega⟩ (fun hr9 => c_xback hC0 hr9 hS (fun H locs hG hS => ?_))
          refine lv_goto (tgt := 336) hx hb dX3_step_303 (by decide) ?_
          cases h
          exact c_xret (v := none) (G1 := qx300.2) rfl (c_vretW dX3_step_336 S hr hk hC0 hG hS rfl)
        have h := g_if c121_11 h
        by_cases c121_12 : x2 = 12
        · have h := g_it c121_12 h
          refine lv_tableIn (off := 167) (tgt := 288) hx hb dX3_step_121 (by rw [c121_12]; decide) (by rw [c121_12]; decide) (by rw [c121_12]; rfl) (by decide) ?_
          refine lv_aload_n hx hb dX3_step_288 rfl (lv_at hl 0 rfl) ?_
          refine lv_aload_n hx hb dX3_step_289 rfl (lv_at hl 1 rfl) ?_
          refine lv_iconst (v := 1) hx hb dX3_step_290 (by decide) ?_
          obtain ⟨u291, t291, h⟩ := g_bd h
          rcases gXb_e h with ⟨qx291, e291, h⟩ | ⟨xx291, e291, rfl⟩
          rotate_left
          · exact c_xV (r := .inr xx291) (y := yX3_old) (rest := [.ref qx112.1]) dX3_step_291 q1644 q1646 qs33 q125 q1647 hc_X3_old rfl S hE hG hS hC0 hl.1 rfl (c_recv hE hG (ci := 10) rfl (by decide) (c_castM t291)) (wm_X3_old E l hl9 x0 1 G117 _ e291) rfl (Nat.le_of_ble_eq_true rfl) ⟨by omega, by omega⟩ (fun hr9 => c_xthrew hC0 hr9 hS (fun H locs ce hG hS h1 h2 h3 => c_xout rfl hx9 hk hC0 hG hS h1 h2 h3))
          refine c_xV (r := .inl (some (.int qx291.1), qx291.2)) (y := yX3_old) (rest := [.ref qx112.1]) dX3_step_291 q1644 q1646 qs33 q125 q1647 hc_X3_old rfl S hE hG hS hC0 hl.1 rfl (c_recv hE hG (ci := 10) rfl (by decide) (c_castM t291)) (wm_X3_old E l hl9 x0 1 G117 _ e291) rfl (Nat.le_of_ble_eq_true rfl) ⟨by omega, by omega⟩ (fun hr9 => c_xback hC0 hr9 hS (fun H locs hG hS => ?_))
          obtain ⟨G294, e294, h⟩ := g_bd h
          refine cp_X3_318 dX3_step_294 S hE hG hS hC0 e294 (fun H locs hG hS => ?_)
          refine lv_aload_n hx hb dX3_step_297 rfl (lv_at hl 1 rfl) ?_
          refine lv_bipush (v := 59) hx hb dX3_step_298 (by decide) ?_
          obtain ⟨u300, t300, h⟩ := g_bd h
          rcases gXb_e h with ⟨qx300, e300, h⟩ | ⟨xx300, e300, rfl⟩
          rotate_left
          · exact c_xV (r := .inr xx300) (y := yX3_need) (rest := []) dX3_step_300 q848 q850 qs10 q125 q851 hc_X3_need rfl S hE hG hS hC0 hl.1 rfl (c_recv hE hG (ci := 10) rfl (by decide) (c_castM t300)) (wm_X3_need E l hl9 x0 59 G294 _ e300) rfl (Nat.le_of_ble_eq_true rfl) ⟨by omega, by omega⟩ (fun hr9 => c_xthrew hC0 hr9 hS (fun H locs ce hG hS h1 h2 h3 => c_xout rfl hx9 hk hC0 hG hS h1 h2 h3))
          refine c_xV (r := .inl (none, qx300.2)) (y := yX3_need) (rest := []) dX3_step_300 q848 q850 qs10 q125 q851 hc_X3_need rfl S hE hG hS hC0 hl.1 rfl (c_recv hE hG (ci := 10) rfl (by decide) (c_castM t300)) (wm_X3_need E l hl9 x0 59 G294 _ e300) rfl (Nat.le_of_ble_eq_true rfl) ⟨by omega, by omega⟩ (fun hr9 => c_xback hC0 hr9 hS (fun H locs hG hS => ?_))
          refine lv_goto (tgt := 336) hx hb dX3_step_303 (by decide) ?_
          cases h
          exact c_xret (v := none) (G1 := qx300.2) rfl (c_vretW dX3_step_336 S hr hk hC0 hG hS rfl)
        have h := g_if c121_12 h
        by_cases c121_13 : x2 = 13
        · have h := g_it c121_13 h
          refine lv_tableIn (off := 104) (tgt := 225) hx hb dX3_step_121 (by rw [c121_13]; decide) (by rw [c121_13]; decide) (by rw [c121_13]; rfl) (by decide) ?_
          refine lv_aload_n hx hb dX3_step_225 rfl (lv_at hl 0 rfl) ?_
          refine lv_iload_n hx hb dX3_step_226 rfl (lv_at hl 2 rfl) ?_
          obtain ⟨G227, e227, h⟩ := g_bd h
          refine cp_X3_318 dX3_step_227 S hE hG hS hC0 e227 (fun H locs hG hS => ?_)
          refine lv_aload_n hx hb dX3_step_230 rfl (lv_at hl 1 rfl) ?_
          refine lv_bipush (v := 61) hx hb dX3_step_231 (by decide) ?_
          obtain ⟨u233, t233, h⟩ := g_bd h
          rcases gXb_e h with ⟨qx233, e233, h⟩ | ⟨xx233, e233, rfl⟩
          rotate_left
          · exact c_xV (r := .inr xx233) (y := yX3_need) (rest := []) dX3_step_233 q848 q850 qs10 q125 q851 hc_X3_need rfl S hE hG hS hC0 hl.1 rfl (c_recv hE hG (ci := 10) rfl (by decide) (c_castM t233)) (wm_X3_need E l hl9 x0 61 G227 _ e233) rfl (Nat.le_of_ble_eq_true rfl) ⟨by omega, by omega⟩ (fun hr9 => c_xthrew hC0 hr9 hS (fun H locs ce hG hS h1 h2 h3 => c_xout rfl hx9 hk hC0 hG hS h1 h2 h3))
          refine c_xV (r := .inl (none, qx233.2)) (y := yX3_need) (rest := []) dX3_step_233 q848 q850 qs10 q125 q851 hc_X3_need rfl S hE hG hS hC0 hl.1 rfl (c_recv hE hG (ci := 10) rfl (by decide) (c_castM t233)) (wm_X3_need E l hl9 x0 61 G227 _ e233) rfl (Nat.le_of_ble_eq_true rfl) ⟨by omega, by omega⟩ (fun hr9 => c_xback hC0 hr9 hS (fun H locs hG hS => ?_))
          refine lv_aload_n hx hb dX3_step_236 rfl (lv_at hl 0 rfl) ?_
          refine lv_aload_n hx hb dX3_step_237 rfl (lv_at hl 1 rfl) ?_
          obtain ⟨u238, t238, h⟩ := g_bd h
          rcases gXb_e h with ⟨qx238, e238, h⟩ | ⟨xx238, e238, rfl⟩
          rotate_left
          · exact c_xV (r := .inr xx238) (y := yX3_whole) (rest := [.ref qx112.1]) dX3_step_238 q1514 q1516 qs25 q125 q1517 hc_X3_whole rfl S hE hG hS hC0 hl.1 rfl (c_recv hE hG (ci := 10) rfl (by decide) (c_castM t238)) (wm_X3_whole E l hl9 x0 qx233.2 _ e238) rfl (Nat.le_of_ble_eq_true rfl) ⟨by omega, by omega⟩ (fun hr9 => c_xthrew hC0 hr9 hS (fun H locs ce hG hS h1 h2 h3 => c_xout rfl hx9 hk hC0 hG hS h1 h2 h3))
          refine c_xV (r := .inl (some (.ref qx238.1), qx238.2)) (y := yX3_whole) (rest := [.ref qx112.1]) dX3_step_238 q1514 q1516 qs25 q125 q1517 hc_X3_whole rfl S hE hG hS hC0 hl.1 rfl (c_recv hE hG (ci := 10) rfl (by decide) (c_castM t238)) (wm_X3_whole E l hl9 x0 qx233.2 _ e238) rfl (Nat.le_of_ble_eq_true rfl) ⟨by omega, by omega⟩ (fun hr9 => c_xback hC0 hr9 hS (fun H locs hG hS => ?_))
          obtain ⟨G241, e241, h⟩ := g_bd h
          refine cp_X3_314 dX3_step_241 S hE hG hS hC0 e241 (fun H locs hG hS => ?_)
          refine lv_aload_n hx hb dX3_step_244 rfl (lv_at hl 1 rfl) ?_
          refine lv_bipush (v := 59) hx hb dX3_step_245 (by decide) ?_
          obtain ⟨u247, t247, h⟩ := g_bd h
          rcases gXb_e h with ⟨qx247, e247, h⟩ | ⟨xx247, e247, rfl⟩
          rotate_left
          · exact c_xV (r := .inr xx247) (y := yX3_need) (rest := []) dX3_step_247 q848 q850 qs10 q125 q851 hc_X3_need rfl S hE hG hS hC0 hl.1 rfl (c_recv hE hG (ci := 10) rfl (by decide) (c_castM t247)) (wm_X3_need E l hl9 x0 59 G241 _ e247) rfl (Nat.le_of_ble_eq_true rfl) ⟨by omega, by omega⟩ (fun hr9 => c_xthrew hC0 hr9 hS (fun H locs ce hG hS h1 h2 h3 => c_xout rfl hx9 hk hC0 hG hS h1 h2 h3))
          refine c_xV (r := .inl (none, qx247.2)) (y := yX3_need) (rest := []) dX3_step_247 q848 q850 qs10 q125 q851 hc_X3_need rfl S hE hG hS hC0 hl.1 rfl (c_recv hE hG (ci := 10) rfl (by decide) (c_castM t247)) (wm_X3_need E l hl9 x0 59 G241 _ e247) rfl (Nat.le_of_ble_eq_true rfl) ⟨by omega, by omega⟩ (fun hr9 => c_xback hC0 hr9 hS (fun H locs hG hS => ?_))
          refine lv_goto (tgt := 336) hx hb dX3_step_250 (by decide) ?_
          cases h
          exact c_xret (v := none) (G1 := qx247.2) rfl (c_vretW dX3_step_336 S hr hk hC0 hG hS rfl)
        have h := g_if c121_13 h
        by_cases c121_14 : x2 = 14
        · have h := g_it c121_14 h
          refine lv_tableIn (off := 185) (tgt := 306) hx hb dX3_step_121 (by rw [c121_14]; decide) (by rw [c121_14]; decide) (by rw [c121_14]; rfl) (by decide) ?_
          refine lv_aload_n hx hb dX3_step_306 rfl (lv_at hl 1 rfl) ?_
          refine lv_aload_n hx hb dX3_step_307 rfl (lv_at hl 0 rfl) ?_
          obtain ⟨u308, t308, h⟩ := g_bd h
          rcases gXb_e h with ⟨qx308, e308, h⟩ | ⟨xx308, e308, rfl⟩
          rotate_left
          · exact c_xV (r := .inr xx308) (y := yX3_loop) (rest := []) dX3_step_308 q1700 q1702 qs34 q125 q1703 hc_X3_loop rfl S hE hG hS hC0 hl.1 rfl (c_recv hE hG (ci := 10) rfl (by decide) (c_castM t308)) (ihd.2.2.1 x0 qx112.1 G117 _ e308) rfl (Nat.le_of_ble_eq_true rfl) ⟨by omega, by omega⟩ (fun hr9 => c_xthrew hC0 hr9 hS (fun H locs ce hG hS h1 h2 h3 => c_xout rfl hx9 hk hC0 hG hS h1 h2 h3))
          refine c_xV (r := .inl (none, qx308.2)) (y := yX3_loop) (rest := []) dX3_step_308 q1700 q1702 qs34 q125 q1703 hc_X3_loop rfl S hE hG hS hC0 hl.1 rfl (c_recv hE hG (ci := 10) rfl (by decide) (c_castM t308)) (ihd.2.2.1 x0 qx112.1 G117 _ e308) rfl (Nat.le_of_ble_eq_true rfl) ⟨by omega, by omega⟩ (fun hr9 => c_xback hC0 hr9 hS (fun H locs hG hS => ?_))
          refine lv_goto (tgt := 336) hx hb dX3_step_311 (by decide) ?_
          cases h
          exact c_xret (v := none) (G1 := qx308.2) rfl (c_vretW dX3_step_336 S hr hk hC0 hG hS rfl)
        have h := g_if c121_14 h
        by_cases c121_15 : x2 = 15
        · have h := g_it c121_15 h
          refine lv_tableIn (off := 185) (tgt := 306) hx hb dX3_step_121 (by rw [c121_15]; decide) (by rw [c121_15]; decide) (by rw [c121_15]; rfl) (by decide) ?_
          refine lv_aload_n hx hb dX3_step_306 rfl (lv_at hl 1 rfl) ?_
          refine lv_aload_n hx hb dX3_step_307 rfl (lv_at hl 0 rfl) ?_
          obtain ⟨u308, t308, h⟩ := g_bd h
          rcases gXb_e h with ⟨qx308, e308, h⟩ | ⟨xx308, e308, rfl⟩
          rotate_left
          · exact c_xV (r := .inr xx308) (y := yX3_loop) (rest := []) dX3_step_308 q1700 q1702 qs34 q125 q1703 hc_X3_loop rfl S hE hG hS hC0 hl.1 rfl (c_recv hE hG (ci := 10) rfl (by decide) (c_castM t308)) (ihd.2.2.1 x0 qx112.1 G117 _ e308) rfl (Nat.le_of_ble_eq_true rfl) ⟨by omega, by omega⟩ (fun hr9 => c_xthrew hC0 hr9 hS (fun H locs ce hG hS h1 h2 h3 => c_xout rfl hx9 hk hC0 hG hS h1 h2 h3))
          refine c_xV (r := .inl (none, qx308.2)) (y := yX3_loop) (rest := []) dX3_step_308 q1700 q1702 qs34 q125 q1703 hc_X3_loop rfl S hE hG hS hC0 hl.1 rfl (c_recv hE hG (ci := 10) rfl (by decide) (c_castM t308)) (ihd.2.2.1 x0 qx112.1 G117 _ e308) rfl (Nat.le_of_ble_eq_true rfl) ⟨by omega, by omega⟩ (fun hr9 => c_xback hC0 hr9 hS (fun H locs hG hS => ?_))
          refine lv_goto (tgt := 336) hx hb dX3_step_311 (by decide) ?_
          cases h
          exact c_xret (v := none) (G1 := qx308.2) rfl (c_vretW dX3_step_336 S hr hk hC0 hG hS rfl)
        have h := g_if c121_15 h
        by_cases c121_16 : x2 = 16
        · have h := g_it c121_16 h
          refine lv_tableIn (off := 193) (tgt := 314) hx hb dX3_step_121 (by rw [c121_16]; decide) (by rw [c121_16]; decide) (by rw [c121_16]; rfl) (by decide) ?_
          refine lv_aload_n hx hb dX3_step_314 rfl (lv_at hl 1 rfl) ?_
          refine lv_aload_n hx hb dX3_step_315 rfl (lv_at hl 0 rfl) ?_
          obtain ⟨u316, t316, h⟩ := g_bd h
          rcases gXb_e h with ⟨qx316, e316, h⟩ | ⟨xx316, e316, rfl⟩
          rotate_left
          · exact c_xV (r := .inr xx316) (y := yX3_whether) (rest := []) dX3_step_316 q1708 q1710 qs36 q125 q1711 hc_X3_whether rfl S hE hG hS hC0 hl.1 rfl (c_recv hE hG (ci := 10) rfl (by decide) (c_castM t316)) (ihd.2.2.2.1 x0 qx112.1 G117 _ e316) rfl (Nat.le_of_ble_eq_true rfl) ⟨by omega, by omega⟩ (fun hr9 => c_xthrew hC0 hr9 hS (fun H locs ce hG hS h1 h2 h3 => c_xout rfl hx9 hk hC0 hG hS h1 h2 h3))
          refine c_xV (r := .inl (none, qx316.2)) (y := yX3_whether) (rest := []) dX3_step_316 q1708 q1710 qs36 q125 q1711 hc_X3_whether rfl S hE hG hS hC0 hl.1 rfl (c_recv hE hG (ci := 10) rfl (by decide) (c_castM t316)) (ihd.2.2.2.1 x0 qx112.1 G117 _ e316) rfl (Nat.le_of_ble_eq_true rfl) ⟨by omega, by omega⟩ (fun hr9 => c_xback hC0 hr9 hS (fun H locs hG hS => ?_))
          refine lv_goto (tgt := 336) hx hb dX3_step_319 (by decide) ?_
          cases h
          exact c_xret (v := none) (G1 := qx316.2) rfl (c_vretW dX3_step_336 S hr hk hC0 hG hS rfl)
        have h := g_if c121_16 h
        by_cases c121_17 : x2 = 17
        · have h := g_it c121_17 h
          refine lv_tableIn (off := 201) (tgt := 322) hx hb dX3_step_121 (by rw [c121_17]; decide) (by rw [c121_17]; decide) (by rw [c121_17]; rfl) (by decide) ?_
          refine lv_aload_n hx hb dX3_step_322 rfl (lv_at hl 1 rfl) ?_
          refine lv_aload_n hx hb dX3_step_323 rfl (lv_at hl 0 rfl) ?_
          obtain ⟨u324, t324, h⟩ := g_bd h
          rcases gXb_e h with ⟨qx324, e324, h⟩ | ⟨xx324, e324, rfl⟩
          rotate_left
          · exact c_xV (r := .inr xx324) (y := yX3_guard) (rest := []) dX3_step_324 q1713 q1715 qs37 q125 q1716 hc_X3_guard rfl S hE hG hS hC0 hl.1 rfl (c_recv hE hG (ci := 10) rfl (by decide) (c_castM t324)) (ihd.2.2.2.2 x0 qx112.1 G117 _ e324) rfl (Nat.le_of_ble_eq_true rfl) ⟨by omega, by omega⟩ (fun hr9 => c_xthrew hC0 hr9 hS (fun H locs ce hG hS h1 h2 h3 => c_xout rfl hx9 hk hC0 hG hS h1 h2 h3))
          refine c_xV (r := .inl (none, qx324.2)) (y := yX3_guard) (rest := []) dX3_step_324 q1713 q1715 qs37 q125 q1716 hc_X3_guard rfl S hE hG hS hC0 hl.1 rfl (c_recv hE hG (ci := 10) rfl (by decide) (c_castM t324)) (ihd.2.2.2.2 x0 qx112.1 G117 _ e324) rfl (Nat.le_of_ble_eq_true rfl) ⟨by omega, by omega⟩ (fun hr9 => c_xback hC0 hr9 hS (fun H locs hG hS => ?_))
          refine lv_goto (tgt := 336) hx hb dX3_step_327 (by decide) ?_
          cases h
          exact c_xret (v := none) (G1 := qx324.2) rfl (c_vretW dX3_step_336 S hr hk hC0 hG hS rfl)
        have h := g_if c121_17 h
        refine lv_tableOut (tgt := 330) hx hb dX3_step_121 (g_swOut 0 17 (by intro k hk; match k, hk with | 0, _ => exact c121_0 | 1, _ => exact c121_1 | 2, _ => exact c121_2 | 3, _ => exact c121_3 | 4, _ => exact c121_4 | 5, _ => exact c121_5 | 6, _ => exact c121_6 | 7, _ => exact c121_7 | 8, _ => exact c121_8 | 9, _ => exact c121_9 | 10, _ => exact c121_10 | 11, _ => exact c121_11 | 12, _ => exact c121_12 | 13, _ => exact c121_13 | 14, _ => exact c121_14 | 15, _ => exact c121_15 | 16, _ => exact c121_16 | 17, _ => exact c121_17 | k + 18, hk => exact absurd hk (by omega)) (by decide) (by decide)) (by decide) ?_
        refine lv_aload_n hx hb dX3_step_330 rfl (lv_at hl 1 rfl) ?_
        refine lv_bipush (v := 59) hx hb dX3_step_331 (by decide) ?_
        obtain ⟨u333, t333, h⟩ := g_bd h
        rcases gXb_e h with ⟨qx333, e333, h⟩ | ⟨xx333, e333, rfl⟩
        rotate_left
        · exact c_xV (r := .inr xx333) (y := yX3_need) (rest := []) dX3_step_333 q848 q850 qs10 q125 q851 hc_X3_need rfl S hE hG hS hC0 hl.1 rfl (c_recv hE hG (ci := 10) rfl (by decide) (c_castM t333)) (wm_X3_need E l hl9 x0 59 G117 _ e333) rfl (Nat.le_of_ble_eq_true rfl) ⟨by omega, by omega⟩ (fun hr9 => c_xthrew hC0 hr9 hS (fun H locs ce hG hS h1 h2 h3 => c_xout rfl hx9 hk hC0 hG hS h1 h2 h3))
        refine c_xV (r := .inl (none, qx333.2)) (y := yX3_need) (rest := []) dX3_step_333 q848 q850 qs10 q125 q851 hc_X3_need rfl S hE hG hS hC0 hl.1 rfl (c_recv hE hG (ci := 10) rfl (by decide) (c_castM t333)) (wm_X3_need E l hl9 x0 59 G117 _ e333) rfl (Nat.le_of_ble_eq_true rfl) ⟨by omega, by omega⟩ (fun hr9 => c_xback hC0 hr9 hS (fun H locs hG hS => ?_))
        cases h
        exact c_xret (v := none) (G1 := qx333.2) rfl (c_vretW dX3_step_336 S hr hk hC0 hG hS rfl)
      have J53 : ∀ (x0 : Nat) (x1 : Int32) (x2 : Int32) (G : GH) (H : Heap) (locs : List Loc) (ls : Array Slot), cm_X3_step_J53 (cm_S231 d) x0 x1 x2 G = some r → gC E G H → va_S (gx_C E) s.heap H locs → lv_has ls 4 [(0, .ref x0), (1, .int x1), (2, .int x2)] → WC E p l e (gRm (74 + (d + 1)) (cBx Gz) (cBs Gz)) s m args below meth c H locs (gXMQ E below (gRs (fun _ => none) r) args s Gz) (F0 m 53 ls []) := by
        intro x0 x1 x2 G H locs ls h hG hS hl
        unfold cm_X3_step_J53 at h
        refine lv_aload_n hx hb dX3_step_53 rfl (lv_at hl 0 rfl) ?_
        obtain ⟨v54, e54, h⟩ := g_bd h
        refine cg_X3_217 dX3_step_54 S hE hG e54 ?_
        refine lv_sipush (v := 150) hx hb dX3_step_57 (by decide) ?_
        refine lv_icmp_ne (tgt := 69) hx hb dX3_step_60 (by decide) (fun c60 => ?_) (fun c60 => ?_)
        · have h := g_if c60 h
          refine lv_aload_n hx hb dX3_step_69 rfl (lv_at hl 0 rfl) ?_
          refine lv_iload_n hx hb dX3_step_70 rfl (lv_at hl 2 rfl) ?_
          obtain ⟨u71, t71, h⟩ := g_bd h
          obtain ⟨v71, e71, h⟩ := g_bd h
          refine c_cV (y := yX3_canDo) (rest := []) dX3_step_71 q1461 q1463 qs23 q125 q1464 hc_X3_canDo rfl S hE hG hS hC0 hl.1 rfl (c_recv hE hG (ci := 10) rfl (by decide) (c_castM t71)) (wm_X3_canDo E l x0 x2 G _ e71) rfl (Nat.le_of_ble_eq_true rfl) ⟨by omega, by omega⟩ (fun H locs hG hS => ?_)
          refine lv_if_eq (tgt := 90) hx hb dX3_step_74 (by decide) (fun c74 => ?_) (fun c74 => ?_)
          · have h := g_it c74 h
            exact J90 x0 G _ _ _ h hG hS (lv_sub hl [0] rfl)
          · have h := g_if c74 h
            refine lv_iload_n hx hb dX3_step_77 rfl (lv_at hl 2 rfl) ?_
            refine lv_bipush (v := 18) hx hb dX3_step_78 (by decide) ?_
            refine lv_icmp_ne (tgt := 96) hx hb dX3_step_80 (by decide) (fun c80 => ?_) (fun c80 => ?_)
            · have h := g_if c80 h
              exact J96 x0 x1 x2 G _ _ _ h hG hS (lv_sub hl [0, 1, 2] rfl)
            · have h := g_it c80 h
              refine lv_aload_n hx hb dX3_step_83 rfl (lv_at hl 0 rfl) ?_
              obtain ⟨v84, e84, h⟩ := g_bd h
              refine cg_X3_223 dX3_step_84 S hE hG e84 ?_
              refine lv_if_ne (tgt := 96) hx hb dX3_step_87 (by decide) (fun c87 => ?_) (fun c87 => ?_)
              · have h := g_if c87 h
                exact J96 x0 x1 x2 G _ _ _ h hG hS (lv_sub hl [0, 1, 2] rfl)
              · have h := g_it c87 h
                exact J90 x0 G _ _ _ h hG hS (lv_sub hl [0] rfl)
        · have h := g_it c60 h
          refine lv_aload_n hx hb dX3_step_63 rfl (lv_at hl 0 rfl) ?_
          refine lv_iconst (v := 4) hx hb dX3_step_64 (by decide) ?_
          obtain ⟨u65, t65, h⟩ := g_bd h
          obtain ⟨qx65, e65, h⟩ := g_bd h
          refine c_cV (y := yX3_wrong) (rest := []) dX3_step_65 q817 q819 qs8 q125 q820 hc_X3_wrong rfl S hE hG hS hC0 hl.1 rfl (c_recv hE hG (ci := 10) rfl (by decide) (c_castM t65)) (wm_X3_wrong E l hl9 x0 4 G _ _ e65) rfl (Nat.le_of_ble_eq_true rfl) ⟨by omega, by omega⟩ (fun H locs hG hS => ?_)
          exact c_throwW dX3_step_68 S hE hG hS hC0 hx9 hk h
      have J31 : ∀ (x0 : Nat) (x1 : Int32) (s0 : Int32) (G : GH) (H : Heap) (locs : List Loc) (ls : Array Slot), cm_X3_step_J31 (cm_S231 d) x0 x1 s0 G = some r → gC E G H → va_S (gx_C E) s.heap H locs → lv_has ls 4 [(0, .ref x0), (1, .int x1)] → WC E p l e (gRm (74 + (d + 1)) (cBx Gz) (cBs Gz)) s m args below meth c H locs (gXMQ E below (gRs (fun _ => none) r) args s Gz) (F0 m 31 ls [.int s0]) := by
        intro x0 x1 s0 G H locs ls h hG hS hl
        unfold cm_X3_step_J31 at h
        refine lv_istore_n (lv' := [(2, .int s0), (0, .ref x0), (1, .int x1)]) hx hb dX3_step_31 rfl hl (by decide) rfl (fun ls hl => ?_)
        refine lv_iload_n hx hb dX3_step_32 rfl (lv_at hl 0 rfl) ?_
        refine lv_iconst (v := (-1)) hx hb dX3_step_33 (by decide) ?_
        refine lv_icmp_eq (tgt := 47) hx hb dX3_step_34 (by decide) (fun c34 => ?_) (fun c34 => ?_)
        · have h := g_it c34 h
          exact J47 x0 G _ _ _ h hG hS (lv_sub hl [1] rfl)
        · have h := g_if c34 h
          refine lv_iload_n hx hb dX3_step_37 rfl (lv_at hl 2 rfl) ?_
          refine lv_if_ge (tgt := 53) hx hb dX3_step_38 (by decide) (fun c38 => ?_) (fun c38 => ?_)
          · have h := g_it c38 h
            exact J53 x0 x1 s0 G _ _ _ h hG hS (lv_sub hl [1, 2, 0] rfl)
          · have h := g_if c38 h
            refine lv_iload_n hx hb dX3_step_41 rfl (lv_at hl 0 rfl) ?_
            refine lv_bipush (v := 13) hx hb dX3_step_42 (by decide) ?_
            refine lv_icmp_ne (tgt := 53) hx hb dX3_step_44 (by decide) (fun c44 => ?_) (fun c44 => ?_)
            · have h := g_if c44 h
              exact J53 x0 x1 s0 G _ _ _ h hG hS (lv_sub hl [1, 2, 0] rfl)
            · have h := g_it c44 h
              exact J47 x0 G _ _ _ h hG hS (lv_sub hl [1] rfl)
      have h : cm_X3_step_B (cm_S231 d) x0 Gz = some r := h
      unfold cm_X3_step_B at h
      refine lv_aload_n hx hb dX3_step_0 rfl (lv_at hl 0 rfl) ?_
      obtain ⟨u1, t1, h⟩ := g_bd h
      rcases gXb_e h with ⟨qx1, e1, h⟩ | ⟨xx1, e1, rfl⟩
      rotate_left
      · exact c_xV (r := .inr xx1) (y := yX3_needWord) (rest := []) dX3_step_1 q861 q863 qs13 q125 q864 hc_X3_needWord rfl S hE hG hS hC0 hl.1 rfl (c_recv hE hG (ci := 10) rfl (by decide) (c_castM t1)) (wm_X3_needWord E l hl9 x0 Gz _ e1) rfl (Nat.le_of_ble_eq_true rfl) ⟨by omega, by omega⟩ (fun hr9 => c_xthrew hC0 hr9 hS (fun H locs ce hG hS h1 h2 h3 => c_xout rfl hx9 hk hC0 hG hS h1 h2 h3))
      refine c_xV (r := .inl (none, qx1.2)) (y := yX3_needWord) (rest := []) dX3_step_1 q861 q863 qs13 q125 q864 hc_X3_needWord rfl S hE hG hS hC0 hl.1 rfl (c_recv hE hG (ci := 10) rfl (by decide) (c_castM t1)) (wm_X3_needWord E l hl9 x0 Gz _ e1) rfl (Nat.le_of_ble_eq_true rfl) ⟨by omega, by omega⟩ (fun hr9 => c_xback hC0 hr9 hS (fun H locs hG hS => ?_))
      refine lv_aload_n hx hb dX3_step_4 rfl (lv_at hl 0 rfl) ?_
      obtain ⟨v5, e5, h⟩ := g_bd h
      refine cg_X3_77 dX3_step_5 S hE hG e5 ?_
      obtain ⟨qx8, e8, h⟩ := g_bd h
      refine c_cS (y := yX3_registerOf) (rest := []) dX3_step_8 q1456 q1457 q125 q1458 hc_X3_registerOf S hE hG hS hC0 hl.1 rfl (wm_X3_registerOf E l v5 qx1.2 _ _ e8) rfl (Nat.le_of_ble_eq_true rfl) ⟨by omega, by omega⟩ (fun H locs hG hS => ?_)
      refine lv_istore_n (lv' := [(1, .int qx8.1), (0, .ref x0)]) hx hb dX3_step_11 rfl hl (by decide) rfl (fun ls hl => ?_)
      refine lv_iload_n hx hb dX3_step_12 rfl (lv_at hl 0 rfl) ?_
      refine lv_if_lt (tgt := 21) hx hb dX3_step_13 (by decide) (fun c13 => ?_) (fun c13 => ?_)
      · have h := g_it c13 h
        refine c_ldcW (i := 65) rfl dX3_step_21 S hE hG ?_
        refine lv_aload_n hx hb dX3_step_24 rfl (lv_at hl 1 rfl) ?_
        obtain ⟨v25, e25, h⟩ := g_bd h
        refine cg_X3_77 dX3_step_25 S hE hG e25 ?_
        obtain ⟨qx28, e28, h⟩ := g_bd h
        refine c_cSN (y := yX1_among) (rest := []) dX3_step_28 (lw_nw q995 rfl) q870 q119 q871 hc_X1_among S hE hG hS hC0 hl.1 rfl (wm_X1_among E l (cK qx8.2 (100 + 65)) v25 qx8.2 _ _ e28) rfl (Nat.le_of_ble_eq_true rfl) ⟨by omega, by omega⟩ (fun H locs hG hS => ?_)
        exact J31 x0 qx8.1 qx28.1 qx28.2 _ _ _ h hG hS (lv_sub hl [1, 0] rfl)
      · have h := g_if c13 h
        refine lv_bipush (v := 13) hx hb dX3_step_16 (by decide) ?_
        refine lv_goto (tgt := 31) hx hb dX3_step_18 (by decide) ?_
        exact J31 x0 qx8.1 13 qx8.2 _ _ _ h hG hS (lv_sub hl [1, 0] rfl)
    · intro x0 x1 Gz r h
      refine gMetX.of (own := RX3) (by decide +kernel) (Nat.le_of_ble_eq_true rfl) rfl ?_
      intro p e s m args below meth c S hr hk hx9 hE hC0 hG hS ls hl
      have hl : lv_has ls 4 [(0, .ref x0), (1, .ref x1)] := hl
      have hx := S.1
      have hb := S.2.1
      have J17 : ∀ (x0 : Nat) (x1 : Nat) (G : GH) (H : Heap) (locs : List Loc) (ls : Array Slot), cm_X3_loop_J17 (cm_S231 d) x0 x1 G = some r → gC E G H → va_S (gx_C E) s.heap H locs → lv_has ls 4 [(0, .ref x0), (1, .ref x1)] → WC E p l e (gRm (74 + (d + 1)) (cBx Gz) (cBs Gz)) s m args below meth c H locs (gXMQ E below (gRs (fun _ => none) r) args s Gz) (F0 m 17 ls []) := by
        intro x0 x1 G H locs ls h hG hS hl
        unfold cm_X3_loop_J17 at h
        refine lv_aload_n hx hb dX3_loop_17 rfl (lv_at hl 0 rfl) ?_
        obtain ⟨u18, t18, h⟩ := g_bd h
        obtain ⟨v18, e18, h⟩ := g_bd h
        refine c_cV (y := yX3_end) (rest := []) dX3_loop_18 q1704 q1706 qs35 q125 q1707 hc_X3_end rfl S hE hG hS hC0 hl.1 rfl (c_recv hE hG (ci := 10) rfl (by decide) (c_castM t18)) (wm_X3_end E l x0 G _ e18) rfl (Nat.le_of_ble_eq_true rfl) ⟨by omega, by omega⟩ (fun H locs hG hS => ?_)
        refine lv_istore_n (lv' := [(2, .int v18), (0, .ref x0), (1, .ref x1)]) hx hb dX3_loop_21 rfl hl (by decide) rfl (fun ls hl => ?_)
        refine lv_aload_n hx hb dX3_loop_22 rfl (lv_at hl 1 rfl) ?_
        refine lv_dup hx hb dX3_loop_23 rfl ?_
        obtain ⟨v24, e24, h⟩ := g_bd h
        refine cg_X3_223 dX3_loop_24 S hE hG e24 ?_
        refine lv_iconst (v := 1) hx hb dX3_loop_27 (by decide) ?_
        refine lv_iadd hx hb dX3_loop_28 ?_
        obtain ⟨G29, e29, h⟩ := g_bd h
        refine cp_X3_223 dX3_loop_29 S hE hG hS hC0 e29 (fun H locs hG hS => ?_)
        refine lv_aload_n hx hb dX3_loop_32 rfl (lv_at hl 1 rfl) ?_
        obtain ⟨u33, t33, h⟩ := g_bd h
        rcases gXb_e h with ⟨qx33, e33, h⟩ | ⟨xx33, e33, rfl⟩
        rotate_left
        · exact c_xV (r := .inr xx33) (y := yX3_block) (rest := []) dX3_loop_33 q1448 q1450 qs21 q125 q1451 hc_X3_block rfl S hE hG hS hC0 hl.1 rfl (c_recv hE hG (ci := 10) rfl (by decide) (c_castM t33)) (ihd.1 x0 G29 _ e33) rfl (Nat.le_of_ble_eq_true rfl) ⟨by omega, by omega⟩ (fun hr9 => c_xthrew hC0 hr9 hS (fun H locs ce hG hS h1 h2 h3 => c_xout rfl hx9 hk hC0 hG hS h1 h2 h3))
        refine c_xV (r := .inl (none, qx33.2)) (y := yX3_block) (rest := []) dX3_loop_33 q1448 q1450 qs21 q125 q1451 hc_X3_block rfl S hE hG hS hC0 hl.1 rfl (c_recv hE hG (ci := 10) rfl (by decide) (c_castM t33)) (ihd.1 x0 G29 _ e33) rfl (Nat.le_of_ble_eq_true rfl) ⟨by omega, by omega⟩ (fun hr9 => c_xback hC0 hr9 hS (fun H locs hG hS => ?_))
        refine lv_aload_n hx hb dX3_loop_36 rfl (lv_at hl 1 rfl) ?_
        refine lv_dup hx hb dX3_loop_37 rfl ?_
        obtain ⟨v38, e38, h⟩ := g_bd h
        refine cg_X3_223 dX3_loop_38 S hE hG e38 ?_
        refine lv_iconst (v := 1) hx hb dX3_loop_41 (by decide) ?_
        refine lv_isub hx hb dX3_loop_42 ?_
        obtain ⟨G43, e43, h⟩ := g_bd h
        refine cp_X3_223 dX3_loop_43 S hE hG hS hC0 e43 (fun H locs hG hS => ?_)
        refine lv_aload_n hx hb dX3_loop_46 rfl (lv_at hl 1 rfl) ?_
        refine lv_bipush (v := 20) hx hb dX3_loop_47 (by decide) ?_
        refine lv_aload_n hx hb dX3_loop_49 rfl (lv_at hl 2 rfl) ?_
        obtain ⟨v50, e50, h⟩ := g_bd h
        refine cg_X3_345 dX3_loop_50 S hE hG e50 ?_
        obtain ⟨u53, t53, h⟩ := g_bd h
        obtain ⟨qx53, e53, h⟩ := g_bd h
        refine c_cV (y := yX3_act) (rest := []) dX3_loop_53 q1469 q1471 qs24 q125 q1472 hc_X3_act rfl S hE hG hS hC0 hl.1 rfl (c_recv hE hG (ci := 10) rfl (by decide) (c_castM t53)) (wm_X3_act E l x0 20 v50 G43 _ _ e53) rfl (Nat.le_of_ble_eq_true rfl) ⟨by omega, by omega⟩ (fun H locs hG hS => ?_)
        refine lv_astore_n (lv' := [(3, .ref qx53.1), (2, .int v18), (0, .ref x0), (1, .ref x1)]) hx hb dX3_loop_56 rfl hl (by decide) rfl (fun ls hl => ?_)
        refine lv_aload_n hx hb dX3_loop_57 rfl (lv_at hl 0 rfl) ?_
        refine lv_iload_n hx hb dX3_loop_58 rfl (lv_at hl 1 rfl) ?_
        obtain ⟨G59, e59, h⟩ := g_bd h
        refine cp_X3_346 dX3_loop_59 S hE hG hS hC0 e59 (fun H locs hG hS => ?_)
        refine lv_aload_n hx hb dX3_loop_62 rfl (lv_at hl 3 rfl) ?_
        refine lv_aload_n hx hb dX3_loop_63 rfl (lv_at hl 2 rfl) ?_
        obtain ⟨u64, t64, h⟩ := g_bd h
        obtain ⟨v64, e64, h⟩ := g_bd h
        refine c_cV (y := yX3_end) (rest := [.ref x1]) dX3_loop_64 q1704 q1706 qs35 q125 q1707 hc_X3_end rfl S hE hG hS hC0 hl.1 rfl (c_recv hE hG (ci := 10) rfl (by decide) (c_castM t64)) (wm_X3_end E l x0 G59 _ e64) rfl (Nat.le_of_ble_eq_true rfl) ⟨by omega, by omega⟩ (fun H locs hG hS => ?_)
        obtain ⟨G67, e67, h⟩ := g_bd h
        refine cp_X3_346 dX3_loop_67 S hE hG hS hC0 e67 (fun H locs hG hS => ?_)
        cases h
        exact c_xret (v := none) (G1 := G67) rfl (c_vretW dX3_loop_70 S hr hk hC0 hG hS rfl)
      have h : cm_X3_loop_B (cm_S231 d) x0 x1 Gz = some r := h
      unfold cm_X3_loop_B at h
      refine lv_aload_n hx hb dX3_loop_0 rfl (lv_at hl 1 rfl) ?_
      obtain ⟨v1, e1, h⟩ := g_bd h
      refine cg_X3_339 dX3_loop_1 S hE hG e1 ?_
      refine lv_bipush (v := 14) hx hb dX3_loop_4 (by decide) ?_
      refine lv_icmp_ne (tgt := 17) hx hb dX3_loop_6 (by decide) (fun c6 => ?_) (fun c6 => ?_)
      · have h := g_if c6 h
        exact J17 x0 x1 Gz _ _ _ h hG hS (lv_sub hl [0, 1] rfl)
      · have h := g_it c6 h
        refine lv_aload_n hx hb dX3_loop_9 rfl (lv_at hl 1 rfl) ?_
        refine lv_aload_n hx hb dX3_loop_10 rfl (lv_at hl 0 rfl) ?_
        obtain ⟨u11, t11, h⟩ := g_bd h
        rcases gXb_e h with ⟨qx11, e11, h⟩ | ⟨xx11, e11, rfl⟩
        rotate_left
        · exact c_xV (r := .inr xx11) (y := yX3_whole) (rest := [.ref x1]) dX3_loop_11 q1514 q1516 qs25 q125 q1517 hc_X3_whole rfl S hE hG hS hC0 hl.1 rfl (c_recv hE hG (ci := 10) rfl (by decide) (c_castM t11)) (wm_X3_whole E l hl9 x0 Gz _ e11) rfl (Nat.le_of_ble_eq_true rfl) ⟨by omega, by omega⟩ (fun hr9 => c_xthrew hC0 hr9 hS (fun H locs ce hG hS h1 h2 h3 => c_xout rfl hx9 hk hC0 hG hS h1 h2 h3))
        refine c_xV (r := .inl (some (.ref qx11.1), qx11.2)) (y := yX3_whole) (rest := [.ref x1]) dX3_loop_11 q1514 q1516 qs25 q125 q1517 hc_X3_whole rfl S hE hG hS hC0 hl.1 rfl (c_recv hE hG (ci := 10) rfl (by decide) (c_castM t11)) (wm_X3_whole E l hl9 x0 Gz _ e11) rfl (Nat.le_of_ble_eq_true rfl) ⟨by omega, by omega⟩ (fun hr9 => c_xback hC0 hr9 hS (fun H locs hG hS => ?_))
        obtain ⟨G14, e14, h⟩ := g_bd h
        refine cp_X3_314 dX3_loop_14 S hE hG hS hC0 e14 (fun H locs hG hS => ?_)
        exact J17 x0 x1 G14 _ _ _ h hG hS (lv_sub hl [0, 1] rfl)
    · intro x0 x1 Gz r h
      refine gMetX.of (own := RX3) (by decide +kernel) (Nat.le_of_ble_eq_true rfl) rfl ?_
      intro p e s m args below meth c S hr hk hx9 hE hC0 hG hS ls hl
      have hl : lv_has ls 3 [(0, .ref x0), (1, .ref x1)] := hl
      have hx := S.1
      have hb := S.2.1
      have h : cm_X3_whether_B (cm_S231 d) x0 x1 Gz = some r := h
      unfold cm_X3_whether_B at h
      refine lv_aload_n hx hb dX3_whether_0 rfl (lv_at hl 1 rfl) ?_
      refine lv_aload_n hx hb dX3_whether_1 rfl (lv_at hl 0 rfl) ?_
      obtain ⟨u2, t2, h⟩ := g_bd h
      rcases gXb_e h with ⟨qx2, e2, h⟩ | ⟨xx2, e2, rfl⟩
      rotate_left
      · exact c_xV (r := .inr xx2) (y := yX3_cond) (rest := [.ref x1]) dX3_whether_2 q1628 q1630 qs30 q125 q1631 hc_X3_cond rfl S hE hG hS hC0 hl.1 rfl (c_recv hE hG (ci := 10) rfl (by decide) (c_castM t2)) (wm_X3_cond E l hl9 x0 Gz _ e2) rfl (Nat.le_of_ble_eq_true rfl) ⟨by omega, by omega⟩ (fun hr9 => c_xthrew hC0 hr9 hS (fun H locs ce hG hS h1 h2 h3 => c_xout rfl hx9 hk hC0 hG hS h1 h2 h3))
      refine c_xV (r := .inl (some (.ref qx2.1), qx2.2)) (y := yX3_cond) (rest := [.ref x1]) dX3_whether_2 q1628 q1630 qs30 q125 q1631 hc_X3_cond rfl S hE hG hS hC0 hl.1 rfl (c_recv hE hG (ci := 10) rfl (by decide) (c_castM t2)) (wm_X3_cond E l hl9 x0 Gz _ e2) rfl (Nat.le_of_ble_eq_true rfl) ⟨by omega, by omega⟩ (fun hr9 => c_xback hC0 hr9 hS (fun H locs hG hS => ?_))
      obtain ⟨G5, e5, h⟩ := g_bd h
      refine cp_X3_323 dX3_whether_5 S hE hG hS hC0 e5 (fun H locs hG hS => ?_)
      refine lv_aload_n hx hb dX3_whether_8 rfl (lv_at hl 0 rfl) ?_
      obtain ⟨u9, t9, h⟩ := g_bd h
      rcases gXb_e h with ⟨qx9, e9, h⟩ | ⟨xx9, e9, rfl⟩
      rotate_left
      · exact c_xV (r := .inr xx9) (y := yX3_block) (rest := []) dX3_whether_9 q1448 q1450 qs21 q125 q1451 hc_X3_block rfl S hE hG hS hC0 hl.1 rfl (c_recv hE hG (ci := 10) rfl (by decide) (c_castM t9)) (ihd.1 x0 G5 _ e9) rfl (Nat.le_of_ble_eq_true rfl) ⟨by omega, by omega⟩ (fun hr9 => c_xthrew hC0 hr9 hS (fun H locs ce hG hS h1 h2 h3 => c_xout rfl hx9 hk hC0 hG hS h1 h2 h3))
      refine c_xV (r := .inl (none, qx9.2)) (y := yX3_block) (rest := []) dX3_whether_9 q1448 q1450 qs21 q125 q1451 hc_X3_block rfl S hE hG hS hC0 hl.1 rfl (c_recv hE hG (ci := 10) rfl (by decide) (c_castM t9)) (ihd.1 x0 G5 _ e9) rfl (Nat.le_of_ble_eq_true rfl) ⟨by omega, by omega⟩ (fun hr9 => c_xback hC0 hr9 hS (fun H locs hG hS => ?_))
      refine lv_aload_n hx hb dX3_whether_12 rfl (lv_at hl 0 rfl) ?_
      refine c_ldcW (i := 74) rfl dX3_whether_13 S hE hG ?_
      obtain ⟨u16, t16, h⟩ := g_bd h
      obtain ⟨qx16, e16, h⟩ := g_bd h
      refine c_cV (y := yX3_isWord) (rest := []) dX3_whether_16 q789 q791 qs7 q125 q792 hc_X3_isWord rfl S hE hG hS hC0 hl.1 rfl (c_recv hE hG (ci := 10) rfl (by decide) (c_castM t16)) (wm_X3_isWord E l x0 (cK qx9.2 (100 + 74)) qx9.2 _ _ e16) rfl (Nat.le_of_ble_eq_true rfl) ⟨by omega, by omega⟩ (fun H locs hG hS => ?_)
      refine lv_if_ne (tgt := 31) hx hb dX3_whether_19 (by decide) (fun c19 => ?_) (fun c19 => ?_)
      · have h := g_if c19 h
        refine lv_aload_n hx hb dX3_whether_31 rfl (lv_at hl 0 rfl) ?_
        refine lv_bipush (v := 21) hx hb dX3_whether_32 (by decide) ?_
        refine lv_iconst (v := (-1)) hx hb dX3_whether_34 (by decide) ?_
        obtain ⟨u35, t35, h⟩ := g_bd h
        obtain ⟨qx35, e35, h⟩ := g_bd h
        refine c_cV (y := yX3_act) (rest := []) dX3_whether_35 q1469 q1471 qs24 q125 q1472 hc_X3_act rfl S hE hG hS hC0 hl.1 rfl (c_recv hE hG (ci := 10) rfl (by decide) (c_castM t35)) (wm_X3_act E l x0 21 (-1) qx16.2 _ _ e35) rfl (Nat.le_of_ble_eq_true rfl) ⟨by omega, by omega⟩ (fun H locs hG hS => ?_)
        refine lv_astore_n (lv' := [(2, .ref qx35.1), (0, .ref x0), (1, .ref x1)]) hx hb dX3_whether_38 rfl hl (by decide) rfl (fun ls hl => ?_)
        refine lv_aload_n hx hb dX3_whether_39 rfl (lv_at hl 2 rfl) ?_
        refine lv_aload_n hx hb dX3_whether_40 rfl (lv_at hl 1 rfl) ?_
        obtain ⟨u41, t41, h⟩ := g_bd h
        obtain ⟨v41, e41, h⟩ := g_bd h
        refine c_cV (y := yX3_end) (rest := [.ref x1]) dX3_whether_41 q1704 q1706 qs35 q125 q1707 hc_X3_end rfl S hE hG hS hC0 hl.1 rfl (c_recv hE hG (ci := 10) rfl (by decide) (c_castM t41)) (wm_X3_end E l x0 qx35.2 _ e41) rfl (Nat.le_of_ble_eq_true rfl) ⟨by omega, by omega⟩ (fun H locs hG hS => ?_)
        obtain ⟨G44, e44, h⟩ := g_bd h
        refine cp_X3_346 dX3_whether_44 S hE hG hS hC0 e44 (fun H locs hG hS => ?_)
        refine lv_aload_n hx hb dX3_whether_47 rfl (lv_at hl 1 rfl) ?_
        obtain ⟨u48, t48, h⟩ := g_bd h
        obtain ⟨G48, e48, h⟩ := g_bd h
        refine c_cV (y := yX3_go) (rest := []) dX3_whether_48 q701 q703 qs2 q125 q704 hc_X3_go rfl S hE hG hS hC0 hl.1 rfl (c_recv hE hG (ci := 10) rfl (by decide) (c_castM t48)) (wm_X3_go E l x0 G44 _ e48) rfl (Nat.le_of_ble_eq_true rfl) ⟨by omega, by omega⟩ (fun H locs hG hS => ?_)
        refine lv_aload_n hx hb dX3_whether_51 rfl (lv_at hl 1 rfl) ?_
        obtain ⟨u52, t52, h⟩ := g_bd h
        rcases gXb_e h with ⟨qx52, e52, h⟩ | ⟨xx52, e52, rfl⟩
        rotate_left
        · exact c_xV (r := .inr xx52) (y := yX3_block) (rest := []) dX3_whether_52 q1448 q1450 qs21 q125 q1451 hc_X3_block rfl S hE hG hS hC0 hl.1 rfl (c_recv hE hG (ci := 10) rfl (by decide) (c_castM t52)) (ihd.1 x0 G48 _ e52) rfl (Nat.le_of_ble_eq_true rfl) ⟨by omega, by omega⟩ (fun hr9 => c_xthrew hC0 hr9 hS (fun H locs ce hG hS h1 h2 h3 => c_xout rfl hx9 hk hC0 hG hS h1 h2 h3))
        refine c_xV (r := .inl (none, qx52.2)) (y := yX3_block) (rest := []) dX3_whether_52 q1448 q1450 qs21 q125 q1451 hc_X3_block rfl S hE hG hS hC0 hl.1 rfl (c_recv hE hG (ci := 10) rfl (by decide) (c_castM t52)) (ihd.1 x0 G48 _ e52) rfl (Nat.le_of_ble_eq_true rfl) ⟨by omega, by omega⟩ (fun hr9 => c_xback hC0 hr9 hS (fun H locs hG hS => ?_))
        refine lv_aload_n hx hb dX3_whether_55 rfl (lv_at hl 0 rfl) ?_
        refine lv_aload_n hx hb dX3_whether_56 rfl (lv_at hl 1 rfl) ?_
        obtain ⟨u57, t57, h⟩ := g_bd h
        obtain ⟨v57, e57, h⟩ := g_bd h
        refine c_cV (y := yX3_end) (rest := [.ref qx35.1]) dX3_whether_57 q1704 q1706 qs35 q125 q1707 hc_X3_end rfl S hE hG hS hC0 hl.1 rfl (c_recv hE hG (ci := 10) rfl (by decide) (c_castM t57)) (wm_X3_end E l x0 qx52.2 _ e57) rfl (Nat.le_of_ble_eq_true rfl) ⟨by omega, by omega⟩ (fun H locs hG hS => ?_)
        obtain ⟨G60, e60, h⟩ := g_bd h
        refine cp_X3_346 dX3_whether_60 S hE hG hS hC0 e60 (fun H locs hG hS => ?_)
        cases h
        exact c_xret (v := none) (G1 := G60) rfl (c_vretW dX3_whether_63 S hr hk hC0 hG hS rfl)
      · have h := g_it c19 h
        refine lv_aload_n hx hb dX3_whether_22 rfl (lv_at hl 1 rfl) ?_
        refine lv_aload_n hx hb dX3_whether_23 rfl (lv_at hl 0 rfl) ?_
        obtain ⟨u24, t24, h⟩ := g_bd h
        obtain ⟨v24, e24, h⟩ := g_bd h
        refine c_cV (y := yX3_end) (rest := [.ref x1]) dX3_whether_24 q1704 q1706 qs35 q125 q1707 hc_X3_end rfl S hE hG hS hC0 hl.1 rfl (c_recv hE hG (ci := 10) rfl (by decide) (c_castM t24)) (wm_X3_end E l x0 qx16.2 _ e24) rfl (Nat.le_of_ble_eq_true rfl) ⟨by omega, by omega⟩ (fun H locs hG hS => ?_)
        obtain ⟨G27, e27, h⟩ := g_bd h
        refine cp_X3_346 dX3_whether_27 S hE hG hS hC0 e27 (fun H locs hG hS => ?_)
        cases h
        exact c_xret (v := none) (G1 := G27) rfl (c_vretW dX3_whether_30 S hr hk hC0 hG hS rfl)
    · intro x0 x1 Gz r h
      refine gMetX.of (own := RX3) (by decide +kernel) (Nat.le_of_ble_eq_true rfl) rfl ?_
      intro p e s m args below meth c S hr hk hx9 hE hC0 hG hS ls hl
      have hl : lv_has ls 3 [(0, .ref x0), (1, .ref x1)] := hl
      have hx := S.1
      have hb := S.2.1
      have h : cm_X3_guard_B (cm_S231 d) x0 x1 Gz = some r := h
      unfold cm_X3_guard_B at h
      refine lv_aload_n hx hb dX3_guard_0 rfl (lv_at hl 0 rfl) ?_
      obtain ⟨u1, t1, h⟩ := g_bd h
      rcases gXb_e h with ⟨qx1, e1, h⟩ | ⟨xx1, e1, rfl⟩
      rotate_left
      · exact c_xV (r := .inr xx1) (y := yX3_block) (rest := []) dX3_guard_1 q1448 q1450 qs21 q125 q1451 hc_X3_block rfl S hE hG hS hC0 hl.1 rfl (c_recv hE hG (ci := 10) rfl (by decide) (c_castM t1)) (ihd.1 x0 Gz _ e1) rfl (Nat.le_of_ble_eq_true rfl) ⟨by omega, by omega⟩ (fun hr9 => c_xthrew hC0 hr9 hS (fun H locs ce hG hS h1 h2 h3 => c_xout rfl hx9 hk hC0 hG hS h1 h2 h3))
      refine c_xV (r := .inl (none, qx1.2)) (y := yX3_block) (rest := []) dX3_guard_1 q1448 q1450 qs21 q125 q1451 hc_X3_block rfl S hE hG hS hC0 hl.1 rfl (c_recv hE hG (ci := 10) rfl (by decide) (c_castM t1)) (ihd.1 x0 Gz _ e1) rfl (Nat.le_of_ble_eq_true rfl) ⟨by omega, by omega⟩ (fun hr9 => c_xback hC0 hr9 hS (fun H locs hG hS => ?_))
      refine lv_aload_n hx hb dX3_guard_4 rfl (lv_at hl 0 rfl) ?_
      refine lv_bipush (v := 22) hx hb dX3_guard_5 (by decide) ?_
      refine lv_iconst (v := (-1)) hx hb dX3_guard_7 (by decide) ?_
      obtain ⟨u8, t8, h⟩ := g_bd h
      obtain ⟨qx8, e8, h⟩ := g_bd h
      refine c_cV (y := yX3_act) (rest := []) dX3_guard_8 q1469 q1471 qs24 q125 q1472 hc_X3_act rfl S hE hG hS hC0 hl.1 rfl (c_recv hE hG (ci := 10) rfl (by decide) (c_castM t8)) (wm_X3_act E l x0 22 (-1) qx1.2 _ _ e8) rfl (Nat.le_of_ble_eq_true rfl) ⟨by omega, by omega⟩ (fun H locs hG hS => ?_)
      refine lv_astore_n (lv' := [(2, .ref qx8.1), (0, .ref x0), (1, .ref x1)]) hx hb dX3_guard_11 rfl hl (by decide) rfl (fun ls hl => ?_)
      refine lv_aload_n hx hb dX3_guard_12 rfl (lv_at hl 2 rfl) ?_
      refine lv_aload_n hx hb dX3_guard_13 rfl (lv_at hl 1 rfl) ?_
      obtain ⟨u14, t14, h⟩ := g_bd h
      obtain ⟨v14, e14, h⟩ := g_bd h
      refine c_cV (y := yX3_end) (rest := [.ref x1]) dX3_guard_14 q1704 q1706 qs35 q125 q1707 hc_X3_end rfl S hE hG hS hC0 hl.1 rfl (c_recv hE hG (ci := 10) rfl (by decide) (c_castM t14)) (wm_X3_end E l x0 qx8.2 _ e14) rfl (Nat.le_of_ble_eq_true rfl) ⟨by omega, by omega⟩ (fun H locs hG hS => ?_)
      obtain ⟨G17, e17, h⟩ := g_bd h
      refine cp_X3_346 dX3_guard_17 S hE hG hS hC0 e17 (fun H locs hG hS => ?_)
      refine lv_aload_n hx hb dX3_guard_20 rfl (lv_at hl 1 rfl) ?_
      refine c_ldcW (i := 75) rfl dX3_guard_21 S hE hG ?_
      obtain ⟨u24, t24, h⟩ := g_bd h
      obtain ⟨qx24, e24, h⟩ := g_bd h
      refine c_cV (y := yX3_takes) (rest := []) dX3_guard_24 q1638 q1640 qs32 q125 q1641 hc_X3_takes rfl S hE hG hS hC0 hl.1 rfl (c_recv hE hG (ci := 10) rfl (by decide) (c_castM t24)) (wm_X3_takes E l x0 (cK G17 (100 + 75)) G17 _ _ e24) rfl (Nat.le_of_ble_eq_true rfl) ⟨by omega, by omega⟩ (fun H locs hG hS => ?_)
      refine lv_if_ne (tgt := 36) hx hb dX3_guard_27 (by decide) (fun c27 => ?_) (fun c27 => ?_)
      · have h := g_if c27 h
        refine lv_aload_n hx hb dX3_guard_36 rfl (lv_at hl 1 rfl) ?_
        obtain ⟨u37, t37, h⟩ := g_bd h
        rcases gXb_e h with ⟨qx37, e37, h⟩ | ⟨xx37, e37, rfl⟩
        rotate_left
        · exact c_xV (r := .inr xx37) (y := yX3_block) (rest := []) dX3_guard_37 q1448 q1450 qs21 q125 q1451 hc_X3_block rfl S hE hG hS hC0 hl.1 rfl (c_recv hE hG (ci := 10) rfl (by decide) (c_castM t37)) (ihd.1 x0 qx24.2 _ e37) rfl (Nat.le_of_ble_eq_true rfl) ⟨by omega, by omega⟩ (fun hr9 => c_xthrew hC0 hr9 hS (fun H locs ce hG hS h1 h2 h3 => c_xout rfl hx9 hk hC0 hG hS h1 h2 h3))
        refine c_xV (r := .inl (none, qx37.2)) (y := yX3_block) (rest := []) dX3_guard_37 q1448 q1450 qs21 q125 q1451 hc_X3_block rfl S hE hG hS hC0 hl.1 rfl (c_recv hE hG (ci := 10) rfl (by decide) (c_castM t37)) (ihd.1 x0 qx24.2 _ e37) rfl (Nat.le_of_ble_eq_true rfl) ⟨by omega, by omega⟩ (fun hr9 => c_xback hC0 hr9 hS (fun H locs hG hS => ?_))
        refine lv_aload_n hx hb dX3_guard_40 rfl (lv_at hl 0 rfl) ?_
        refine lv_aload_n hx hb dX3_guard_41 rfl (lv_at hl 1 rfl) ?_
        obtain ⟨u42, t42, h⟩ := g_bd h
        obtain ⟨v42, e42, h⟩ := g_bd h
        refine c_cV (y := yX3_end) (rest := [.ref qx8.1]) dX3_guard_42 q1704 q1706 qs35 q125 q1707 hc_X3_end rfl S hE hG hS hC0 hl.1 rfl (c_recv hE hG (ci := 10) rfl (by decide) (c_castM t42)) (wm_X3_end E l x0 qx37.2 _ e42) rfl (Nat.le_of_ble_eq_true rfl) ⟨by omega, by omega⟩ (fun H locs hG hS => ?_)
        obtain ⟨G45, e45, h⟩ := g_bd h
        refine cp_X3_346 dX3_guard_45 S hE hG hS hC0 e45 (fun H locs hG hS => ?_)
        cases h
        exact c_xret (v := none) (G1 := G45) rfl (c_vretW dX3_guard_48 S hr hk hC0 hG hS rfl)
      · have h := g_it c27 h
        refine lv_aload_n hx hb dX3_guard_30 rfl (lv_at hl 1 rfl) ?_
        refine lv_iconst (v := 1) hx hb dX3_guard_31 (by decide) ?_
        obtain ⟨u32, t32, h⟩ := g_bd h
        obtain ⟨qx32, e32, h⟩ := g_bd h
        refine c_cV (y := yX3_wrong) (rest := []) dX3_guard_32 q817 q819 qs8 q125 q820 hc_X3_wrong rfl S hE hG hS hC0 hl.1 rfl (c_recv hE hG (ci := 10) rfl (by decide) (c_castM t32)) (wm_X3_wrong E l hl9 x0 1 qx24.2 _ _ e32) rfl (Nat.le_of_ble_eq_true rfl) ⟨by omega, by omega⟩ (fun H locs hG hS => ?_)
        exact c_throwW dX3_guard_35 S hE hG hS hC0 hx9 hk h
theorem wm_X3_block (E : gX) (l : Launch) (hl9 : l.stackTraces = false) (d : Nat) (x0 : Nat) (Gz : GH) (r : (GX Unit)) (h : cm_X3_block d x0 Gz = some r) : gMetX E l yX3_block cX3_block 1 none (74 + d) [.ref x0] Gz (gRs (fun _ => none) r) := (wm_S231 E l hl9 d).1 x0 Gz r h
theorem wm_X3_step (E : gX) (l : Launch) (hl9 : l.stackTraces = false) (d : Nat) (x0 : Nat) (Gz : GH) (r : (GX Unit)) (h : cm_X3_step d x0 Gz = some r) : gMetX E l yX3_step cX3_step 4 none (74 + d) [.ref x0] Gz (gRs (fun _ => none) r) := (wm_S231 E l hl9 d).2.1 x0 Gz r h
theorem wm_X3_loop (E : gX) (l : Launch) (hl9 : l.stackTraces = false) (d : Nat) (x0 : Nat) (x1 : Nat) (Gz : GH) (r : (GX Unit)) (h : cm_X3_loop d x0 x1 Gz = some r) : gMetX E l yX3_loop cX3_loop 4 none (74 + d) [.ref x0, .ref x1] Gz (gRs (fun _ => none) r) := (wm_S231 E l hl9 d).2.2.1 x0 x1 Gz r h
theorem wm_X3_whether (E : gX) (l : Launch) (hl9 : l.stackTraces = false) (d : Nat) (x0 : Nat) (x1 : Nat) (Gz : GH) (r : (GX Unit)) (h : cm_X3_whether d x0 x1 Gz = some r) : gMetX E l yX3_whether cX3_whether 3 none (74 + d) [.ref x0, .ref x1] Gz (gRs (fun _ => none) r) := (wm_S231 E l hl9 d).2.2.2.1 x0 x1 Gz r h
theorem wm_X3_guard (E : gX) (l : Launch) (hl9 : l.stackTraces = false) (d : Nat) (x0 : Nat) (x1 : Nat) (Gz : GH) (r : (GX Unit)) (h : cm_X3_guard d x0 x1 Gz = some r) : gMetX E l yX3_guard cX3_guard 3 none (74 + d) [.ref x0, .ref x1] Gz (gRs (fun _ => none) r) := (wm_S231 E l hl9 d).2.2.2.2 x0 x1 Gz r h
theorem hc_X3_small : cHd yX3_small 2 := by decide +kernel
set_option maxHeartbeats 4000000 in
set_option maxRecDepth 100000 in
theorem wm_X3_small (E : gX) (l : Launch) (hl9 : l.stackTraces = false) (x0 : Nat) (x1 : Int32) (x2 : Int32) (Gz : GH) (r : (GX Int32)) (h : cm_X3_small x0 x1 x2 Gz = some r) : gMetX E l yX3_small cX3_small 4 (some Jvm.ClassFile.FieldType.int) 8 [.ref x0, .int x1, .int x2] Gz (gRs (fun r => some (.int r)) r) := by
  refine gMetX.of (own := RX3) (by decide +kernel) (Nat.le_of_ble_eq_true rfl) rfl ?_
  intro p e s m args below meth c S hr hk hx9 hE hC0 hG hS ls hl
  have hl : lv_has ls 4 [(0, .ref x0), (1, .int x1), (2, .int x2)] := hl
  have hx := S.1
  have hb := S.2.1
  have J32 : ∀ (x0 : Nat) (G : GH) (H : Heap) (locs : List Loc) (ls : Array Slot), cm_X3_small_J32 x0 G = some r → gC E G H → va_S (gx_C E) s.heap H locs → lv_has ls 4 [(0, .ref x0)] → WC E p l e (gRm 8 (cBx Gz) (cBs Gz)) s m args below meth c H locs (gXMQ E below (gRs (fun r => some (.int r)) r) args s Gz) (F0 m 32 ls []) := by
    intro x0 G H locs ls h hG hS hl
    unfold cm_X3_small_J32 at h
    refine lv_aload_n hx hb dX3_small_32 rfl (lv_at hl 0 rfl) ?_
    refine lv_iconst (v := 5) hx hb dX3_small_33 (by decide) ?_
    obtain ⟨u34, t34, h⟩ := g_bd h
    obtain ⟨qx34, e34, h⟩ := g_bd h
    refine c_cV (y := yX3_wrong) (rest := []) dX3_small_34 q817 q819 qs8 q125 q820 hc_X3_wrong rfl S hE hG hS hC0 hl.1 rfl (c_recv hE hG (ci := 10) rfl (by decide) (c_castM t34)) (wm_X3_wrong E l hl9 x0 5 G _ _ e34) rfl (Nat.le_of_ble_eq_true rfl) ⟨Nat.le_of_ble_eq_true rfl, Nat.le_of_ble_eq_true rfl⟩ (fun H locs hG hS => ?_)
    exact c_throwW dX3_small_37 S hE hG hS hC0 hx9 hk h
  unfold cm_X3_small at h
  refine lv_aload_n hx hb dX3_small_0 rfl (lv_at hl 0 rfl) ?_
  obtain ⟨v1, e1, h⟩ := g_bd h
  refine cg_X3_58 dX3_small_1 S hE hG e1 ?_
  refine c_gets q729 rfl (hE.stat.1 1 (by decide)) dX3_small_4 S hS ?_
  rw [← hG.2.2.2.2.1]
  refine lv_acmp_eq (rx := (some v1)) (ry := (some (cK Gz (10 + 1)))) (tgt := 16) hx hb dX3_small_7 (by decide) (fun c7 => ?_) (fun c7 => ?_)
  · have h := g_it c7 h
    refine lv_aload_n hx hb dX3_small_16 rfl (lv_at hl 0 rfl) ?_
    obtain ⟨v17, e17, h⟩ := g_bd h
    refine cg_X3_87 dX3_small_17 S hE hG e17 ?_
    refine lv_iload_n hx hb dX3_small_20 rfl (lv_at hl 1 rfl) ?_
    refine lv_icmp_lt (tgt := 32) hx hb dX3_small_21 (by decide) (fun c21 => ?_) (fun c21 => ?_)
    · have h := g_it c21 h
      exact J32 x0 Gz _ _ _ h hG hS (lv_sub hl [0] rfl)
    · have h := g_if c21 h
      refine lv_aload_n hx hb dX3_small_24 rfl (lv_at hl 0 rfl) ?_
      obtain ⟨v25, e25, h⟩ := g_bd h
      refine cg_X3_87 dX3_small_25 S hE hG e25 ?_
      refine lv_iload_n hx hb dX3_small_28 rfl (lv_at hl 2 rfl) ?_
      refine lv_icmp_le (tgt := 38) hx hb dX3_small_29 (by decide) (fun c29 => ?_) (fun c29 => ?_)
      · have h := g_it c29 h
        refine lv_aload_n hx hb dX3_small_38 rfl (lv_at hl 0 rfl) ?_
        obtain ⟨v39, e39, h⟩ := g_bd h
        refine cg_X3_87 dX3_small_39 S hE hG e39 ?_
        refine lv_istore_n (lv' := [(3, .int v39), (0, .ref x0), (1, .int x1), (2, .int x2)]) hx hb dX3_small_42 rfl hl (by decide) rfl (fun ls hl => ?_)
        refine lv_aload_n hx hb dX3_small_43 rfl (lv_at hl 1 rfl) ?_
        obtain ⟨u44, t44, h⟩ := g_bd h
        obtain ⟨G44, e44, h⟩ := g_bd h
        refine c_cV (y := yX3_go) (rest := []) dX3_small_44 q701 q703 qs2 q125 q704 hc_X3_go rfl S hE hG hS hC0 hl.1 rfl (c_recv hE hG (ci := 10) rfl (by decide) (c_castM t44)) (wm_X3_go E l x0 Gz _ e44) rfl (Nat.le_of_ble_eq_true rfl) ⟨Nat.le_of_ble_eq_true rfl, Nat.le_of_ble_eq_true rfl⟩ (fun H locs hG hS => ?_)
        refine lv_iload_n hx hb dX3_small_47 rfl (lv_at hl 0 rfl) ?_
        cases h
        exact c_xret (v := some (.int v39)) (G1 := G44) rfl (c_iretW dX3_small_48 S hr hk hC0 hG hS rfl)
      · have h := g_if c29 h
        exact J32 x0 Gz _ _ _ h hG hS (lv_sub hl [0] rfl)
  · have h := g_if c7 h
    refine lv_aload_n hx hb dX3_small_10 rfl (lv_at hl 0 rfl) ?_
    refine lv_iconst (v := 1) hx hb dX3_small_11 (by decide) ?_
    obtain ⟨u12, t12, h⟩ := g_bd h
    obtain ⟨qx12, e12, h⟩ := g_bd h
    refine c_cV (y := yX3_wrong) (rest := []) dX3_small_12 q817 q819 qs8 q125 q820 hc_X3_wrong rfl S hE hG hS hC0 hl.1 rfl (c_recv hE hG (ci := 10) rfl (by decide) (c_castM t12)) (wm_X3_wrong E l hl9 x0 1 Gz _ _ e12) rfl (Nat.le_of_ble_eq_true rfl) ⟨Nat.le_of_ble_eq_true rfl, Nat.le_of_ble_eq_true rfl⟩ (fun H locs hG hS => ?_)
    exact c_throwW dX3_small_15 S hE hG hS hC0 hx9 hk h
theorem hc_X3_newName : cHd yX3_newName 2 := by decide +kernel
set_option maxHeartbeats 4000000 in
set_option maxRecDepth 100000 in
theorem wm_X3_newName (E : gX) (l : Launch) (hl9 : l.stackTraces = false) (x0 : Nat) (x1 : Int32) (x2 : Int32) (Gz : GH) (r : (GX Unit)) (h : cm_X3_newName x0 x1 x2 Gz = some r) : gMetX E l yX3_newName cX3_newName 3 none 9 [.ref x0, .int x1, .int x2] Gz (gRs (fun _ => none) r) := by
  refine gMetX.of (own := RX3) (by decide +kernel) (Nat.le_of_ble_eq_true rfl) rfl ?_
  intro p e s m args below meth c S hr hk hx9 hE hC0 hG hS ls hl
  have hl : lv_has ls 3 [(0, .ref x0), (1, .int x1), (2, .int x2)] := hl
  have hx := S.1
  have hb := S.2.1
  have J25 : ∀ (x0 : Nat) (G : GH) (H : Heap) (locs : List Loc) (ls : Array Slot), cm_X3_newName_J25 x0 G = some r → gC E G H → va_S (gx_C E) s.heap H locs → lv_has ls 3 [(0, .ref x0)] → WC E p l e (gRm 9 (cBx Gz) (cBs Gz)) s m args below meth c H locs (gXMQ E below (gRs (fun _ => none) r) args s Gz) (F0 m 25 ls []) := by
    intro x0 G H locs ls h hG hS hl
    unfold cm_X3_newName_J25 at h
    refine lv_aload_n hx hb dX3_newName_25 rfl (lv_at hl 0 rfl) ?_
    refine lv_iconst (v := 2) hx hb dX3_newName_26 (by decide) ?_
    obtain ⟨u27, t27, h⟩ := g_bd h
    obtain ⟨qx27, e27, h⟩ := g_bd h
    refine c_cV (y := yX3_wrong) (rest := []) dX3_newName_27 q817 q819 qs8 q125 q820 hc_X3_wrong rfl S hE hG hS hC0 hl.1 rfl (c_recv hE hG (ci := 10) rfl (by decide) (c_castM t27)) (wm_X3_wrong E l hl9 x0 2 G _ _ e27) rfl (Nat.le_of_ble_eq_true rfl) ⟨Nat.le_of_ble_eq_true rfl, Nat.le_of_ble_eq_true rfl⟩ (fun H locs hG hS => ?_)
    exact c_throwW dX3_newName_30 S hE hG hS hC0 hx9 hk h
  unfold cm_X3_newName at h
  refine lv_aload_n hx hb dX3_newName_0 rfl (lv_at hl 0 rfl) ?_
  obtain ⟨u1, t1, h⟩ := g_bd h
  rcases gXb_e h with ⟨qx1, e1, h⟩ | ⟨xx1, e1, rfl⟩
  rotate_left
  · exact c_xV (r := .inr xx1) (y := yX3_needWord) (rest := []) dX3_newName_1 q861 q863 qs13 q125 q864 hc_X3_needWord rfl S hE hG hS hC0 hl.1 rfl (c_recv hE hG (ci := 10) rfl (by decide) (c_castM t1)) (wm_X3_needWord E l hl9 x0 Gz _ e1) rfl (Nat.le_of_ble_eq_true rfl) ⟨Nat.le_of_ble_eq_true rfl, Nat.le_of_ble_eq_true rfl⟩ (fun hr9 => c_xthrew hC0 hr9 hS (fun H locs ce hG hS h1 h2 h3 => c_xout rfl hx9 hk hC0 hG hS h1 h2 h3))
  refine c_xV (r := .inl (none, qx1.2)) (y := yX3_needWord) (rest := []) dX3_newName_1 q861 q863 qs13 q125 q864 hc_X3_needWord rfl S hE hG hS hC0 hl.1 rfl (c_recv hE hG (ci := 10) rfl (by decide) (c_castM t1)) (wm_X3_needWord E l hl9 x0 Gz _ e1) rfl (Nat.le_of_ble_eq_true rfl) ⟨Nat.le_of_ble_eq_true rfl, Nat.le_of_ble_eq_true rfl⟩ (fun hr9 => c_xback hC0 hr9 hS (fun H locs hG hS => ?_))
  refine lv_aload_n hx hb dX3_newName_4 rfl (lv_at hl 0 rfl) ?_
  obtain ⟨v5, e5, h⟩ := g_bd h
  refine cg_X3_77 dX3_newName_5 S hE hG e5 ?_
  obtain ⟨qx8, e8, h⟩ := g_bd h
  refine c_cSN (y := yX1_isReserved) (rest := []) dX3_newName_8 (lw_nw q865 rfl) q866 q119 q867 hc_X1_isReserved S hE hG hS hC0 hl.1 rfl (wm_X1_isReserved E l v5 qx1.2 _ _ e8) rfl (Nat.le_of_ble_eq_true rfl) ⟨Nat.le_of_ble_eq_true rfl, Nat.le_of_ble_eq_true rfl⟩ (fun H locs hG hS => ?_)
  refine lv_if_ne (tgt := 25) hx hb dX3_newName_11 (by decide) (fun c11 => ?_) (fun c11 => ?_)
  · have h := g_if c11 h
    exact J25 x0 qx8.2 _ _ _ h hG hS (lv_sub hl [0] rfl)
  · have h := g_it c11 h
    refine lv_aload_n hx hb dX3_newName_14 rfl (lv_at hl 0 rfl) ?_
    refine lv_aload_n hx hb dX3_newName_15 rfl (lv_at hl 0 rfl) ?_
    obtain ⟨v16, e16, h⟩ := g_bd h
    refine cg_X3_77 dX3_newName_16 S hE hG e16 ?_
    obtain ⟨u19, t19, h⟩ := g_bd h
    obtain ⟨v19, e19, h⟩ := g_bd h
    refine c_cV (y := yX3_named) (rest := []) dX3_newName_19 q877 q879 qs14 q125 q880 hc_X3_named rfl S hE hG hS hC0 hl.1 rfl (c_recv hE hG (ci := 10) rfl (by decide) (c_castM t19)) (wm_X3_named E l x0 v16 qx8.2 _ e19) rfl (Nat.le_of_ble_eq_true rfl) ⟨Nat.le_of_ble_eq_true rfl, Nat.le_of_ble_eq_true rfl⟩ (fun H locs hG hS => ?_)
    refine c_ifnull (tgt := 31) hx hb dX3_newName_22 (by decide) (fun c22 => ?_) (fun c22 => ?_)
    · have h := g_it c22 h
      refine lv_aload_n hx hb dX3_newName_31 rfl (lv_at hl 0 rfl) ?_
      obtain ⟨v32, e32, h⟩ := g_bd h
      refine cg_X3_12 dX3_newName_32 S hE hG e32 ?_
      obtain ⟨qx35, e35, h⟩ := g_bd h
      refine c_new (n := 3) dX3_newName_35 q897 q902 q147 rfl in_X5 tyX5_ok rfl (by decide) (by decide) S hE hG hS hC0 e35 (fun H locs hG hS => ?_)
      refine lv_dup hx hb dX3_newName_38 rfl ?_
      refine lv_aload_n hx hb dX3_newName_39 rfl (lv_at hl 0 rfl) ?_
      obtain ⟨v40, e40, h⟩ := g_bd h
      refine cg_X3_77 dX3_newName_40 S hE hG e40 ?_
      refine lv_iload_n hx hb dX3_newName_43 rfl (lv_at hl 1 rfl) ?_
      refine lv_iload_n hx hb dX3_newName_44 rfl (lv_at hl 2 rfl) ?_
      obtain ⟨G45, e45, h⟩ := g_bd h
      refine c_cIN (y := yX5_init) (rest := [.ref qx35.1, .ref v32]) dX3_newName_45 (lw_nw q903 rfl) q904 q147 q905 hc_X5_init rfl S hE hG hS hC0 hl.1 rfl (wm_X5_init E l qx35.1 v40 x1 x2 qx35.2 _ e45) rfl (Nat.le_of_ble_eq_true rfl) ⟨Nat.le_of_ble_eq_true rfl, Nat.le_of_ble_eq_true rfl⟩ (fun H locs hG hS => ?_)
      obtain ⟨u48, t48, h⟩ := g_bd h
      obtain ⟨qx48, e48, h⟩ := g_bd h
      refine c_cV (y := yJ6_add) (rest := []) dX3_newName_48 q920 q921 q922 q128 q923 hc_J6_add rfl S hE hG hS hC0 hl.1 rfl (c_recv hE hG (ci := 2) rfl (by decide) (c_castM t48)) (wm_J6_add E l v32 qx35.1 G45 _ _ e48) rfl (Nat.le_of_ble_eq_true rfl) ⟨Nat.le_of_ble_eq_true rfl, Nat.le_of_ble_eq_true rfl⟩ (fun H locs hG hS => ?_)
      refine lv_pop hx hb dX3_newName_51 rfl ?_
      refine lv_aload_n hx hb dX3_newName_52 rfl (lv_at hl 0 rfl) ?_
      obtain ⟨u53, t53, h⟩ := g_bd h
      obtain ⟨G53, e53, h⟩ := g_bd h
      refine c_cV (y := yX3_go) (rest := []) dX3_newName_53 q701 q703 qs2 q125 q704 hc_X3_go rfl S hE hG hS hC0 hl.1 rfl (c_recv hE hG (ci := 10) rfl (by decide) (c_castM t53)) (wm_X3_go E l x0 qx48.2 _ e53) rfl (Nat.le_of_ble_eq_true rfl) ⟨Nat.le_of_ble_eq_true rfl, Nat.le_of_ble_eq_true rfl⟩ (fun H locs hG hS => ?_)
      cases h
      exact c_xret (v := none) (G1 := G53) rfl (c_vretW dX3_newName_56 S hr hk hC0 hG hS rfl)
    · have h := g_if c22 h
      exact J25 x0 qx8.2 _ _ _ h hG hS (lv_sub hl [0] rfl)
theorem hc_X3_mosts : cHd yX3_mosts 1 := by decide +kernel
set_option maxHeartbeats 4000000 in
set_option maxRecDepth 100000 in
theorem wm_X3_mosts (E : gX) (l : Launch) (x0 : Int32) (Gz G' : GH) (r : Nat) (h : cm_X3_mosts x0 Gz = some (r, G')) : gMetC E l yX3_mosts cX3_mosts 1 (some (Jvm.ClassFile.FieldType.array Jvm.ClassFile.FieldType.int)) 2 [.int x0] Gz G' (some (.ref r)) := by
  refine gMetC.of (own := RX3) (by decide +kernel) (Nat.le_of_ble_eq_true rfl) rfl ?_
  intro p e s m args below meth c S hr hk hnm hE hC0 hG hS ls hl
  have hl : lv_has ls 1 [(0, .int x0)] := hl
  have hx := S.1
  have hb := S.2.1
  unfold cm_X3_mosts at h
  refine lv_iload_n hx hb dX3_mosts_0 rfl (lv_at hl 0 rfl) ?_
  by_cases c1_0 : x0 = 0
  · have h := g_it c1_0 h
    refine lv_tableIn (off := 51) (tgt := 52) hx hb dX3_mosts_1 (by rw [c1_0]; decide) (by rw [c1_0]; decide) (by rw [c1_0]; rfl) (by decide) ?_
    refine lv_iconst (v := 3) hx hb dX3_mosts_52 (by decide) ?_
    obtain ⟨qx53, e53, h⟩ := g_bd h
    refine c_newI q246 dX3_mosts_53 S hE hG hS hC0 e53 (fun H locs hG hS => ?_)
    refine lv_dup hx hb dX3_mosts_55 rfl ?_
    refine lv_iconst (v := 0) hx hb dX3_mosts_56 (by decide) ?_
    refine lv_sipush (v := 500) hx hb dX3_mosts_57 (by decide) ?_
    obtain ⟨G60, e60, h⟩ := g_bd h
    refine c_astI dX3_mosts_60 S hE hG hS hC0 e60 (fun H locs hG hS => ?_)
    refine lv_dup hx hb dX3_mosts_61 rfl ?_
    refine lv_iconst (v := 1) hx hb dX3_mosts_62 (by decide) ?_
    refine lv_bipush (v := 50) hx hb dX3_mosts_63 (by decide) ?_
    obtain ⟨G65, e65, h⟩ := g_bd h
    refine c_astI dX3_mosts_65 S hE hG hS hC0 e65 (fun H locs hG hS => ?_)
    refine lv_dup hx hb dX3_mosts_66 rfl ?_
    refine lv_iconst (v := 2) hx hb dX3_mosts_67 (by decide) ?_
    refine lv_bipush (v := 60) hx hb dX3_mosts_68 (by decide) ?_
    obtain ⟨G70, e70, h⟩ := g_bd h
    refine c_astI dX3_mosts_70 S hE hG hS hC0 e70 (fun H locs hG hS => ?_)
    exact c_aretW dX3_mosts_71 (Or.inr ⟨_, rfl⟩) S hr hk hC0 hG hS h
  have h := g_if c1_0 h
  by_cases c1_1 : x0 = 1
  · have h := g_it c1_1 h
    refine lv_tableIn (off := 71) (tgt := 72) hx hb dX3_mosts_1 (by rw [c1_1]; decide) (by rw [c1_1]; decide) (by rw [c1_1]; rfl) (by decide) ?_
    refine lv_iconst (v := 3) hx hb dX3_mosts_72 (by decide) ?_
    obtain ⟨qx73, e73, h⟩ := g_bd h
    refine c_newI q246 dX3_mosts_73 S hE hG hS hC0 e73 (fun H locs hG hS => ?_)
    refine lv_dup hx hb dX3_mosts_75 rfl ?_
    refine lv_iconst (v := 0) hx hb dX3_mosts_76 (by decide) ?_
    refine lv_sipush (v := 500) hx hb dX3_mosts_77 (by decide) ?_
    obtain ⟨G80, e80, h⟩ := g_bd h
    refine c_astI dX3_mosts_80 S hE hG hS hC0 e80 (fun H locs hG hS => ?_)
    refine lv_dup hx hb dX3_mosts_81 rfl ?_
    refine lv_iconst (v := 1) hx hb dX3_mosts_82 (by decide) ?_
    refine lv_sipush (v := 200) hx hb dX3_mosts_83 (by decide) ?_
    obtain ⟨G86, e86, h⟩ := g_bd h
    refine c_astI dX3_mosts_86 S hE hG hS hC0 e86 (fun H locs hG hS => ?_)
    refine lv_dup hx hb dX3_mosts_87 rfl ?_
    refine lv_iconst (v := 2) hx hb dX3_mosts_88 (by decide) ?_
    refine lv_bipush (v := 60) hx hb dX3_mosts_89 (by decide) ?_
    obtain ⟨G91, e91, h⟩ := g_bd h
    refine c_astI dX3_mosts_91 S hE hG hS hC0 e91 (fun H locs hG hS => ?_)
    exact c_aretW dX3_mosts_92 (Or.inr ⟨_, rfl⟩) S hr hk hC0 hG hS h
  have h := g_if c1_1 h
  by_cases c1_2 : x0 = 2
  · have h := g_it c1_2 h
    refine lv_tableIn (off := 92) (tgt := 93) hx hb dX3_mosts_1 (by rw [c1_2]; decide) (by rw [c1_2]; decide) (by rw [c1_2]; rfl) (by decide) ?_
    refine lv_iconst (v := 5) hx hb dX3_mosts_93 (by decide) ?_
    obtain ⟨qx94, e94, h⟩ := g_bd h
    refine c_newI q246 dX3_mosts_94 S hE hG hS hC0 e94 (fun H locs hG hS => ?_)
    refine lv_dup hx hb dX3_mosts_96 rfl ?_
    refine lv_iconst (v := 0) hx hb dX3_mosts_97 (by decide) ?_
    refine lv_sipush (v := 500) hx hb dX3_mosts_98 (by decide) ?_
    obtain ⟨G101, e101, h⟩ := g_bd h
    refine c_astI dX3_mosts_101 S hE hG hS hC0 e101 (fun H locs hG hS => ?_)
    refine lv_dup hx hb dX3_mosts_102 rfl ?_
    refine lv_iconst (v := 1) hx hb dX3_mosts_103 (by decide) ?_
    refine lv_bipush (v := 50) hx hb dX3_mosts_104 (by decide) ?_
    obtain ⟨G106, e106, h⟩ := g_bd h
    refine c_astI dX3_mosts_106 S hE hG hS hC0 e106 (fun H locs hG hS => ?_)
    refine lv_dup hx hb dX3_mosts_107 rfl ?_
    refine lv_iconst (v := 2) hx hb dX3_mosts_108 (by decide) ?_
    refine lv_sipush (v := 500) hx hb dX3_mosts_109 (by decide) ?_
    obtain ⟨G112, e112, h⟩ := g_bd h
    refine c_astI dX3_mosts_112 S hE hG hS hC0 e112 (fun H locs hG hS => ?_)
    refine lv_dup hx hb dX3_mosts_113 rfl ?_
    refine lv_iconst (v := 3) hx hb dX3_mosts_114 (by decide) ?_
    refine lv_sipush (v := 200) hx hb dX3_mosts_115 (by decide) ?_
    obtain ⟨G118, e118, h⟩ := g_bd h
    refine c_astI dX3_mosts_118 S hE hG hS hC0 e118 (fun H locs hG hS => ?_)
    refine lv_dup hx hb dX3_mosts_119 rfl ?_
    refine lv_iconst (v := 4) hx hb dX3_mosts_120 (by decide) ?_
    refine lv_bipush (v := 60) hx hb dX3_mosts_121 (by decide) ?_
    obtain ⟨G123, e123, h⟩ := g_bd h
    refine c_astI dX3_mosts_123 S hE hG hS hC0 e123 (fun H locs hG hS => ?_)
    exact c_aretW dX3_mosts_124 (Or.inr ⟨_, rfl⟩) S hr hk hC0 hG hS h
  have h := g_if c1_2 h
  by_cases c1_3 : x0 = 3
  · have h := g_it c1_3 h
    refine lv_tableIn (off := 124) (tgt := 125) hx hb dX3_mosts_1 (by rw [c1_3]; decide) (by rw [c1_3]; decide) (by rw [c1_3]; rfl) (by decide) ?_
    refine lv_iconst (v := 2) hx hb dX3_mosts_125 (by decide) ?_
    obtain ⟨qx126, e126, h⟩ := g_bd h
    refine c_newI q246 dX3_mosts_126 S hE hG hS hC0 e126 (fun H locs hG hS => ?_)
    refine lv_dup hx hb dX3_mosts_128 rfl ?_
    refine lv_iconst (v := 0) hx hb dX3_mosts_129 (by decide) ?_
    refine lv_sipush (v := 500) hx hb dX3_mosts_130 (by decide) ?_
    obtain ⟨G133, e133, h⟩ := g_bd h
    refine c_astI dX3_mosts_133 S hE hG hS hC0 e133 (fun H locs hG hS => ?_)
    refine lv_dup hx hb dX3_mosts_134 rfl ?_
    refine lv_iconst (v := 1) hx hb dX3_mosts_135 (by decide) ?_
    refine lv_bipush (v := 50) hx hb dX3_mosts_136 (by decide) ?_
    obtain ⟨G138, e138, h⟩ := g_bd h
    refine c_astI dX3_mosts_138 S hE hG hS hC0 e138 (fun H locs hG hS => ?_)
    exact c_aretW dX3_mosts_139 (Or.inr ⟨_, rfl⟩) S hr hk hC0 hG hS h
  have h := g_if c1_3 h
  by_cases c1_4 : x0 = 4
  · have h := g_it c1_4 h
    refine lv_tableIn (off := 139) (tgt := 140) hx hb dX3_mosts_1 (by rw [c1_4]; decide) (by rw [c1_4]; decide) (by rw [c1_4]; rfl) (by decide) ?_
    refine lv_iconst (v := 1) hx hb dX3_mosts_140 (by decide) ?_
    obtain ⟨qx141, e141, h⟩ := g_bd h
    refine c_newI q246 dX3_mosts_141 S hE hG hS hC0 e141 (fun H locs hG hS => ?_)
    refine lv_dup hx hb dX3_mosts_143 rfl ?_
    refine lv_iconst (v := 0) hx hb dX3_mosts_144 (by decide) ?_
    refine lv_sipush (v := 500) hx hb dX3_mosts_145 (by decide) ?_
    obtain ⟨G148, e148, h⟩ := g_bd h
    refine c_astI dX3_mosts_148 S hE hG hS hC0 e148 (fun H locs hG hS => ?_)
    exact c_aretW dX3_mosts_149 (Or.inr ⟨_, rfl⟩) S hr hk hC0 hG hS h
  have h := g_if c1_4 h
  by_cases c1_5 : x0 = 5
  · have h := g_it c1_5 h
    refine lv_tableIn (off := 149) (tgt := 150) hx hb dX3_mosts_1 (by rw [c1_5]; decide) (by rw [c1_5]; decide) (by rw [c1_5]; rfl) (by decide) ?_
    refine lv_iconst (v := 3) hx hb dX3_mosts_150 (by decide) ?_
    obtain ⟨qx151, e151, h⟩ := g_bd h
    refine c_newI q246 dX3_mosts_151 S hE hG hS hC0 e151 (fun H locs hG hS => ?_)
    refine lv_dup hx hb dX3_mosts_153 rfl ?_
    refine lv_iconst (v := 0) hx hb dX3_mosts_154 (by decide) ?_
    refine lv_sipush (v := 500) hx hb dX3_mosts_155 (by decide) ?_
    obtain ⟨G158, e158, h⟩ := g_bd h
    refine c_astI dX3_mosts_158 S hE hG hS hC0 e158 (fun H locs hG hS => ?_)
    refine lv_dup hx hb dX3_mosts_159 rfl ?_
    refine lv_iconst (v := 1) hx hb dX3_mosts_160 (by decide) ?_
    refine lv_sipush (v := 200) hx hb dX3_mosts_161 (by decide) ?_
    obtain ⟨G164, e164, h⟩ := g_bd h
    refine c_astI dX3_mosts_164 S hE hG hS hC0 e164 (fun H locs hG hS => ?_)
    refine lv_dup hx hb dX3_mosts_165 rfl ?_
    refine lv_iconst (v := 2) hx hb dX3_mosts_166 (by decide) ?_
    refine lv_sipush (v := 500) hx hb dX3_mosts_167 (by decide) ?_
    obtain ⟨G170, e170, h⟩ := g_bd h
    refine c_astI dX3_mosts_170 S hE hG hS hC0 e170 (fun H locs hG hS => ?_)
    exact c_aretW dX3_mosts_171 (Or.inr ⟨_, rfl⟩) S hr hk hC0 hG hS h
  have h := g_if c1_5 h
  by_cases c1_6 : x0 = 6
  · have h := g_it c1_6 h
    refine lv_tableIn (off := 171) (tgt := 172) hx hb dX3_mosts_1 (by rw [c1_6]; decide) (by rw [c1_6]; decide) (by rw [c1_6]; rfl) (by decide) ?_
    refine lv_iconst (v := 2) hx hb dX3_mosts_172 (by decide) ?_
    obtain ⟨qx173, e173, h⟩ := g_bd h
    refine c_newI q246 dX3_mosts_173 S hE hG hS hC0 e173 (fun H locs hG hS => ?_)
    refine lv_dup hx hb dX3_mosts_175 rfl ?_
    refine lv_iconst (v := 0) hx hb dX3_mosts_176 (by decide) ?_
    refine lv_bipush (v := 60) hx hb dX3_mosts_177 (by decide) ?_
    obtain ⟨G179, e179, h⟩ := g_bd h
    refine c_astI dX3_mosts_179 S hE hG hS hC0 e179 (fun H locs hG hS => ?_)
    refine lv_dup hx hb dX3_mosts_180 rfl ?_
    refine lv_iconst (v := 1) hx hb dX3_mosts_181 (by decide) ?_
    refine lv_sipush (v := 500) hx hb dX3_mosts_182 (by decide) ?_
    obtain ⟨G185, e185, h⟩ := g_bd h
    refine c_astI dX3_mosts_185 S hE hG hS hC0 e185 (fun H locs hG hS => ?_)
    exact c_aretW dX3_mosts_186 (Or.inr ⟨_, rfl⟩) S hr hk hC0 hG hS h
  have h := g_if c1_6 h
  by_cases c1_7 : x0 = 7
  · have h := g_it c1_7 h
    refine lv_tableIn (off := 186) (tgt := 187) hx hb dX3_mosts_1 (by rw [c1_7]; decide) (by rw [c1_7]; decide) (by rw [c1_7]; rfl) (by decide) ?_
    refine lv_bipush (v := 6) hx hb dX3_mosts_187 (by decide) ?_
    obtain ⟨qx189, e189, h⟩ := g_bd h
    refine c_newI q246 dX3_mosts_189 S hE hG hS hC0 e189 (fun H locs hG hS => ?_)
    refine lv_dup hx hb dX3_mosts_191 rfl ?_
    refine lv_iconst (v := 0) hx hb dX3_mosts_192 (by decide) ?_
    refine lv_sipush (v := 500) hx hb dX3_mosts_193 (by decide) ?_
    obtain ⟨G196, e196, h⟩ := g_bd h
    refine c_astI dX3_mosts_196 S hE hG hS hC0 e196 (fun H locs hG hS => ?_)
    refine lv_dup hx hb dX3_mosts_197 rfl ?_
    refine lv_iconst (v := 1) hx hb dX3_mosts_198 (by decide) ?_
    refine lv_bipush (v := 50) hx hb dX3_mosts_199 (by decide) ?_
    obtain ⟨G201, e201, h⟩ := g_bd h
    refine c_astI dX3_mosts_201 S hE hG hS hC0 e201 (fun H locs hG hS => ?_)
    refine lv_dup hx hb dX3_mosts_202 rfl ?_
    refine lv_iconst (v := 2) hx hb dX3_mosts_203 (by decide) ?_
    refine lv_sipush (v := 500) hx hb dX3_mosts_204 (by decide) ?_
    obtain ⟨G207, e207, h⟩ := g_bd h
    refine c_astI dX3_mosts_207 S hE hG hS hC0 e207 (fun H locs hG hS => ?_)
    refine lv_dup hx hb dX3_mosts_208 rfl ?_
    refine lv_iconst (v := 3) hx hb dX3_mosts_209 (by decide) ?_
    refine lv_sipush (v := 200) hx hb dX3_mosts_210 (by decide) ?_
    obtain ⟨G213, e213, h⟩ := g_bd h
    refine c_astI dX3_mosts_213 S hE hG hS hC0 e213 (fun H locs hG hS => ?_)
    refine lv_dup hx hb dX3_mosts_214 rfl ?_
    refine lv_iconst (v := 4) hx hb dX3_mosts_215 (by decide) ?_
    refine lv_bipush (v := 60) hx hb dX3_mosts_216 (by decide) ?_
    obtain ⟨G218, e218, h⟩ := g_bd h
    refine c_astI dX3_mosts_218 S hE hG hS hC0 e218 (fun H locs hG hS => ?_)
    refine lv_dup hx hb dX3_mosts_219 rfl ?_
    refine lv_iconst (v := 5) hx hb dX3_mosts_220 (by decide) ?_
    refine lv_sipush (v := 500) hx hb dX3_mosts_221 (by decide) ?_
    obtain ⟨G224, e224, h⟩ := g_bd h
    refine c_astI dX3_mosts_224 S hE hG hS hC0 e224 (fun H locs hG hS => ?_)
    exact c_aretW dX3_mosts_225 (Or.inr ⟨_, rfl⟩) S hr hk hC0 hG hS h
  have h := g_if c1_7 h
  by_cases c1_8 : x0 = 8
  · have h := g_it c1_8 h
    refine lv_tableIn (off := 51) (tgt := 52) hx hb dX3_mosts_1 (by rw [c1_8]; decide) (by rw [c1_8]; decide) (by rw [c1_8]; rfl) (by decide) ?_
    refine lv_iconst (v := 3) hx hb dX3_mosts_52 (by decide) ?_
    obtain ⟨qx53, e53, h⟩ := g_bd h
    refine c_newI q246 dX3_mosts_53 S hE hG hS hC0 e53 (fun H locs hG hS => ?_)
    refine lv_dup hx hb dX3_mosts_55 rfl ?_
    refine lv_iconst (v := 0) hx hb dX3_mosts_56 (by decide) ?_
    refine lv_sipush (v := 500) hx hb dX3_mosts_57 (by decide) ?_
    obtain ⟨G60, e60, h⟩ := g_bd h
    refine c_astI dX3_mosts_60 S hE hG hS hC0 e60 (fun H locs hG hS => ?_)
    refine lv_dup hx hb dX3_mosts_61 rfl ?_
    refine lv_iconst (v := 1) hx hb dX3_mosts_62 (by decide) ?_
    refine lv_bipush (v := 50) hx hb dX3_mosts_63 (by decide) ?_
    obtain ⟨G65, e65, h⟩ := g_bd h
    refine c_astI dX3_mosts_65 S hE hG hS hC0 e65 (fun H locs hG hS => ?_)
    refine lv_dup hx hb dX3_mosts_66 rfl ?_
    refine lv_iconst (v := 2) hx hb dX3_mosts_67 (by decide) ?_
    refine lv_bipush (v := 60) hx hb dX3_mosts_68 (by decide) ?_
    obtain ⟨G70, e70, h⟩ := g_bd h
    refine c_astI dX3_mosts_70 S hE hG hS hC0 e70 (fun H locs hG hS => ?_)
    exact c_aretW dX3_mosts_71 (Or.inr ⟨_, rfl⟩) S hr hk hC0 hG hS h
  have h := g_if c1_8 h
  refine lv_tableOut (tgt := 187) hx hb dX3_mosts_1 (g_swOut 0 8 (by intro k hk; match k, hk with | 0, _ => exact c1_0 | 1, _ => exact c1_1 | 2, _ => exact c1_2 | 3, _ => exact c1_3 | 4, _ => exact c1_4 | 5, _ => exact c1_5 | 6, _ => exact c1_6 | 7, _ => exact c1_7 | 8, _ => exact c1_8 | k + 9, hk => exact absurd hk (by omega)) (by decide) (by decide)) (by decide) ?_
  refine lv_bipush (v := 6) hx hb dX3_mosts_187 (by decide) ?_
  obtain ⟨qx189, e189, h⟩ := g_bd h
  refine c_newI q246 dX3_mosts_189 S hE hG hS hC0 e189 (fun H locs hG hS => ?_)
  refine lv_dup hx hb dX3_mosts_191 rfl ?_
  refine lv_iconst (v := 0) hx hb dX3_mosts_192 (by decide) ?_
  refine lv_sipush (v := 500) hx hb dX3_mosts_193 (by decide) ?_
  obtain ⟨G196, e196, h⟩ := g_bd h
  refine c_astI dX3_mosts_196 S hE hG hS hC0 e196 (fun H locs hG hS => ?_)
  refine lv_dup hx hb dX3_mosts_197 rfl ?_
  refine lv_iconst (v := 1) hx hb dX3_mosts_198 (by decide) ?_
  refine lv_bipush (v := 50) hx hb dX3_mosts_199 (by decide) ?_
  obtain ⟨G201, e201, h⟩ := g_bd h
  refine c_astI dX3_mosts_201 S hE hG hS hC0 e201 (fun H locs hG hS => ?_)
  refine lv_dup hx hb dX3_mosts_202 rfl ?_
  refine lv_iconst (v := 2) hx hb dX3_mosts_203 (by decide) ?_
  refine lv_sipush (v := 500) hx hb dX3_mosts_204 (by decide) ?_
  obtain ⟨G207, e207, h⟩ := g_bd h
  refine c_astI dX3_mosts_207 S hE hG hS hC0 e207 (fun H locs hG hS => ?_)
  refine lv_dup hx hb dX3_mosts_208 rfl ?_
  refine lv_iconst (v := 3) hx hb dX3_mosts_209 (by decide) ?_
  refine lv_sipush (v := 200) hx hb dX3_mosts_210 (by decide) ?_
  obtain ⟨G213, e213, h⟩ := g_bd h
  refine c_astI dX3_mosts_213 S hE hG hS hC0 e213 (fun H locs hG hS => ?_)
  refine lv_dup hx hb dX3_mosts_214 rfl ?_
  refine lv_iconst (v := 4) hx hb dX3_mosts_215 (by decide) ?_
  refine lv_bipush (v := 60) hx hb dX3_mosts_216 (by decide) ?_
  obtain ⟨G218, e218, h⟩ := g_bd h
  refine c_astI dX3_mosts_218 S hE hG hS hC0 e218 (fun H locs hG hS => ?_)
  refine lv_dup hx hb dX3_mosts_219 rfl ?_
  refine lv_iconst (v := 5) hx hb dX3_mosts_220 (by decide) ?_
  refine lv_sipush (v := 500) hx hb dX3_mosts_221 (by decide) ?_
  obtain ⟨G224, e224, h⟩ := g_bd h
  refine c_astI dX3_mosts_224 S hE hG hS hC0 e224 (fun H locs hG hS => ?_)
  exact c_aretW dX3_mosts_225 (Or.inr ⟨_, rfl⟩) S hr hk hC0 hG hS h
