/-! walks of the component's methods: printed by cgen.py -/
set_option maxRecDepth 100000
theorem hc_X8_place : cHd yX8_place 0 := by decide +kernel
set_option maxHeartbeats 4000000 in
set_option maxRecDepth 100000 in
theorem wm_X8_place (E : gX) (l : Launch) (x0 : Nat) (Gz : GH) (r : Int32) (h : cm_X8_place x0 Gz = some r) : gMetC E l yX8_place cX8_place 1 (some Jvm.ClassFile.FieldType.int) 6 [.ref x0] Gz Gz (some (.int r)) := by
  refine gMetC.of (own := RX8) (by decide +kernel) (Nat.le_of_ble_eq_true rfl) rfl ?_
  intro p e s m args below meth c S hr hk hnm hE hC0 hG hS ls hl
  have hl : lv_has ls 1 [(0, .ref x0)] := hl
  have hx := S.1
  have hb := S.2.1
  have J19 : ∀ (H : Heap) (locs : List Loc) (ls : Array Slot), cm_X8_place_J19 Gz = some r → gC E Gz H → va_S (gx_C E) s.heap H locs → lv_has ls 1 [] → WC E p l e (gRm 6 (cBx Gz) (cBs Gz)) s m args below meth c H locs (MQ below (gQ (some (.int r)) (gC E Gz) (gx_C E)) args s (cBx Gz) (cBs Gz) (gx_C E)) (F0 m 19 ls []) := by
    intro H locs ls h hG hS hl
    unfold cm_X8_place_J19 at h
    refine lv_iconst (v := (-1)) hx hb dX8_place_19 (by decide) ?_
    refine lv_goto (tgt := 30) hx hb dX8_place_20 (by decide) ?_
    exact c_iretR dX8_place_30 S hr hk hC0 hG hS h
  unfold cm_X8_place at h
  refine lv_aload_n hx hb dX8_place_0 rfl (lv_at hl 0 rfl) ?_
  obtain ⟨v1, e1, h⟩ := g_bd h
  refine cg_X8_63 dX8_place_1 S hE hG e1 ?_
  refine lv_if_ne (tgt := 19) hx hb dX8_place_4 (by decide) (fun c4 => ?_) (fun c4 => ?_)
  · have h := g_if c4 h
    exact J19 _ _ _ h hG hS (lv_sub hl [] rfl)
  · have h := g_it c4 h
    refine lv_aload_n hx hb dX8_place_7 rfl (lv_at hl 0 rfl) ?_
    obtain ⟨u8, t8, h⟩ := g_bd h
    obtain ⟨v8, e8, h⟩ := g_bd h
    refine c_cV (y := yX8_now) (rest := []) dX8_place_8 q2014 q2001 q2002 q150 q2003 hc_X8_now rfl S hE hG hS hC0 hl.1 rfl (c_recv hE hG (ci := 14) rfl (by decide) (c_castM t8)) (wm_X8_now E l x0 Gz _ e8) rfl (Nat.le_of_ble_eq_true rfl) ⟨Nat.le_of_ble_eq_true rfl, Nat.le_of_ble_eq_true rfl⟩ (fun H locs hG hS => ?_)
    obtain ⟨v11, e11, h⟩ := g_bd h
    refine cg_X8_73 dX8_place_11 S hE hG e11 ?_
    refine lv_bipush (v := 23) hx hb dX8_place_14 (by decide) ?_
    refine lv_icmp_ne (tgt := 23) hx hb dX8_place_16 (by decide) (fun c16 => ?_) (fun c16 => ?_)
    · have h := g_if c16 h
      refine lv_aload_n hx hb dX8_place_23 rfl (lv_at hl 0 rfl) ?_
      obtain ⟨u24, t24, h⟩ := g_bd h
      obtain ⟨v24, e24, h⟩ := g_bd h
      refine c_cV (y := yX8_now) (rest := []) dX8_place_24 q2014 q2001 q2002 q150 q2003 hc_X8_now rfl S hE hG hS hC0 hl.1 rfl (c_recv hE hG (ci := 14) rfl (by decide) (c_castM t24)) (wm_X8_now E l x0 Gz _ e24) rfl (Nat.le_of_ble_eq_true rfl) ⟨Nat.le_of_ble_eq_true rfl, Nat.le_of_ble_eq_true rfl⟩ (fun H locs hG hS => ?_)
      obtain ⟨v27, e27, h⟩ := g_bd h
      refine cg_X8_79 dX8_place_27 S hE hG e27 ?_
      exact c_iretR dX8_place_30 S hr hk hC0 hG hS h
    · have h := g_it c16 h
      exact J19 _ _ _ h hG hS (lv_sub hl [] rfl)
theorem hc_X1_script : cHd yX1_script 2 := by decide +kernel
set_option maxHeartbeats 4000000 in
set_option maxRecDepth 100000 in
theorem wm_X1_script (E : gX) (l : Launch) (hl9 : l.stackTraces = false) (x0 : Nat) (x1 : Int32) (x2 : Int32) (Gz : GH) (r : (GX Int32)) (h : cm_X1_script x0 x1 x2 Gz = some r) : gMetX E l yX1_script cX1_script 4 (some Jvm.ClassFile.FieldType.int) 9 [.ref x0, .int x1, .int x2] Gz (gRs (fun r => some (.int r)) r) := by
  refine gMetX.of (own := RX1) (by decide +kernel) (Nat.le_of_ble_eq_true rfl) rfl ?_
  intro p e s m args below meth c S hr hk hx9 hE hC0 hG hS ls hl
  have hl : lv_has ls 4 [(0, .ref x0), (1, .int x1), (2, .int x2)] := hl
  have hx := S.1
  have hb := S.2.1
  have J28 : ∀ (x2 : Int32) (x3 : Nat) (s0 : Int32) (G : GH) (H : Heap) (locs : List Loc) (ls : Array Slot), cm_X1_script_J28 x2 x3 s0 G = some r → gC E G H → va_S (gx_C E) s.heap H locs → lv_has ls 4 [(2, .int x2), (3, .ref x3)] → WC E p l e (gRm 9 (cBx Gz) (cBs Gz)) s m args below meth c H locs (gXMQ E below (gRs (fun r => some (.int r)) r) args s Gz) (F0 m 28 ls [.int s0]) := by
    intro x2 x3 s0 G H locs ls h hG hS hl
    unfold cm_X1_script_J28 at h
    rcases gXb_e h with ⟨qx28, e28, h⟩ | ⟨xx28, e28, rfl⟩
    rotate_left
    · exact c_xS (r := .inr xx28) (y := yX1_there) (rest := []) dX1_script_28 q1896 q1897 q119 q1898 hc_X1_there S hE hG hS hC0 hl.1 rfl (wm_X1_there E l hl9 s0 G _ e28) rfl (Nat.le_of_ble_eq_true rfl) ⟨Nat.le_of_ble_eq_true rfl, Nat.le_of_ble_eq_true rfl⟩ (fun hr9 => c_xthrew hC0 hr9 hS (fun H locs ce hG hS h1 h2 h3 => c_xout rfl hx9 hk hC0 hG hS h1 h2 h3))
    refine c_xS (r := .inl (none, qx28.2)) (y := yX1_there) (rest := []) dX1_script_28 q1896 q1897 q119 q1898 hc_X1_there S hE hG hS hC0 hl.1 rfl (wm_X1_there E l hl9 s0 G _ e28) rfl (Nat.le_of_ble_eq_true rfl) ⟨Nat.le_of_ble_eq_true rfl, Nat.le_of_ble_eq_true rfl⟩ (fun hr9 => c_xback hC0 hr9 hS (fun H locs hG hS => ?_))
    refine lv_iload_n hx hb dX1_script_31 rfl (lv_at hl 0 rfl) ?_
    by_cases c32_0 : x2 = 0
    · have h := g_it c32_0 h
      refine lv_tableIn (off := 32) (tgt := 64) hx hb dX1_script_32 (by rw [c32_0]; decide) (by rw [c32_0]; decide) (by rw [c32_0]; rfl) (by decide) ?_
      refine lv_aload_n hx hb dX1_script_64 rfl (lv_at hl 1 rfl) ?_
      obtain ⟨v65, e65, h⟩ := g_bd h
      refine cg_X1_272 dX1_script_65 S hE hG e65 ?_
      cases h
      exact c_xret (v := some (.int v65)) (G1 := qx28.2) rfl (c_iretW dX1_script_68 S hr hk hC0 hG hS rfl)
    have h := g_if c32_0 h
    by_cases c32_1 : x2 = 1
    · have h := g_it c32_1 h
      refine lv_tableIn (off := 37) (tgt := 69) hx hb dX1_script_32 (by rw [c32_1]; decide) (by rw [c32_1]; decide) (by rw [c32_1]; rfl) (by decide) ?_
      refine lv_aload_n hx hb dX1_script_69 rfl (lv_at hl 1 rfl) ?_
      obtain ⟨v70, e70, h⟩ := g_bd h
      refine cg_X1_305 dX1_script_70 S hE hG e70 ?_
      cases h
      exact c_xret (v := some (.int v70)) (G1 := qx28.2) rfl (c_iretW dX1_script_73 S hr hk hC0 hG hS rfl)
    have h := g_if c32_1 h
    by_cases c32_2 : x2 = 2
    · have h := g_it c32_2 h
      refine lv_tableIn (off := 42) (tgt := 74) hx hb dX1_script_32 (by rw [c32_2]; decide) (by rw [c32_2]; decide) (by rw [c32_2]; rfl) (by decide) ?_
      refine lv_aload_n hx hb dX1_script_74 rfl (lv_at hl 1 rfl) ?_
      obtain ⟨u75, t75, h⟩ := g_bd h
      obtain ⟨v75, e75, h⟩ := g_bd h
      refine c_cV (y := yX8_place) (rest := []) dX1_script_75 q2668 q2669 q2670 q150 q2671 hc_X8_place rfl S hE hG hS hC0 hl.1 rfl (c_recv hE hG (ci := 14) rfl (by decide) (c_castM t75)) (wm_X8_place E l x3 qx28.2 _ e75) rfl (Nat.le_of_ble_eq_true rfl) ⟨Nat.le_of_ble_eq_true rfl, Nat.le_of_ble_eq_true rfl⟩ (fun H locs hG hS => ?_)
      cases h
      exact c_xret (v := some (.int v75)) (G1 := qx28.2) rfl (c_iretW dX1_script_78 S hr hk hC0 hG hS rfl)
    have h := g_if c32_2 h
    by_cases c32_3 : x2 = 3
    · have h := g_it c32_3 h
      refine lv_tableIn (off := 47) (tgt := 79) hx hb dX1_script_32 (by rw [c32_3]; decide) (by rw [c32_3]; decide) (by rw [c32_3]; rfl) (by decide) ?_
      refine lv_aload_n hx hb dX1_script_79 rfl (lv_at hl 1 rfl) ?_
      obtain ⟨v80, e80, h⟩ := g_bd h
      refine cg_X1_324 dX1_script_80 S hE hG e80 ?_
      cases h
      exact c_xret (v := some (.int v80)) (G1 := qx28.2) rfl (c_iretW dX1_script_83 S hr hk hC0 hG hS rfl)
    have h := g_if c32_3 h
    refine lv_tableOut (tgt := 84) hx hb dX1_script_32 (g_swOut 0 3 (by intro k hk; match k, hk with | 0, _ => exact c32_0 | 1, _ => exact c32_1 | 2, _ => exact c32_2 | 3, _ => exact c32_3 | k + 4, hk => exact absurd hk (by omega)) (by decide) (by decide)) (by decide) ?_
    refine lv_aload_n hx hb dX1_script_84 rfl (lv_at hl 1 rfl) ?_
    obtain ⟨v85, e85, h⟩ := g_bd h
    refine cg_X1_383 dX1_script_85 S hE hG e85 ?_
    refine lv_iload_n hx hb dX1_script_88 rfl (lv_at hl 0 rfl) ?_
    refine lv_iconst (v := 4) hx hb dX1_script_89 (by decide) ?_
    refine lv_isub hx hb dX1_script_90 ?_
    obtain ⟨v91, e91, h⟩ := g_bd h
    refine c_aldI dX1_script_91 S hE hG e91 ?_
    cases h
    exact c_xret (v := some (.int v91)) (G1 := qx28.2) rfl (c_iretW dX1_script_92 S hr hk hC0 hG hS rfl)
  have J27 : ∀ (x2 : Int32) (x3 : Nat) (G : GH) (H : Heap) (locs : List Loc) (ls : Array Slot), cm_X1_script_J27 x2 x3 G = some r → gC E G H → va_S (gx_C E) s.heap H locs → lv_has ls 4 [(2, .int x2), (3, .ref x3)] → WC E p l e (gRm 9 (cBx Gz) (cBs Gz)) s m args below meth c H locs (gXMQ E below (gRs (fun r => some (.int r)) r) args s Gz) (F0 m 27 ls []) := by
    intro x2 x3 G H locs ls h hG hS hl
    unfold cm_X1_script_J27 at h
    refine lv_iconst (v := 0) hx hb dX1_script_27 (by decide) ?_
    exact J28 x2 x3 0 G _ _ _ h hG hS (lv_sub hl [0, 1] rfl)
  unfold cm_X1_script at h
  refine lv_aload_n hx hb dX1_script_0 rfl (lv_at hl 0 rfl) ?_
  obtain ⟨u1, t1, h⟩ := g_bd h
  rcases gXb_e h with ⟨qx1, e1, h⟩ | ⟨xx1, e1, rfl⟩
  rotate_left
  · exact c_xV (r := .inr xx1) (y := yX1_isFair) (rest := []) dX1_script_1 q1929 q1931 qs39 q119 q1932 hc_X1_isFair rfl S hE hG hS hC0 hl.1 rfl (c_recv hE hG (ci := 8) rfl (by decide) (c_castM t1)) (wm_X1_isFair E l hl9 x0 Gz _ e1) rfl (Nat.le_of_ble_eq_true rfl) ⟨Nat.le_of_ble_eq_true rfl, Nat.le_of_ble_eq_true rfl⟩ (fun hr9 => c_xthrew hC0 hr9 hS (fun H locs ce hG hS h1 h2 h3 => c_xout rfl hx9 hk hC0 hG hS h1 h2 h3))
  refine c_xV (r := .inl (none, qx1.2)) (y := yX1_isFair) (rest := []) dX1_script_1 q1929 q1931 qs39 q119 q1932 hc_X1_isFair rfl S hE hG hS hC0 hl.1 rfl (c_recv hE hG (ci := 8) rfl (by decide) (c_castM t1)) (wm_X1_isFair E l hl9 x0 Gz _ e1) rfl (Nat.le_of_ble_eq_true rfl) ⟨Nat.le_of_ble_eq_true rfl, Nat.le_of_ble_eq_true rfl⟩ (fun hr9 => c_xback hC0 hr9 hS (fun H locs hG hS => ?_))
  refine lv_aload_n hx hb dX1_script_4 rfl (lv_at hl 0 rfl) ?_
  refine lv_iload_n hx hb dX1_script_5 rfl (lv_at hl 1 rfl) ?_
  obtain ⟨u6, t6, h⟩ := g_bd h
  rcases gXb_e h with ⟨qx6, e6, h⟩ | ⟨xx6, e6, rfl⟩
  rotate_left
  · exact c_xV (r := .inr xx6) (y := yX1_rideAt) (rest := []) dX1_script_6 q1955 q1957 qs40 q119 q1958 hc_X1_rideAt rfl S hE hG hS hC0 hl.1 rfl (c_recv hE hG (ci := 8) rfl (by decide) (c_castM t6)) (wm_X1_rideAt E l hl9 x0 x1 qx1.2 _ e6) rfl (Nat.le_of_ble_eq_true rfl) ⟨Nat.le_of_ble_eq_true rfl, Nat.le_of_ble_eq_true rfl⟩ (fun hr9 => c_xthrew hC0 hr9 hS (fun H locs ce hG hS h1 h2 h3 => c_xout rfl hx9 hk hC0 hG hS h1 h2 h3))
  refine c_xV (r := .inl (some (.ref qx6.1), qx6.2)) (y := yX1_rideAt) (rest := []) dX1_script_6 q1955 q1957 qs40 q119 q1958 hc_X1_rideAt rfl S hE hG hS hC0 hl.1 rfl (c_recv hE hG (ci := 8) rfl (by decide) (c_castM t6)) (wm_X1_rideAt E l hl9 x0 x1 qx1.2 _ e6) rfl (Nat.le_of_ble_eq_true rfl) ⟨Nat.le_of_ble_eq_true rfl, Nat.le_of_ble_eq_true rfl⟩ (fun hr9 => c_xback hC0 hr9 hS (fun H locs hG hS => ?_))
  obtain ⟨v9, e9, h⟩ := g_bd h
  refine cg_X1_154 dX1_script_9 S hE hG e9 ?_
  refine lv_astore_n (lv' := [(3, .ref v9), (0, .ref x0), (1, .int x1), (2, .int x2)]) hx hb dX1_script_12 rfl hl (by decide) rfl (fun ls hl => ?_)
  refine lv_iload_n hx hb dX1_script_13 rfl (lv_at hl 3 rfl) ?_
  refine lv_if_lt (tgt := 27) hx hb dX1_script_14 (by decide) (fun c14 => ?_) (fun c14 => ?_)
  · have h := g_it c14 h
    exact J27 x2 v9 qx6.2 _ _ _ h hG hS (lv_sub hl [3, 0] rfl)
  · have h := g_if c14 h
    refine lv_iload_n hx hb dX1_script_17 rfl (lv_at hl 3 rfl) ?_
    refine lv_bipush (v := 7) hx hb dX1_script_18 (by decide) ?_
    refine lv_icmp_gt (tgt := 27) hx hb dX1_script_20 (by decide) (fun c20 => ?_) (fun c20 => ?_)
    · have h := g_it c20 h
      exact J27 x2 v9 qx6.2 _ _ _ h hG hS (lv_sub hl [3, 0] rfl)
    · have h := g_if c20 h
      refine lv_iconst (v := 1) hx hb dX1_script_23 (by decide) ?_
      refine lv_goto (tgt := 28) hx hb dX1_script_24 (by decide) ?_
      exact J28 x2 v9 1 qx6.2 _ _ _ h hG hS (lv_sub hl [3, 0] rfl)
theorem hc_X1_set : cHd yX1_set 2 := by decide +kernel
set_option maxHeartbeats 4000000 in
set_option maxRecDepth 100000 in
theorem wm_X1_set (E : gX) (l : Launch) (hl9 : l.stackTraces = false) (x0 : Nat) (x1 : Int32) (x2 : Int32) (Gz : GH) (r : (GX Int32)) (h : cm_X1_set x0 x1 x2 Gz = some r) : gMetX E l yX1_set cX1_set 4 (some Jvm.ClassFile.FieldType.boolean) 9 [.ref x0, .int x1, .int x2] Gz (gRs (fun r => some (.int r)) r) := by
  refine gMetX.of (own := RX1) (by decide +kernel) (Nat.le_of_ble_eq_true rfl) rfl ?_
  intro p e s m args below meth c S hr hk hx9 hE hC0 hG hS ls hl
  have hl : lv_has ls 4 [(0, .ref x0), (1, .int x1), (2, .int x2)] := hl
  have hx := S.1
  have hb := S.2.1
  unfold cm_X1_set at h
  refine lv_aload_n hx hb dX1_set_0 rfl (lv_at hl 0 rfl) ?_
  refine lv_iload_n hx hb dX1_set_1 rfl (lv_at hl 1 rfl) ?_
  obtain ⟨u2, t2, h⟩ := g_bd h
  rcases gXb_e h with ⟨qx2, e2, h⟩ | ⟨xx2, e2, rfl⟩
  rotate_left
  · exact c_xV (r := .inr xx2) (y := yX1_isUp) (rest := []) dX1_set_2 q2693 q2683 q2684 q119 q2685 hc_X1_isUp rfl S hE hG hS hC0 hl.1 rfl (c_recv hE hG (ci := 8) rfl (by decide) (c_castM t2)) (wm_X1_isUp E l hl9 x0 x1 Gz _ e2) rfl (Nat.le_of_ble_eq_true rfl) ⟨Nat.le_of_ble_eq_true rfl, Nat.le_of_ble_eq_true rfl⟩ (fun hr9 => c_xthrew hC0 hr9 hS (fun H locs ce hG hS h1 h2 h3 => c_xout rfl hx9 hk hC0 hG hS h1 h2 h3))
  refine c_xV (r := .inl (some (.int qx2.1), qx2.2)) (y := yX1_isUp) (rest := []) dX1_set_2 q2693 q2683 q2684 q119 q2685 hc_X1_isUp rfl S hE hG hS hC0 hl.1 rfl (c_recv hE hG (ci := 8) rfl (by decide) (c_castM t2)) (wm_X1_isUp E l hl9 x0 x1 Gz _ e2) rfl (Nat.le_of_ble_eq_true rfl) ⟨Nat.le_of_ble_eq_true rfl, Nat.le_of_ble_eq_true rfl⟩ (fun hr9 => c_xback hC0 hr9 hS (fun H locs hG hS => ?_))
  refine lv_istore_n (lv' := [(3, .int qx2.1), (0, .ref x0), (1, .int x1), (2, .int x2)]) hx hb dX1_set_5 rfl hl (by decide) rfl (fun ls hl => ?_)
  refine lv_aload_n hx hb dX1_set_6 rfl (lv_at hl 1 rfl) ?_
  obtain ⟨v7, e7, h⟩ := g_bd h
  refine cg_X1_49 dX1_set_7 S hE hG e7 ?_
  refine lv_iload_n hx hb dX1_set_10 rfl (lv_at hl 2 rfl) ?_
  refine lv_iload_n hx hb dX1_set_11 rfl (lv_at hl 3 rfl) ?_
  obtain ⟨G12, e12, h⟩ := g_bd h
  refine c_astB dX1_set_12 S hE hG hS hC0 e12 (fun H locs hG hS => ?_)
  refine lv_iload_n hx hb dX1_set_13 rfl (lv_at hl 0 rfl) ?_
  refine lv_iload_n hx hb dX1_set_14 rfl (lv_at hl 3 rfl) ?_
  refine lv_icmp_eq (tgt := 22) hx hb dX1_set_15 (by decide) (fun c15 => ?_) (fun c15 => ?_)
  · have h := g_it c15 h
    refine lv_iconst (v := 0) hx hb dX1_set_22 (by decide) ?_
    obtain ⟨h01, h⟩ := m_zr h
    cases h
    exact c_xret (v := some (.int 0)) (G1 := G12) rfl (c_zretW dX1_set_23 S hr hk hC0 hG hS (if_pos h01))
  · have h := g_if c15 h
    refine lv_iconst (v := 1) hx hb dX1_set_18 (by decide) ?_
    refine lv_goto (tgt := 23) hx hb dX1_set_19 (by decide) ?_
    obtain ⟨h01, h⟩ := m_zr h
    cases h
    exact c_xret (v := some (.int 1)) (G1 := G12) rfl (c_zretW dX1_set_23 S hr hk hC0 hG hS (if_pos h01))
theorem hc_X1_tick : cHd yX1_tick 1 := by decide +kernel
set_option maxHeartbeats 4000000 in
set_option maxRecDepth 100000 in
theorem wm_X1_tick (E : gX) (l : Launch) (hl9 : l.stackTraces = false) (x0 : Nat) (x1 : Int32) (Gz : GH) (r : (GX Int32)) (h : cm_X1_tick x0 x1 Gz = some r) : gMetX E l yX1_tick cX1_tick 4 (some Jvm.ClassFile.FieldType.int) 132 [.ref x0, .int x1] Gz (gRs (fun r => some (.int r)) r) := by
  refine gMetX.of (own := RX1) (by decide +kernel) (Nat.le_of_ble_eq_true rfl) rfl ?_
  intro p e s m args below meth c S hr hk hx9 hE hC0 hG hS ls hl
  have hl : lv_has ls 4 [(0, .ref x0), (1, .int x1)] := hl
  have hx := S.1
  have hb := S.2.1
  have L30 : ∀ (n : Nat) (x0 : Nat) (x1 : Int32) (x2 : Int32) (x3 : Int32) (G : GH) (H : Heap) (locs : List Loc) (ls : Array Slot), cm_X1_tick_L30 n x0 x1 x2 x3 G = some r → gC E G H → va_S (gx_C E) s.heap H locs → lv_has ls 4 [(0, .ref x0), (1, .int x1), (2, .int x2), (3, .int x3)] → WC E p l e (gRm 132 (cBx Gz) (cBs Gz)) s m args below meth c H locs (gXMQ E below (gRs (fun r => some (.int r)) r) args s Gz) (F0 m 30 ls []) := by
    intro n30
    induction n30 with
    | zero =>
      intro x0 x1 x2 x3 G H locs ls h
      cases h
    | succ n30 ih30 =>
      intro x0 x1 x2 x3 G H locs ls h hG hS hl
      have h : cm_X1_tick_B30 (cm_X1_tick_L30 n30) x0 x1 x2 x3 G = some r := h
      unfold cm_X1_tick_B30 at h
      refine lv_iload_n hx hb dX1_tick_30 rfl (lv_at hl 3 rfl) ?_
      refine lv_iload_n hx hb dX1_tick_31 rfl (lv_at hl 1 rfl) ?_
      refine lv_icmp_ge (tgt := 45) hx hb dX1_tick_32 (by decide) (fun c32 => ?_) (fun c32 => ?_)
      · have h := g_it c32 h
        refine lv_aload_n hx hb dX1_tick_45 rfl (lv_at hl 0 rfl) ?_
        obtain ⟨v46, e46, h⟩ := g_bd h
        refine cg_X1_145 dX1_tick_46 S hE hG e46 ?_
        refine lv_iload_n hx hb dX1_tick_49 rfl (lv_at hl 2 rfl) ?_
        refine lv_isub hx hb dX1_tick_50 ?_
        cases h
        exact c_xret (v := some (.int (v46 - x2))) (G1 := G) rfl (c_iretW dX1_tick_51 S hr hk hC0 hG hS rfl)
      · have h := g_if c32 h
        refine lv_aload_n hx hb dX1_tick_35 rfl (lv_at hl 0 rfl) ?_
        obtain ⟨u36, t36, h⟩ := g_bd h
        obtain ⟨G36, e36, h⟩ := g_bd h
        refine c_cV (y := yX1_once) (rest := []) dX1_tick_36 q1980 q1982 qs41 q119 q1983 hc_X1_once rfl S hE hG hS hC0 hl.1 rfl (c_recv hE hG (ci := 8) rfl (by decide) (c_castM t36)) (wm_X1_once E l x0 G _ e36) rfl (Nat.le_of_ble_eq_true rfl) ⟨Nat.le_of_ble_eq_true rfl, Nat.le_of_ble_eq_true rfl⟩ (fun H locs hG hS => ?_)
        refine lv_iinc (k := 3) (v := (x3 + 1)) (lv' := [(3, .int (x3 + 1)), (0, .ref x0), (1, .int x1), (2, .int x2)]) hx hb dX1_tick_39 hl rfl rfl (by decide) rfl (fun ls hl => ?_)
        refine lv_goto (tgt := 30) hx hb dX1_tick_42 (by decide) ?_
        exact ih30 x0 x1 x2 (x3 + 1) G36 _ _ _ h hG hS (lv_sub hl [1, 2, 3, 0] rfl)
  have J20 : ∀ (x0 : Nat) (x1 : Int32) (s0 : Int32) (G : GH) (H : Heap) (locs : List Loc) (ls : Array Slot), cm_X1_tick_J20 x0 x1 s0 G = some r → gC E G H → va_S (gx_C E) s.heap H locs → lv_has ls 4 [(0, .ref x0), (1, .int x1)] → WC E p l e (gRm 132 (cBx Gz) (cBs Gz)) s m args below meth c H locs (gXMQ E below (gRs (fun r => some (.int r)) r) args s Gz) (F0 m 20 ls [.int s0]) := by
    intro x0 x1 s0 G H locs ls h hG hS hl
    unfold cm_X1_tick_J20 at h
    rcases gXb_e h with ⟨qx20, e20, h⟩ | ⟨xx20, e20, rfl⟩
    rotate_left
    · exact c_xS (r := .inr xx20) (y := yX1_need) (rest := []) dX1_tick_20 q1959 q1960 q119 q1961 hc_X1_need S hE hG hS hC0 hl.1 rfl (wm_X1_need E l hl9 s0 G _ e20) rfl (Nat.le_of_ble_eq_true rfl) ⟨Nat.le_of_ble_eq_true rfl, Nat.le_of_ble_eq_true rfl⟩ (fun hr9 => c_xthrew hC0 hr9 hS (fun H locs ce hG hS h1 h2 h3 => c_xout rfl hx9 hk hC0 hG hS h1 h2 h3))
    refine c_xS (r := .inl (none, qx20.2)) (y := yX1_need) (rest := []) dX1_tick_20 q1959 q1960 q119 q1961 hc_X1_need S hE hG hS hC0 hl.1 rfl (wm_X1_need E l hl9 s0 G _ e20) rfl (Nat.le_of_ble_eq_true rfl) ⟨Nat.le_of_ble_eq_true rfl, Nat.le_of_ble_eq_true rfl⟩ (fun hr9 => c_xback hC0 hr9 hS (fun H locs hG hS => ?_))
    refine lv_aload_n hx hb dX1_tick_23 rfl (lv_at hl 0 rfl) ?_
    obtain ⟨v24, e24, h⟩ := g_bd h
    refine cg_X1_145 dX1_tick_24 S hE hG e24 ?_
    refine lv_istore_n (lv' := [(2, .int v24), (0, .ref x0), (1, .int x1)]) hx hb dX1_tick_27 rfl hl (by decide) rfl (fun ls hl => ?_)
    refine lv_iconst (v := 0) hx hb dX1_tick_28 (by decide) ?_
    refine lv_istore_n (lv' := [(3, .int 0), (2, .int v24), (0, .ref x0), (1, .int x1)]) hx hb dX1_tick_29 rfl hl (by decide) rfl (fun ls hl => ?_)
    exact L30 gF x0 x1 v24 0 qx20.2 _ _ _ h hG hS (lv_sub hl [2, 3, 1, 0] rfl)
  have J19 : ∀ (x0 : Nat) (x1 : Int32) (G : GH) (H : Heap) (locs : List Loc) (ls : Array Slot), cm_X1_tick_J19 x0 x1 G = some r → gC E G H → va_S (gx_C E) s.heap H locs → lv_has ls 4 [(0, .ref x0), (1, .int x1)] → WC E p l e (gRm 132 (cBx Gz) (cBs Gz)) s m args below meth c H locs (gXMQ E below (gRs (fun r => some (.int r)) r) args s Gz) (F0 m 19 ls []) := by
    intro x0 x1 G H locs ls h hG hS hl
    unfold cm_X1_tick_J19 at h
    refine lv_iconst (v := 0) hx hb dX1_tick_19 (by decide) ?_
    exact J20 x0 x1 0 G _ _ _ h hG hS (lv_sub hl [0, 1] rfl)
  unfold cm_X1_tick at h
  refine lv_aload_n hx hb dX1_tick_0 rfl (lv_at hl 0 rfl) ?_
  obtain ⟨u1, t1, h⟩ := g_bd h
  rcases gXb_e h with ⟨qx1, e1, h⟩ | ⟨xx1, e1, rfl⟩
  rotate_left
  · exact c_xV (r := .inr xx1) (y := yX1_isFair) (rest := []) dX1_tick_1 q1929 q1931 qs39 q119 q1932 hc_X1_isFair rfl S hE hG hS hC0 hl.1 rfl (c_recv hE hG (ci := 8) rfl (by decide) (c_castM t1)) (wm_X1_isFair E l hl9 x0 Gz _ e1) rfl (Nat.le_of_ble_eq_true rfl) ⟨Nat.le_of_ble_eq_true rfl, Nat.le_of_ble_eq_true rfl⟩ (fun hr9 => c_xthrew hC0 hr9 hS (fun H locs ce hG hS h1 h2 h3 => c_xout rfl hx9 hk hC0 hG hS h1 h2 h3))
  refine c_xV (r := .inl (none, qx1.2)) (y := yX1_isFair) (rest := []) dX1_tick_1 q1929 q1931 qs39 q119 q1932 hc_X1_isFair rfl S hE hG hS hC0 hl.1 rfl (c_recv hE hG (ci := 8) rfl (by decide) (c_castM t1)) (wm_X1_isFair E l hl9 x0 Gz _ e1) rfl (Nat.le_of_ble_eq_true rfl) ⟨Nat.le_of_ble_eq_true rfl, Nat.le_of_ble_eq_true rfl⟩ (fun hr9 => c_xback hC0 hr9 hS (fun H locs hG hS => ?_))
  refine lv_iload_n hx hb dX1_tick_4 rfl (lv_at hl 1 rfl) ?_
  refine lv_iconst (v := 1) hx hb dX1_tick_5 (by decide) ?_
  refine lv_icmp_lt (tgt := 19) hx hb dX1_tick_6 (by decide) (fun c6 => ?_) (fun c6 => ?_)
  · have h := g_it c6 h
    exact J19 x0 x1 qx1.2 _ _ _ h hG hS (lv_sub hl [0, 1] rfl)
  · have h := g_if c6 h
    refine lv_iload_n hx hb dX1_tick_9 rfl (lv_at hl 1 rfl) ?_
    refine lv_bipush (v := 100) hx hb dX1_tick_10 (by decide) ?_
    refine lv_icmp_gt (tgt := 19) hx hb dX1_tick_12 (by decide) (fun c12 => ?_) (fun c12 => ?_)
    · have h := g_it c12 h
      exact J19 x0 x1 qx1.2 _ _ _ h hG hS (lv_sub hl [0, 1] rfl)
    · have h := g_if c12 h
      refine lv_iconst (v := 1) hx hb dX1_tick_15 (by decide) ?_
      refine lv_goto (tgt := 20) hx hb dX1_tick_16 (by decide) ?_
      exact J20 x0 x1 1 qx1.2 _ _ _ h hG hS (lv_sub hl [0, 1] rfl)
theorem hc_X1_total : cHd yX1_total 1 := by decide +kernel
set_option maxHeartbeats 4000000 in
set_option maxRecDepth 100000 in
theorem wm_X1_total (E : gX) (l : Launch) (hl9 : l.stackTraces = false) (x0 : Nat) (x1 : Int32) (Gz : GH) (r : (GX Int32)) (h : cm_X1_total x0 x1 Gz = some r) : gMetX E l yX1_total cX1_total 9 (some Jvm.ClassFile.FieldType.int) 8 [.ref x0, .int x1] Gz (gRs (fun r => some (.int r)) r) := by
  refine gMetX.of (own := RX1) (by decide +kernel) (Nat.le_of_ble_eq_true rfl) rfl ?_
  intro p e s m args below meth c S hr hk hx9 hE hC0 hG hS ls hl
  have hl : lv_has ls 9 [(0, .ref x0), (1, .int x1)] := hl
  have hx := S.1
  have hb := S.2.1
  have L32 : ∀ (n : Nat) (x0 : Nat) (x1 : Int32) (x2 : Int32) (x3 : Int32) (x4 : Int32) (x5 : Int32) (G : GH) (H : Heap) (locs : List Loc) (ls : Array Slot), cm_X1_total_L32 n x0 x1 x2 x3 x4 x5 G = some r → gC E G H → va_S (gx_C E) s.heap H locs → lv_has ls 9 [(0, .ref x0), (1, .int x1), (2, .int x2), (3, .int x3), (4, .int x4), (5, .int x5)] → WC E p l e (gRm 8 (cBx Gz) (cBs Gz)) s m args below meth c H locs (gXMQ E below (gRs (fun r => some (.int r)) r) args s Gz) (F0 m 32 ls []) := by
    intro n32
    induction n32 with
    | zero =>
      intro x0 x1 x2 x3 x4 x5 G H locs ls h
      cases h
    | succ n32 ih32 =>
      have J96 : ∀ (x0 : Nat) (x1 : Int32) (x2 : Int32) (x3 : Int32) (x4 : Int32) (x5 : Int32) (x7 : Nat) (G : GH) (H : Heap) (locs : List Loc) (ls : Array Slot), cm_X1_total_J96 (cm_X1_total_L32 n32) x0 x1 x2 x3 x4 x5 x7 G = some r → gC E G H → va_S (gx_C E) s.heap H locs → lv_has ls 9 [(0, .ref x0), (1, .int x1), (2, .int x2), (3, .int x3), (4, .int x4), (5, .int x5), (7, .ref x7)] → WC E p l e (gRm 8 (cBx Gz) (cBs Gz)) s m args below meth c H locs (gXMQ E below (gRs (fun r => some (.int r)) r) args s Gz) (F0 m 96 ls []) := by
        intro x0 x1 x2 x3 x4 x5 x7 G H locs ls h hG hS hl
        unfold cm_X1_total_J96 at h
        refine lv_iload_n hx hb dX1_total_96 rfl (lv_at hl 3 rfl) ?_
        refine lv_aload hx hb dX1_total_97 (lv_at hl 6 rfl) ?_
        obtain ⟨v99, e99, h⟩ := g_bd h
        refine wd_Machine_draw (rest := [.int x3]) q2349 dX1_total_99 S hE hG hS hC0 hl.1 e99 rfl (Nat.le_of_ble_eq_true rfl) (by decide) (fun H locs hG hS => ?_)
        refine lv_iadd hx hb dX1_total_104 ?_
        refine lv_istore_n (lv' := [(3, .int (x3 + v99)), (0, .ref x0), (1, .int x1), (2, .int x2), (4, .int x4), (5, .int x5), (7, .ref x7)]) hx hb dX1_total_105 rfl hl (by decide) rfl (fun ls hl => ?_)
        refine lv_iload hx hb dX1_total_106 (lv_at hl 4 rfl) ?_
        refine lv_aload hx hb dX1_total_108 (lv_at hl 6 rfl) ?_
        obtain ⟨v110, e110, h⟩ := g_bd h
        refine wd_Machine_noise (rest := [.int x4]) q2580 dX1_total_110 S hE hG hS hC0 hl.1 e110 rfl (Nat.le_of_ble_eq_true rfl) (by decide) (fun H locs hG hS => ?_)
        refine c_math_max q2168 dX1_total_115 S hl.1 hC0 hG hS (by decide) (Nat.le_of_ble_eq_true rfl) ?_
        refine lv_istore (lv' := [(4, .int (if x4 < v110 then v110 else x4)), (3, .int (x3 + v99)), (0, .ref x0), (1, .int x1), (2, .int x2), (5, .int x5), (7, .ref x7)]) hx hb dX1_total_118 hl (by decide) rfl (fun ls hl => ?_)
        refine lv_iinc (k := 5) (v := (x5 + 1)) (lv' := [(5, .int (x5 + 1)), (4, .int (if x4 < v110 then v110 else x4)), (3, .int (x3 + v99)), (0, .ref x0), (1, .int x1), (2, .int x2), (7, .ref x7)]) hx hb dX1_total_120 hl rfl rfl (by decide) rfl (fun ls hl => ?_)
        refine lv_goto (tgt := 32) hx hb dX1_total_123 (by decide) ?_
        exact ih32 x0 x1 x2 (x3 + v99) (if x4 < v110 then v110 else x4) (x5 + 1) G _ _ _ h hG hS (lv_sub hl [3, 4, 5, 2, 1, 0] rfl)
      intro x0 x1 x2 x3 x4 x5 G H locs ls h hG hS hl
      have h : cm_X1_total_B32 (cm_X1_total_L32 n32) x0 x1 x2 x3 x4 x5 G = some r := h
      unfold cm_X1_total_B32 at h
      refine lv_iload hx hb dX1_total_32 (lv_at hl 5 rfl) ?_
      refine lv_aload_n hx hb dX1_total_34 rfl (lv_at hl 0 rfl) ?_
      obtain ⟨v35, e35, h⟩ := g_bd h
      refine cg_X1_75 dX1_total_35 S hE hG e35 ?_
      obtain ⟨b38, eb38, h⟩ := g_bd h
      have rb38 : va_rf v35 = .ref b38 := by rw [eb38]; rfl
      (try rw [rb38] at hl)
      (try rw [rb38])
      obtain ⟨v38, e38, h⟩ := g_bd h
      refine cg_X1_104 dX1_total_38 S hE hG e38 ?_
      obtain ⟨u41, t41, h⟩ := g_bd h
      obtain ⟨v41, e41, h⟩ := g_bd h
      refine c_cV (y := yJ6_size) (rest := [.int x5]) dX1_total_41 q1722 q882 q883 q128 q884 hc_J6_size rfl S hE hG hS hC0 hl.1 rfl (c_recv hE hG (ci := 2) rfl (by decide) (c_castM t41)) (wm_J6_size E l v38 G _ e41) rfl (Nat.le_of_ble_eq_true rfl) ⟨Nat.le_of_ble_eq_true rfl, Nat.le_of_ble_eq_true rfl⟩ (fun H locs hG hS => ?_)
      refine lv_icmp_ge (tgt := 126) hx hb dX1_total_44 (by decide) (fun c44 => ?_) (fun c44 => ?_)
      · have h := g_it c44 h
        refine lv_iload_n hx hb dX1_total_126 rfl (lv_at hl 1 rfl) ?_
        by_cases c127_0 : x1 = 0
        · have h := g_it c127_0 h
          refine lv_tableIn (off := 41) (tgt := 168) hx hb dX1_total_127 (by rw [c127_0]; decide) (by rw [c127_0]; decide) (by rw [c127_0]; rfl) (by decide) ?_
          refine lv_aload_n hx hb dX1_total_168 rfl (lv_at hl 0 rfl) ?_
          obtain ⟨v169, e169, h⟩ := g_bd h
          refine cg_X1_133 dX1_total_169 S hE hG e169 ?_
          cases h
          exact c_xret (v := some (.int v169)) (G1 := G) rfl (c_iretW dX1_total_172 S hr hk hC0 hG hS rfl)
        have h := g_if c127_0 h
        by_cases c127_1 : x1 = 1
        · have h := g_it c127_1 h
          refine lv_tableIn (off := 46) (tgt := 173) hx hb dX1_total_127 (by rw [c127_1]; decide) (by rw [c127_1]; decide) (by rw [c127_1]; rfl) (by decide) ?_
          refine lv_aload_n hx hb dX1_total_173 rfl (lv_at hl 0 rfl) ?_
          obtain ⟨v174, e174, h⟩ := g_bd h
          refine cg_X1_139 dX1_total_174 S hE hG e174 ?_
          cases h
          exact c_xret (v := some (.int v174)) (G1 := G) rfl (c_iretW dX1_total_177 S hr hk hC0 hG hS rfl)
        have h := g_if c127_1 h
        by_cases c127_2 : x1 = 2
        · have h := g_it c127_2 h
          refine lv_tableIn (off := 51) (tgt := 178) hx hb dX1_total_127 (by rw [c127_2]; decide) (by rw [c127_2]; decide) (by rw [c127_2]; rfl) (by decide) ?_
          refine lv_aload_n hx hb dX1_total_178 rfl (lv_at hl 0 rfl) ?_
          obtain ⟨v179, e179, h⟩ := g_bd h
          refine cg_X1_142 dX1_total_179 S hE hG e179 ?_
          cases h
          exact c_xret (v := some (.int v179)) (G1 := G) rfl (c_iretW dX1_total_182 S hr hk hC0 hG hS rfl)
        have h := g_if c127_2 h
        by_cases c127_3 : x1 = 3
        · have h := g_it c127_3 h
          refine lv_tableIn (off := 56) (tgt := 183) hx hb dX1_total_127 (by rw [c127_3]; decide) (by rw [c127_3]; decide) (by rw [c127_3]; rfl) (by decide) ?_
          refine lv_iload_n hx hb dX1_total_183 rfl (lv_at hl 2 rfl) ?_
          cases h
          exact c_xret (v := some (.int x2)) (G1 := G) rfl (c_iretW dX1_total_184 S hr hk hC0 hG hS rfl)
        have h := g_if c127_3 h
        by_cases c127_4 : x1 = 4
        · have h := g_it c127_4 h
          refine lv_tableIn (off := 58) (tgt := 185) hx hb dX1_total_127 (by rw [c127_4]; decide) (by rw [c127_4]; decide) (by rw [c127_4]; rfl) (by decide) ?_
          refine lv_aload_n hx hb dX1_total_185 rfl (lv_at hl 0 rfl) ?_
          obtain ⟨v186, e186, h⟩ := g_bd h
          refine cg_X1_145 dX1_total_186 S hE hG e186 ?_
          cases h
          exact c_xret (v := some (.int v186)) (G1 := G) rfl (c_iretW dX1_total_189 S hr hk hC0 hG hS rfl)
        have h := g_if c127_4 h
        by_cases c127_5 : x1 = 5
        · have h := g_it c127_5 h
          refine lv_tableIn (off := 63) (tgt := 190) hx hb dX1_total_127 (by rw [c127_5]; decide) (by rw [c127_5]; decide) (by rw [c127_5]; rfl) (by decide) ?_
          refine lv_iload_n hx hb dX1_total_190 rfl (lv_at hl 3 rfl) ?_
          cases h
          exact c_xret (v := some (.int x3)) (G1 := G) rfl (c_iretW dX1_total_191 S hr hk hC0 hG hS rfl)
        have h := g_if c127_5 h
        by_cases c127_6 : x1 = 6
        · have h := g_it c127_6 h
          refine lv_tableIn (off := 65) (tgt := 192) hx hb dX1_total_127 (by rw [c127_6]; decide) (by rw [c127_6]; decide) (by rw [c127_6]; rfl) (by decide) ?_
          refine lv_iload hx hb dX1_total_192 (lv_at hl 4 rfl) ?_
          cases h
          exact c_xret (v := some (.int x4)) (G1 := G) rfl (c_iretW dX1_total_194 S hr hk hC0 hG hS rfl)
        have h := g_if c127_6 h
        refine lv_tableOut (tgt := 195) hx hb dX1_total_127 (g_swOut 0 6 (by intro k hk; match k, hk with | 0, _ => exact c127_0 | 1, _ => exact c127_1 | 2, _ => exact c127_2 | 3, _ => exact c127_3 | 4, _ => exact c127_4 | 5, _ => exact c127_5 | 6, _ => exact c127_6 | k + 7, hk => exact absurd hk (by omega)) (by decide) (by decide)) (by decide) ?_
        refine lv_aload_n hx hb dX1_total_195 rfl (lv_at hl 0 rfl) ?_
        obtain ⟨v196, e196, h⟩ := g_bd h
        refine cg_X1_136 dX1_total_196 S hE hG e196 ?_
        cases h
        exact c_xret (v := some (.int v196)) (G1 := G) rfl (c_iretW dX1_total_199 S hr hk hC0 hG hS rfl)
      · have h := g_if c44 h
        refine lv_aload_n hx hb dX1_total_47 rfl (lv_at hl 0 rfl) ?_
        obtain ⟨v48, e48, h⟩ := g_bd h
        refine cg_X1_75 dX1_total_48 S hE hG e48 ?_
        obtain ⟨b51, eb51, h⟩ := g_bd h
        have rb51 : va_rf v48 = .ref b51 := by rw [eb51]; rfl
        (try rw [rb51] at hl)
        (try rw [rb51])
        obtain ⟨v51, e51, h⟩ := g_bd h
        refine cg_X1_104 dX1_total_51 S hE hG e51 ?_
        refine lv_iload hx hb dX1_total_54 (lv_at hl 5 rfl) ?_
        obtain ⟨u56, t56, h⟩ := g_bd h
        obtain ⟨v56, e56, h⟩ := g_bd h
        refine c_cV (y := yJ6_get) (rest := []) dX1_total_56 q1723 q886 q887 q128 q888 hc_J6_get rfl S hE hG hS hC0 hl.1 rfl (c_recv hE hG (ci := 2) rfl (by decide) (c_castM t56)) (wm_J6_get E l v51 x5 G _ e56) rfl (Nat.le_of_ble_eq_true rfl) ⟨Nat.le_of_ble_eq_true rfl, Nat.le_of_ble_eq_true rfl⟩ (fun H locs hG hS => ?_)
        obtain ⟨b59, eb59, h⟩ := g_bd h
        have rb59 : va_rf v56 = .ref b59 := by rw [eb59]; rfl
        (try rw [rb59] at hl)
        (try rw [rb59])
        obtain ⟨u59, e59, h⟩ := g_bd h
        refine ck_X1_131 dX1_total_59 S hE hG e59 ?_
        refine lv_astore (lv' := [(6, .ref b59), (0, .ref x0), (1, .int x1), (2, .int x2), (3, .int x3), (4, .int x4), (5, .int x5)]) hx hb dX1_total_62 hl (by decide) rfl (fun ls hl => ?_)
        refine lv_aload hx hb dX1_total_64 (lv_at hl 0 rfl) ?_
        refine lv_astore (lv' := [(7, .ref b59), (6, .ref b59), (0, .ref x0), (1, .int x1), (2, .int x2), (3, .int x3), (4, .int x4), (5, .int x5)]) hx hb dX1_total_66 hl (by decide) rfl (fun ls hl => ?_)
        refine lv_aload hx hb dX1_total_68 (lv_at hl 1 rfl) ?_
        obtain ⟨v70, e70, h⟩ := g_bd h
        refine ci_X1_195 dX1_total_70 S hE hG e70 ?_
        refine lv_if_eq (tgt := 96) hx hb dX1_total_73 (by decide) (fun c73 => ?_) (fun c73 => ?_)
        · have h := g_it c73 h
          exact J96 x0 x1 x2 x3 x4 x5 b59 G _ _ _ h hG hS (lv_sub hl [2, 3, 4, 5, 6, 7, 0] rfl)
        · have h := g_if c73 h
          refine lv_aload hx hb dX1_total_76 (lv_at hl 1 rfl) ?_
          obtain ⟨u78, e78, h⟩ := g_bd h
          refine ck_X1_195 dX1_total_78 S hE hG e78 ?_
          refine lv_astore (lv' := [(8, .ref b59), (7, .ref b59), (6, .ref b59), (0, .ref x0), (1, .int x1), (2, .int x2), (3, .int x3), (4, .int x4), (5, .int x5)]) hx hb dX1_total_81 hl (by decide) rfl (fun ls hl => ?_)
          refine lv_iload_n hx hb dX1_total_83 rfl (lv_at hl 5 rfl) ?_
          refine lv_aload hx hb dX1_total_84 (lv_at hl 0 rfl) ?_
          obtain ⟨v86, e86, h⟩ := g_bd h
          refine wd_Seats_bench (rest := [.int x2]) q1827 dX1_total_86 S hE hG hS hC0 hl.1 e86 rfl (Nat.le_of_ble_eq_true rfl) (by decide) (fun H locs hG hS => ?_)
          obtain ⟨v91, e91, h⟩ := g_bd h
          refine cg_X1_443 dX1_total_91 S hE hG e91 ?_
          refine lv_iadd hx hb dX1_total_94 ?_
          refine lv_istore_n (lv' := [(2, .int (x2 + v91)), (8, .ref b59), (7, .ref b59), (6, .ref b59), (0, .ref x0), (1, .int x1), (3, .int x3), (4, .int x4), (5, .int x5)]) hx hb dX1_total_95 rfl hl (by decide) rfl (fun ls hl => ?_)
          exact J96 x0 x1 (x2 + v91) x3 x4 x5 b59 G _ _ _ h hG hS (lv_sub hl [4, 5, 0, 6, 7, 8, 2] rfl)
  have J19 : ∀ (x0 : Nat) (x1 : Int32) (s0 : Int32) (G : GH) (H : Heap) (locs : List Loc) (ls : Array Slot), cm_X1_total_J19 x0 x1 s0 G = some r → gC E G H → va_S (gx_C E) s.heap H locs → lv_has ls 9 [(0, .ref x0), (1, .int x1)] → WC E p l e (gRm 8 (cBx Gz) (cBs Gz)) s m args below meth c H locs (gXMQ E below (gRs (fun r => some (.int r)) r) args s Gz) (F0 m 19 ls [.int s0]) := by
    intro x0 x1 s0 G H locs ls h hG hS hl
    unfold cm_X1_total_J19 at h
    rcases gXb_e h with ⟨qx19, e19, h⟩ | ⟨xx19, e19, rfl⟩
    rotate_left
    · exact c_xS (r := .inr xx19) (y := yX1_there) (rest := []) dX1_total_19 q1896 q1897 q119 q1898 hc_X1_there S hE hG hS hC0 hl.1 rfl (wm_X1_there E l hl9 s0 G _ e19) rfl (Nat.le_of_ble_eq_true rfl) ⟨Nat.le_of_ble_eq_true rfl, Nat.le_of_ble_eq_true rfl⟩ (fun hr9 => c_xthrew hC0 hr9 hS (fun H locs ce hG hS h1 h2 h3 => c_xout rfl hx9 hk hC0 hG hS h1 h2 h3))
    refine c_xS (r := .inl (none, qx19.2)) (y := yX1_there) (rest := []) dX1_total_19 q1896 q1897 q119 q1898 hc_X1_there S hE hG hS hC0 hl.1 rfl (wm_X1_there E l hl9 s0 G _ e19) rfl (Nat.le_of_ble_eq_true rfl) ⟨Nat.le_of_ble_eq_true rfl, Nat.le_of_ble_eq_true rfl⟩ (fun hr9 => c_xback hC0 hr9 hS (fun H locs hG hS => ?_))
    refine lv_iconst (v := 0) hx hb dX1_total_22 (by decide) ?_
    refine lv_istore_n (lv' := [(2, .int 0), (0, .ref x0), (1, .int x1)]) hx hb dX1_total_23 rfl hl (by decide) rfl (fun ls hl => ?_)
    refine lv_iconst (v := 0) hx hb dX1_total_24 (by decide) ?_
    refine lv_istore_n (lv' := [(3, .int 0), (2, .int 0), (0, .ref x0), (1, .int x1)]) hx hb dX1_total_25 rfl hl (by decide) rfl (fun ls hl => ?_)
    refine lv_iconst (v := 0) hx hb dX1_total_26 (by decide) ?_
    refine lv_istore (lv' := [(4, .int 0), (3, .int 0), (2, .int 0), (0, .ref x0), (1, .int x1)]) hx hb dX1_total_27 hl (by decide) rfl (fun ls hl => ?_)
    refine lv_iconst (v := 0) hx hb dX1_total_29 (by decide) ?_
    refine lv_istore (lv' := [(5, .int 0), (4, .int 0), (3, .int 0), (2, .int 0), (0, .ref x0), (1, .int x1)]) hx hb dX1_total_30 hl (by decide) rfl (fun ls hl => ?_)
    exact L32 gF x0 x1 0 0 0 0 qx19.2 _ _ _ h hG hS (lv_sub hl [4, 5, 3, 2, 1, 0] rfl)
  have J18 : ∀ (x0 : Nat) (x1 : Int32) (G : GH) (H : Heap) (locs : List Loc) (ls : Array Slot), cm_X1_total_J18 x0 x1 G = some r → gC E G H → va_S (gx_C E) s.heap H locs → lv_has ls 9 [(0, .ref x0), (1, .int x1)] → WC E p l e (gRm 8 (cBx Gz) (cBs Gz)) s m args below meth c H locs (gXMQ E below (gRs (fun r => some (.int r)) r) args s Gz) (F0 m 18 ls []) := by
    intro x0 x1 G H locs ls h hG hS hl
    unfold cm_X1_total_J18 at h
    refine lv_iconst (v := 0) hx hb dX1_total_18 (by decide) ?_
    exact J19 x0 x1 0 G _ _ _ h hG hS (lv_sub hl [0, 1] rfl)
  unfold cm_X1_total at h
  refine lv_aload_n hx hb dX1_total_0 rfl (lv_at hl 0 rfl) ?_
  obtain ⟨u1, t1, h⟩ := g_bd h
  rcases gXb_e h with ⟨qx1, e1, h⟩ | ⟨xx1, e1, rfl⟩
  rotate_left
  · exact c_xV (r := .inr xx1) (y := yX1_isFair) (rest := []) dX1_total_1 q1929 q1931 qs39 q119 q1932 hc_X1_isFair rfl S hE hG hS hC0 hl.1 rfl (c_recv hE hG (ci := 8) rfl (by decide) (c_castM t1)) (wm_X1_isFair E l hl9 x0 Gz _ e1) rfl (Nat.le_of_ble_eq_true rfl) ⟨Nat.le_of_ble_eq_true rfl, Nat.le_of_ble_eq_true rfl⟩ (fun hr9 => c_xthrew hC0 hr9 hS (fun H locs ce hG hS h1 h2 h3 => c_xout rfl hx9 hk hC0 hG hS h1 h2 h3))
  refine c_xV (r := .inl (none, qx1.2)) (y := yX1_isFair) (rest := []) dX1_total_1 q1929 q1931 qs39 q119 q1932 hc_X1_isFair rfl S hE hG hS hC0 hl.1 rfl (c_recv hE hG (ci := 8) rfl (by decide) (c_castM t1)) (wm_X1_isFair E l hl9 x0 Gz _ e1) rfl (Nat.le_of_ble_eq_true rfl) ⟨Nat.le_of_ble_eq_true rfl, Nat.le_of_ble_eq_true rfl⟩ (fun hr9 => c_xback hC0 hr9 hS (fun H locs hG hS => ?_))
  refine lv_iload_n hx hb dX1_total_4 rfl (lv_at hl 1 rfl) ?_
  refine lv_if_lt (tgt := 18) hx hb dX1_total_5 (by decide) (fun c5 => ?_) (fun c5 => ?_)
  · have h := g_it c5 h
    exact J18 x0 x1 qx1.2 _ _ _ h hG hS (lv_sub hl [0, 1] rfl)
  · have h := g_if c5 h
    refine lv_iload_n hx hb dX1_total_8 rfl (lv_at hl 1 rfl) ?_
    refine lv_bipush (v := 7) hx hb dX1_total_9 (by decide) ?_
    refine lv_icmp_gt (tgt := 18) hx hb dX1_total_11 (by decide) (fun c11 => ?_) (fun c11 => ?_)
    · have h := g_it c11 h
      exact J18 x0 x1 qx1.2 _ _ _ h hG hS (lv_sub hl [0, 1] rfl)
    · have h := g_if c11 h
      refine lv_iconst (v := 1) hx hb dX1_total_14 (by decide) ?_
      refine lv_goto (tgt := 19) hx hb dX1_total_15 (by decide) ?_
      exact J19 x0 x1 1 qx1.2 _ _ _ h hG hS (lv_sub hl [0, 1] rfl)
theorem hc_X1_wind : cHd yX1_wind 1 := by decide +kernel
set_option maxHeartbeats 4000000 in
set_option maxRecDepth 100000 in
theorem wm_X1_wind (E : gX) (l : Launch) (hl9 : l.stackTraces = false) (x0 : Nat) (x1 : Int32) (Gz : GH) (r : (GX Int32)) (h : cm_X1_wind x0 x1 Gz = some r) : gMetX E l yX1_wind cX1_wind 3 (some Jvm.ClassFile.FieldType.int) 8 [.ref x0, .int x1] Gz (gRs (fun r => some (.int r)) r) := by
  refine gMetX.of (own := RX1) (by decide +kernel) (Nat.le_of_ble_eq_true rfl) rfl ?_
  intro p e s m args below meth c S hr hk hx9 hE hC0 hG hS ls hl
  have hl : lv_has ls 3 [(0, .ref x0), (1, .int x1)] := hl
  have hx := S.1
  have hb := S.2.1
  have J20 : ∀ (x0 : Nat) (x1 : Int32) (s0 : Int32) (G : GH) (H : Heap) (locs : List Loc) (ls : Array Slot), cm_X1_wind_J20 x0 x1 s0 G = some r → gC E G H → va_S (gx_C E) s.heap H locs → lv_has ls 3 [(0, .ref x0), (1, .int x1)] → WC E p l e (gRm 8 (cBx Gz) (cBs Gz)) s m args below meth c H locs (gXMQ E below (gRs (fun r => some (.int r)) r) args s Gz) (F0 m 20 ls [.int s0]) := by
    intro x0 x1 s0 G H locs ls h hG hS hl
    unfold cm_X1_wind_J20 at h
    rcases gXb_e h with ⟨qx20, e20, h⟩ | ⟨xx20, e20, rfl⟩
    rotate_left
    · exact c_xS (r := .inr xx20) (y := yX1_need) (rest := []) dX1_wind_20 q1959 q1960 q119 q1961 hc_X1_need S hE hG hS hC0 hl.1 rfl (wm_X1_need E l hl9 s0 G _ e20) rfl (Nat.le_of_ble_eq_true rfl) ⟨Nat.le_of_ble_eq_true rfl, Nat.le_of_ble_eq_true rfl⟩ (fun hr9 => c_xthrew hC0 hr9 hS (fun H locs ce hG hS h1 h2 h3 => c_xout rfl hx9 hk hC0 hG hS h1 h2 h3))
    refine c_xS (r := .inl (none, qx20.2)) (y := yX1_need) (rest := []) dX1_wind_20 q1959 q1960 q119 q1961 hc_X1_need S hE hG hS hC0 hl.1 rfl (wm_X1_need E l hl9 s0 G _ e20) rfl (Nat.le_of_ble_eq_true rfl) ⟨Nat.le_of_ble_eq_true rfl, Nat.le_of_ble_eq_true rfl⟩ (fun hr9 => c_xback hC0 hr9 hS (fun H locs hG hS => ?_))
    refine lv_aload_n hx hb dX1_wind_23 rfl (lv_at hl 0 rfl) ?_
    obtain ⟨v24, e24, h⟩ := g_bd h
    refine cg_X1_136 dX1_wind_24 S hE hG e24 ?_
    refine lv_istore_n (lv' := [(2, .int v24), (0, .ref x0), (1, .int x1)]) hx hb dX1_wind_27 rfl hl (by decide) rfl (fun ls hl => ?_)
    refine lv_aload_n hx hb dX1_wind_28 rfl (lv_at hl 1 rfl) ?_
    refine lv_iload_n hx hb dX1_wind_29 rfl (lv_at hl 2 rfl) ?_
    obtain ⟨G30, e30, h⟩ := g_bd h
    refine cp_X1_136 dX1_wind_30 S hE hG hS hC0 e30 (fun H locs hG hS => ?_)
    refine lv_iload_n hx hb dX1_wind_33 rfl (lv_at hl 0 rfl) ?_
    cases h
    exact c_xret (v := some (.int v24)) (G1 := G30) rfl (c_iretW dX1_wind_34 S hr hk hC0 hG hS rfl)
  have J19 : ∀ (x0 : Nat) (x1 : Int32) (G : GH) (H : Heap) (locs : List Loc) (ls : Array Slot), cm_X1_wind_J19 x0 x1 G = some r → gC E G H → va_S (gx_C E) s.heap H locs → lv_has ls 3 [(0, .ref x0), (1, .int x1)] → WC E p l e (gRm 8 (cBx Gz) (cBs Gz)) s m args below meth c H locs (gXMQ E below (gRs (fun r => some (.int r)) r) args s Gz) (F0 m 19 ls []) := by
    intro x0 x1 G H locs ls h hG hS hl
    unfold cm_X1_wind_J19 at h
    refine lv_iconst (v := 0) hx hb dX1_wind_19 (by decide) ?_
    exact J20 x0 x1 0 G _ _ _ h hG hS (lv_sub hl [0, 1] rfl)
  unfold cm_X1_wind at h
  refine lv_aload_n hx hb dX1_wind_0 rfl (lv_at hl 0 rfl) ?_
  obtain ⟨u1, t1, h⟩ := g_bd h
  rcases gXb_e h with ⟨qx1, e1, h⟩ | ⟨xx1, e1, rfl⟩
  rotate_left
  · exact c_xV (r := .inr xx1) (y := yX1_isFair) (rest := []) dX1_wind_1 q1929 q1931 qs39 q119 q1932 hc_X1_isFair rfl S hE hG hS hC0 hl.1 rfl (c_recv hE hG (ci := 8) rfl (by decide) (c_castM t1)) (wm_X1_isFair E l hl9 x0 Gz _ e1) rfl (Nat.le_of_ble_eq_true rfl) ⟨Nat.le_of_ble_eq_true rfl, Nat.le_of_ble_eq_true rfl⟩ (fun hr9 => c_xthrew hC0 hr9 hS (fun H locs ce hG hS h1 h2 h3 => c_xout rfl hx9 hk hC0 hG hS h1 h2 h3))
  refine c_xV (r := .inl (none, qx1.2)) (y := yX1_isFair) (rest := []) dX1_wind_1 q1929 q1931 qs39 q119 q1932 hc_X1_isFair rfl S hE hG hS hC0 hl.1 rfl (c_recv hE hG (ci := 8) rfl (by decide) (c_castM t1)) (wm_X1_isFair E l hl9 x0 Gz _ e1) rfl (Nat.le_of_ble_eq_true rfl) ⟨Nat.le_of_ble_eq_true rfl, Nat.le_of_ble_eq_true rfl⟩ (fun hr9 => c_xback hC0 hr9 hS (fun H locs hG hS => ?_))
  refine lv_iload_n hx hb dX1_wind_4 rfl (lv_at hl 1 rfl) ?_
  refine lv_if_lt (tgt := 19) hx hb dX1_wind_5 (by decide) (fun c5 => ?_) (fun c5 => ?_)
  · have h := g_it c5 h
    exact J19 x0 x1 qx1.2 _ _ _ h hG hS (lv_sub hl [0, 1] rfl)
  · have h := g_if c5 h
    refine lv_iload_n hx hb dX1_wind_8 rfl (lv_at hl 1 rfl) ?_
    refine lv_sipush (v := 199) hx hb dX1_wind_9 (by decide) ?_
    refine lv_icmp_gt (tgt := 19) hx hb dX1_wind_12 (by decide) (fun c12 => ?_) (fun c12 => ?_)
    · have h := g_it c12 h
      exact J19 x0 x1 qx1.2 _ _ _ h hG hS (lv_sub hl [0, 1] rfl)
    · have h := g_if c12 h
      refine lv_iconst (v := 1) hx hb dX1_wind_15 (by decide) ?_
      refine lv_goto (tgt := 20) hx hb dX1_wind_16 (by decide) ?_
      exact J20 x0 x1 1 qx1.2 _ _ _ h hG hS (lv_sub hl [0, 1] rfl)
theorem hc_X22_init : cHd yX22_init 2 := by decide +kernel
set_option maxHeartbeats 4000000 in
set_option maxRecDepth 100000 in
theorem wm_X22_init (E : gX) (l : Launch) (x0 : Nat) (x1 : Int32) (x2 : Int32) (Gz G' : GH) (h : cm_X22_init x0 x1 x2 Gz = some G') : gMetC E l yX22_init cX22_init 3 none 2 [.ref x0, .int x1, .int x2] Gz G' none := by
  refine gMetC.of (own := RX22) (by decide +kernel) (Nat.le_of_ble_eq_true rfl) rfl ?_
  intro p e s m args below meth c S hr hk hnm hE hC0 hG hS ls hl
  have hl : lv_has ls 3 [(0, .ref x0), (1, .int x1), (2, .int x2)] := hl
  have hx := S.1
  have hb := S.2.1
  unfold cm_X22_init at h
  refine lv_aload_n hx hb dX22_init_0 rfl (lv_at hl 0 rfl) ?_
  refine W.objInit hx hb S.2.2.2.1 (S.2.2.2.2 _ q1478) (S.2.2.2.2 _ q185) (S.2.2.2.2 _ q186) rfl (hl.1.trans S.2.2.1.symm) rfl dX22_init_1 (Nat.le_of_ble_eq_true rfl) (Nat.le_of_ble_eq_true rfl) ?_
  refine W.eq (g2 := F0 m 4 ls []) rfl ?_
  refine lv_aload_n hx hb dX22_init_4 rfl (lv_at hl 0 rfl) ?_
  refine lv_iload_n hx hb dX22_init_5 rfl (lv_at hl 1 rfl) ?_
  obtain ⟨G6, e6, h⟩ := g_bd h
  refine cp_X22_9i dX22_init_6 S hE hG hS hC0 hnm e6 (fun H locs hG hS => ?_)
  refine lv_aload_n hx hb dX22_init_9 rfl (lv_at hl 0 rfl) ?_
  refine lv_iload_n hx hb dX22_init_10 rfl (lv_at hl 2 rfl) ?_
  obtain ⟨G11, e11, h⟩ := g_bd h
  refine cp_X22_15i dX22_init_11 S hE hG hS hC0 hnm e11 (fun H locs hG hS => ?_)
  exact c_vretW dX22_init_14 S hr hk hC0 hG hS h
theorem hc_J4_init : cHd yJ4_init 0 := by decide +kernel
set_option maxHeartbeats 4000000 in
set_option maxRecDepth 100000 in
theorem wm_J4_init (E : gX) (l : Launch) (x0 : Nat) (Gz G' : GH) (h : cm_J4_init x0 Gz = some G') : gMetC E l yJ4_init cJ4_init 1 none 2 [.ref x0] Gz G' none := by
  refine gMetC.of (own := RJ4) (by decide +kernel) (Nat.le_of_ble_eq_true rfl) rfl ?_
  intro p e s m args below meth c S hr hk hnm hE hC0 hG hS ls hl
  have hl : lv_has ls 1 [(0, .ref x0)] := hl
  have hx := S.1
  have hb := S.2.1
  unfold cm_J4_init at h
  refine lv_aload_n hx hb dJ4_init_0 rfl (lv_at hl 0 rfl) ?_
  refine W.objInit hx hb S.2.2.2.1 (S.2.2.2.2 _ q348) (S.2.2.2.2 _ q185) (S.2.2.2.2 _ q186) rfl (hl.1.trans S.2.2.1.symm) rfl dJ4_init_1 (Nat.le_of_ble_eq_true rfl) (Nat.le_of_ble_eq_true rfl) ?_
  refine W.eq (g2 := F0 m 4 ls []) rfl ?_
  exact c_vretW dJ4_init_4 S hr hk hC0 hG hS h
theorem hc_J5_init : cHd yJ5_init 0 := by decide +kernel
set_option maxHeartbeats 4000000 in
set_option maxRecDepth 100000 in
theorem wm_J5_init (E : gX) (l : Launch) (x0 : Nat) (Gz G' : GH) (h : cm_J5_init x0 Gz = some G') : gMetC E l yJ5_init cJ5_init 1 none 3 [.ref x0] Gz G' none := by
  refine gMetC.of (own := RJ5) (by decide +kernel) (Nat.le_of_ble_eq_true rfl) rfl ?_
  intro p e s m args below meth c S hr hk hnm hE hC0 hG hS ls hl
  have hl : lv_has ls 1 [(0, .ref x0)] := hl
  have hx := S.1
  have hb := S.2.1
  unfold cm_J5_init at h
  refine lv_aload_n hx hb dJ5_init_0 rfl (lv_at hl 0 rfl) ?_
  obtain ⟨G1, e1, h⟩ := g_bd h
  refine c_cI (y := yJ4_init) (rest := []) dJ5_init_1 q345 q346 q126 q347 hc_J4_init rfl S hE hG hS hC0 hl.1 rfl (wm_J4_init E l x0 Gz _ e1) rfl (Nat.le_of_ble_eq_true rfl) ⟨Nat.le_of_ble_eq_true rfl, Nat.le_of_ble_eq_true rfl⟩ (fun H locs hG hS => ?_)
  refine lv_aload_n hx hb dJ5_init_4 rfl (lv_at hl 0 rfl) ?_
  refine lv_iconst (v := 0) hx hb dJ5_init_5 (by decide) ?_
  obtain ⟨G6, e6, h⟩ := g_bd h
  refine cp_J5_7i dJ5_init_6 S hE hG hS hC0 hnm e6 (fun H locs hG hS => ?_)
  exact c_vretW dJ5_init_9 S hr hk hC0 hG hS h
theorem hc_J6_init : cHd yJ6_init 0 := by decide +kernel
set_option maxHeartbeats 4000000 in
set_option maxRecDepth 100000 in
theorem wm_J6_init (E : gX) (l : Launch) (x0 : Nat) (Gz G' : GH) (h : cm_J6_init x0 Gz = some G') : gMetC E l yJ6_init cJ6_init 1 none 4 [.ref x0] Gz G' none := by
  refine gMetC.of (own := RJ6) (by decide +kernel) (Nat.le_of_ble_eq_true rfl) rfl ?_
  intro p e s m args below meth c S hr hk hnm hE hC0 hG hS ls hl
  have hl : lv_has ls 1 [(0, .ref x0)] := hl
  have hx := S.1
  have hb := S.2.1
  unfold cm_J6_init at h
  refine lv_aload_n hx hb dJ6_init_0 rfl (lv_at hl 0 rfl) ?_
  obtain ⟨G1, e1, h⟩ := g_bd h
  refine c_cI (y := yJ5_init) (rest := []) dJ6_init_1 q342 q343 q127 q344 hc_J5_init rfl S hE hG hS hC0 hl.1 rfl (wm_J5_init E l x0 Gz _ e1) rfl (Nat.le_of_ble_eq_true rfl) ⟨Nat.le_of_ble_eq_true rfl, Nat.le_of_ble_eq_true rfl⟩ (fun H locs hG hS => ?_)
  refine lv_aload_n hx hb dJ6_init_4 rfl (lv_at hl 0 rfl) ?_
  refine c_gets q349 rfl hE.stat.2.2.1 dJ6_init_5 S hS ?_
  rw [← hG.2.2.2.2.1]
  obtain ⟨G8, e8, h⟩ := g_bd h
  refine cp_J6_9i dJ6_init_8 S hE hG hS hC0 hnm e8 (fun H locs hG hS => ?_)
  exact c_vretW dJ6_init_11 S hr hk hC0 hG hS h
theorem hc_X8_init : cHd yX8_init 0 := by decide +kernel
set_option maxHeartbeats 4000000 in
set_option maxRecDepth 100000 in
theorem wm_X8_init (E : gX) (l : Launch) (x0 : Nat) (Gz G' : GH) (h : cm_X8_init x0 Gz = some G') : gMetC E l yX8_init cX8_init 1 none 5 [.ref x0] Gz G' none := by
  refine gMetC.of (own := RX8) (by decide +kernel) (Nat.le_of_ble_eq_true rfl) rfl ?_
  intro p e s m args below meth c S hr hk hnm hE hC0 hG hS ls hl
  have hl : lv_has ls 1 [(0, .ref x0)] := hl
  have hx := S.1
  have hb := S.2.1
  unfold cm_X8_init at h
  refine lv_aload_n hx hb dX8_init_0 rfl (lv_at hl 0 rfl) ?_
  refine W.objInit hx hb S.2.2.2.1 (S.2.2.2.2 _ q1017) (S.2.2.2.2 _ q185) (S.2.2.2.2 _ q186) rfl (hl.1.trans S.2.2.1.symm) rfl dX8_init_1 (Nat.le_of_ble_eq_true rfl) (Nat.le_of_ble_eq_true rfl) ?_
  refine W.eq (g2 := F0 m 4 ls []) rfl ?_
  refine lv_aload_n hx hb dX8_init_4 rfl (lv_at hl 0 rfl) ?_
  obtain ⟨qx5, e5, h⟩ := g_bd h
  refine c_new (n := 3) dX8_init_5 q1018 q338 q128 rfl in_J6 tyJ6_ok rfl (by decide) (by decide) S hE hG hS hC0 e5 (fun H locs hG hS => ?_)
  refine lv_dup hx hb dX8_init_8 rfl ?_
  obtain ⟨G9, e9, h⟩ := g_bd h
  refine c_cI (y := yJ6_init) (rest := [.ref qx5.1, .ref x0]) dX8_init_9 q1019 q340 q128 q341 hc_J6_init rfl S hE hG hS hC0 hl.1 rfl (wm_J6_init E l qx5.1 qx5.2 _ e9) rfl (Nat.le_of_ble_eq_true rfl) ⟨Nat.le_of_ble_eq_true rfl, Nat.le_of_ble_eq_true rfl⟩ (fun H locs hG hS => ?_)
  obtain ⟨G12, e12, h⟩ := g_bd h
  refine cp_X8_12i dX8_init_12 S hE hG hS hC0 hnm e12 (fun H locs hG hS => ?_)
  refine lv_aload_n hx hb dX8_init_15 rfl (lv_at hl 0 rfl) ?_
  refine lv_iconst (v := 4) hx hb dX8_init_16 (by decide) ?_
  obtain ⟨qx17, e17, h⟩ := g_bd h
  refine c_newI q246 dX8_init_17 S hE hG hS hC0 e17 (fun H locs hG hS => ?_)
  obtain ⟨G19, e19, h⟩ := g_bd h
  refine cp_X8_18i dX8_init_19 S hE hG hS hC0 hnm e19 (fun H locs hG hS => ?_)
  refine lv_aload_n hx hb dX8_init_22 rfl (lv_at hl 0 rfl) ?_
  refine lv_bipush (v := 6) hx hb dX8_init_23 (by decide) ?_
  obtain ⟨qx25, e25, h⟩ := g_bd h
  refine c_newI q246 dX8_init_25 S hE hG hS hC0 e25 (fun H locs hG hS => ?_)
  obtain ⟨G27, e27, h⟩ := g_bd h
  refine cp_X8_22i dX8_init_27 S hE hG hS hC0 hnm e27 (fun H locs hG hS => ?_)
  refine lv_aload_n hx hb dX8_init_30 rfl (lv_at hl 0 rfl) ?_
  refine lv_bipush (v := 11) hx hb dX8_init_31 (by decide) ?_
  obtain ⟨qx33, e33, h⟩ := g_bd h
  refine c_newI q246 dX8_init_33 S hE hG hS hC0 e33 (fun H locs hG hS => ?_)
  obtain ⟨G35, e35, h⟩ := g_bd h
  refine cp_X8_25i dX8_init_35 S hE hG hS hC0 hnm e35 (fun H locs hG hS => ?_)
  refine lv_aload_n hx hb dX8_init_38 rfl (lv_at hl 0 rfl) ?_
  refine lv_bipush (v := 11) hx hb dX8_init_39 (by decide) ?_
  obtain ⟨qx41, e41, h⟩ := g_bd h
  refine c_newI q246 dX8_init_41 S hE hG hS hC0 e41 (fun H locs hG hS => ?_)
  obtain ⟨G43, e43, h⟩ := g_bd h
  refine cp_X8_28i dX8_init_43 S hE hG hS hC0 hnm e43 (fun H locs hG hS => ?_)
  refine lv_aload_n hx hb dX8_init_46 rfl (lv_at hl 0 rfl) ?_
  refine lv_bipush (v := 11) hx hb dX8_init_47 (by decide) ?_
  obtain ⟨qx49, e49, h⟩ := g_bd h
  refine c_newZ q247 dX8_init_49 S hE hG hS hC0 e49 (fun H locs hG hS => ?_)
  obtain ⟨G51, e51, h⟩ := g_bd h
  refine cp_X8_31i dX8_init_51 S hE hG hS hC0 hnm e51 (fun H locs hG hS => ?_)
  exact c_vretW dX8_init_54 S hr hk hC0 hG hS h
theorem hc_X6_init : cHd yX6_init 1 := by decide +kernel
set_option maxHeartbeats 4000000 in
set_option maxRecDepth 100000 in
theorem wm_X6_init (E : gX) (l : Launch) (x0 : Nat) (x1 : Int32) (Gz G' : GH) (h : cm_X6_init x0 x1 Gz = some G') : gMetC E l yX6_init cX6_init 2 none 6 [.ref x0, .int x1] Gz G' none := by
  refine gMetC.of (own := RX6) (by decide +kernel) (Nat.le_of_ble_eq_true rfl) rfl ?_
  intro p e s m args below meth c S hr hk hnm hE hC0 hG hS ls hl
  have hl : lv_has ls 2 [(0, .ref x0), (1, .int x1)] := hl
  have hx := S.1
  have hb := S.2.1
  unfold cm_X6_init at h
  refine lv_aload_n hx hb dX6_init_0 rfl (lv_at hl 0 rfl) ?_
  refine W.objInit hx hb S.2.2.2.1 (S.2.2.2.2 _ q1011) (S.2.2.2.2 _ q185) (S.2.2.2.2 _ q186) rfl (hl.1.trans S.2.2.1.symm) rfl dX6_init_1 (Nat.le_of_ble_eq_true rfl) (Nat.le_of_ble_eq_true rfl) ?_
  refine W.eq (g2 := F0 m 4 ls []) rfl ?_
  refine lv_aload_n hx hb dX6_init_4 rfl (lv_at hl 0 rfl) ?_
  obtain ⟨qx5, e5, h⟩ := g_bd h
  refine c_new (n := 13) dX6_init_5 q1012 q1013 q150 rfl in_X8 tyX8_ok rfl (by decide) (by decide) S hE hG hS hC0 e5 (fun H locs hG hS => ?_)
  refine lv_dup hx hb dX6_init_8 rfl ?_
  obtain ⟨G9, e9, h⟩ := g_bd h
  refine c_cIN (y := yX8_init) (rest := [.ref qx5.1, .ref x0]) dX6_init_9 (lw_nw q1014 rfl) q1015 q150 q1016 hc_X8_init rfl S hE hG hS hC0 hl.1 rfl (wm_X8_init E l qx5.1 qx5.2 _ e9) rfl (Nat.le_of_ble_eq_true rfl) ⟨Nat.le_of_ble_eq_true rfl, Nat.le_of_ble_eq_true rfl⟩ (fun H locs hG hS => ?_)
  obtain ⟨G12, e12, h⟩ := g_bd h
  refine cp_X6_10i dX6_init_12 S hE hG hS hC0 hnm e12 (fun H locs hG hS => ?_)
  refine lv_aload_n hx hb dX6_init_15 rfl (lv_at hl 0 rfl) ?_
  refine lv_iload_n hx hb dX6_init_16 rfl (lv_at hl 1 rfl) ?_
  obtain ⟨G17, e17, h⟩ := g_bd h
  refine cp_X6_16i dX6_init_17 S hE hG hS hC0 hnm e17 (fun H locs hG hS => ?_)
  exact c_vretW dX6_init_20 S hr hk hC0 hG hS h
theorem hc_X17_init : cHd yX17_init 1 := by decide +kernel
set_option maxHeartbeats 4000000 in
set_option maxRecDepth 100000 in
theorem wm_X17_init (E : gX) (l : Launch) (x0 : Nat) (x1 : Int32) (Gz G' : GH) (h : cm_X17_init x0 x1 Gz = some G') : gMetC E l yX17_init cX17_init 2 none 2 [.ref x0, .int x1] Gz G' none := by
  refine gMetC.of (own := RX17) (by decide +kernel) (Nat.le_of_ble_eq_true rfl) rfl ?_
  intro p e s m args below meth c S hr hk hnm hE hC0 hG hS ls hl
  have hl : lv_has ls 2 [(0, .ref x0), (1, .int x1)] := hl
  have hx := S.1
  have hb := S.2.1
  unfold cm_X17_init at h
  refine lv_aload_n hx hb dX17_init_0 rfl (lv_at hl 0 rfl) ?_
  refine W.objInit hx hb S.2.2.2.1 (S.2.2.2.2 _ q1272) (S.2.2.2.2 _ q185) (S.2.2.2.2 _ q186) rfl (hl.1.trans S.2.2.1.symm) rfl dX17_init_1 (Nat.le_of_ble_eq_true rfl) (Nat.le_of_ble_eq_true rfl) ?_
  refine W.eq (g2 := F0 m 4 ls []) rfl ?_
  refine lv_aload_n hx hb dX17_init_4 rfl (lv_at hl 0 rfl) ?_
  refine lv_iload_n hx hb dX17_init_5 rfl (lv_at hl 1 rfl) ?_
  obtain ⟨G6, e6, h⟩ := g_bd h
  refine cp_X17_7i dX17_init_6 S hE hG hS hC0 hnm e6 (fun H locs hG hS => ?_)
  exact c_vretW dX17_init_9 S hr hk hC0 hG hS h
theorem hc_X16_init : cHd yX16_init 1 := by decide +kernel
set_option maxHeartbeats 4000000 in
set_option maxRecDepth 100000 in
theorem wm_X16_init (E : gX) (l : Launch) (x0 : Nat) (x1 : Nat) (Gz G' : GH) (h : cm_X16_init x0 x1 Gz = some G') : gMetC E l yX16_init cX16_init 2 none 7 [.ref x0, .ref x1] Gz G' none := by
  refine gMetC.of (own := RX16) (by decide +kernel) (Nat.le_of_ble_eq_true rfl) rfl ?_
  intro p e s m args below meth c S hr hk hnm hE hC0 hG hS ls hl
  have hl : lv_has ls 2 [(0, .ref x0), (1, .ref x1)] := hl
  have hx := S.1
  have hb := S.2.1
  unfold cm_X16_init at h
  refine lv_aload_n hx hb dX16_init_0 rfl (lv_at hl 0 rfl) ?_
  refine lv_iconst (v := 4) hx hb dX16_init_1 (by decide) ?_
  obtain ⟨G2, e2, h⟩ := g_bd h
  refine c_cI (y := yX6_init) (rest := []) dX16_init_2 q1266 q1009 q148 q1010 hc_X6_init rfl S hE hG hS hC0 hl.1 rfl (wm_X6_init E l x0 4 Gz _ e2) rfl (Nat.le_of_ble_eq_true rfl) ⟨Nat.le_of_ble_eq_true rfl, Nat.le_of_ble_eq_true rfl⟩ (fun H locs hG hS => ?_)
  refine lv_aload_n hx hb dX16_init_5 rfl (lv_at hl 0 rfl) ?_
  obtain ⟨qx6, e6, h⟩ := g_bd h
  refine c_new (n := 2) dX16_init_6 q1267 q1268 q159 rfl in_X17 tyX17_ok rfl (by decide) (by decide) S hE hG hS hC0 e6 (fun H locs hG hS => ?_)
  refine lv_dup hx hb dX16_init_9 rfl ?_
  refine lv_aload_n hx hb dX16_init_10 rfl (lv_at hl 1 rfl) ?_
  refine lv_iconst (v := 0) hx hb dX16_init_11 (by decide) ?_
  obtain ⟨v12, e12, h⟩ := g_bd h
  refine c_aldI dX16_init_12 S hE hG e12 ?_
  obtain ⟨G13, e13, h⟩ := g_bd h
  refine c_cI (y := yX17_init) (rest := [.ref qx6.1, .ref x0]) dX16_init_13 q1269 q1270 q159 q1271 hc_X17_init rfl S hE hG hS hC0 hl.1 rfl (wm_X17_init E l qx6.1 v12 qx6.2 _ e13) rfl (Nat.le_of_ble_eq_true rfl) ⟨Nat.le_of_ble_eq_true rfl, Nat.le_of_ble_eq_true rfl⟩ (fun H locs hG hS => ?_)
  obtain ⟨G16, e16, h⟩ := g_bd h
  refine cp_X16_10i dX16_init_16 S hE hG hS hC0 hnm e16 (fun H locs hG hS => ?_)
  exact c_vretW dX16_init_19 S hr hk hC0 hG hS h
theorem hc_X10_init : cHd yX10_init 1 := by decide +kernel
set_option maxHeartbeats 4000000 in
set_option maxRecDepth 100000 in
theorem wm_X10_init (E : gX) (l : Launch) (x0 : Nat) (x1 : Int32) (Gz G' : GH) (h : cm_X10_init x0 x1 Gz = some G') : gMetC E l yX10_init cX10_init 2 none 2 [.ref x0, .int x1] Gz G' none := by
  refine gMetC.of (own := RX10) (by decide +kernel) (Nat.le_of_ble_eq_true rfl) rfl ?_
  intro p e s m args below meth c S hr hk hnm hE hC0 hG hS ls hl
  have hl : lv_has ls 2 [(0, .ref x0), (1, .int x1)] := hl
  have hx := S.1
  have hb := S.2.1
  unfold cm_X10_init at h
  refine lv_aload_n hx hb dX10_init_0 rfl (lv_at hl 0 rfl) ?_
  refine W.objInit hx hb S.2.2.2.1 (S.2.2.2.2 _ q1102) (S.2.2.2.2 _ q185) (S.2.2.2.2 _ q186) rfl (hl.1.trans S.2.2.1.symm) rfl dX10_init_1 (Nat.le_of_ble_eq_true rfl) (Nat.le_of_ble_eq_true rfl) ?_
  refine W.eq (g2 := F0 m 4 ls []) rfl ?_
  refine lv_aload_n hx hb dX10_init_4 rfl (lv_at hl 0 rfl) ?_
  refine lv_bipush (v := 30) hx hb dX10_init_5 (by decide) ?_
  obtain ⟨qx7, e7, h⟩ := g_bd h
  refine c_newI q246 dX10_init_7 S hE hG hS hC0 e7 (fun H locs hG hS => ?_)
  obtain ⟨G9, e9, h⟩ := g_bd h
  refine cp_X10_9i dX10_init_9 S hE hG hS hC0 hnm e9 (fun H locs hG hS => ?_)
  refine lv_aload_n hx hb dX10_init_12 rfl (lv_at hl 0 rfl) ?_
  refine lv_bipush (v := 30) hx hb dX10_init_13 (by decide) ?_
  obtain ⟨qx15, e15, h⟩ := g_bd h
  refine c_newI q246 dX10_init_15 S hE hG hS hC0 e15 (fun H locs hG hS => ?_)
  obtain ⟨G17, e17, h⟩ := g_bd h
  refine cp_X10_15i dX10_init_17 S hE hG hS hC0 hnm e17 (fun H locs hG hS => ?_)
  refine lv_aload_n hx hb dX10_init_20 rfl (lv_at hl 0 rfl) ?_
  refine lv_iload_n hx hb dX10_init_21 rfl (lv_at hl 1 rfl) ?_
  obtain ⟨G22, e22, h⟩ := g_bd h
  refine cp_X10_18i dX10_init_22 S hE hG hS hC0 hnm e22 (fun H locs hG hS => ?_)
  exact c_vretW dX10_init_25 S hr hk hC0 hG hS h
theorem hc_X23_init : cHd yX23_init 0 := by decide +kernel
set_option maxHeartbeats 4000000 in
set_option maxRecDepth 100000 in
theorem wm_X23_init (E : gX) (l : Launch) (x0 : Nat) (Gz G' : GH) (h : cm_X23_init x0 Gz = some G') : gMetC E l yX23_init cX23_init 1 none 2 [.ref x0] Gz G' none := by
  refine gMetC.of (own := RX23) (by decide +kernel) (Nat.le_of_ble_eq_true rfl) rfl ?_
  intro p e s m args below meth c S hr hk hnm hE hC0 hG hS ls hl
  have hl : lv_has ls 1 [(0, .ref x0)] := hl
  have hx := S.1
  have hb := S.2.1
  unfold cm_X23_init at h
  refine lv_aload_n hx hb dX23_init_0 rfl (lv_at hl 0 rfl) ?_
  refine W.objInit hx hb S.2.2.2.1 (S.2.2.2.2 _ q1538) (S.2.2.2.2 _ q185) (S.2.2.2.2 _ q186) rfl (hl.1.trans S.2.2.1.symm) rfl dX23_init_1 (Nat.le_of_ble_eq_true rfl) (Nat.le_of_ble_eq_true rfl) ?_
  refine W.eq (g2 := F0 m 4 ls []) rfl ?_
  exact c_vretW dX23_init_4 S hr hk hC0 hG hS h
theorem hc_J6_init_2 : cHd yJ6_init_2 1 := by decide +kernel
set_option maxHeartbeats 4000000 in
set_option maxRecDepth 100000 in
theorem wm_J6_init_2 (E : gX) (l : Launch) (x0 : Nat) (x1 : Int32) (Gz G' : GH) (h : cm_J6_init_2 x0 x1 Gz = some G') : gMetC E l yJ6_init_2 cJ6_init_2 2 none 4 [.ref x0, .int x1] Gz G' none := by
  refine gMetC.of (own := RJ6) (by decide +kernel) (Nat.le_of_ble_eq_true rfl) rfl ?_
  intro p e s m args below meth c S hr hk hnm hE hC0 hG hS ls hl
  have hl : lv_has ls 2 [(0, .ref x0), (1, .int x1)] := hl
  have hx := S.1
  have hb := S.2.1
  unfold cm_J6_init_2 at h
  refine lv_aload_n hx hb dJ6_init_2_0 rfl (lv_at hl 0 rfl) ?_
  obtain ⟨G1, e1, h⟩ := g_bd h
  refine c_cI (y := yJ5_init) (rest := []) dJ6_init_2_1 q342 q343 q127 q344 hc_J5_init rfl S hE hG hS hC0 hl.1 rfl (wm_J5_init E l x0 Gz _ e1) rfl (Nat.le_of_ble_eq_true rfl) ⟨Nat.le_of_ble_eq_true rfl, Nat.le_of_ble_eq_true rfl⟩ (fun H locs hG hS => ?_)
  refine lv_iload_n hx hb dJ6_init_2_4 rfl (lv_at hl 1 rfl) ?_
  refine lv_if_le (tgt := 19) hx hb dJ6_init_2_5 (by decide) (fun c5 => ?_) (fun c5 => ?_)
  · have h := g_it c5 h
    refine lv_iload_n hx hb dJ6_init_2_19 rfl (lv_at hl 1 rfl) ?_
    refine lv_if_ne (tgt := 33) hx hb dJ6_init_2_20 (by decide) (fun c20 => ?_) (fun c20 => ?_)
    · have h := g_if c20 h
      obtain ⟨qx33, e33, h⟩ := g_bd h
      refine c_new (n := 6) dJ6_init_2_33 q370 q266 q124 rfl in_J3 tyJ3_ok rfl (by decide) (by decide) S hE hG hS hC0 e33 (fun H locs hG hS => ?_)
      refine lv_dup hx hb dJ6_init_2_36 rfl ?_
      obtain ⟨qx37, e37, h⟩ := g_bd h
      refine c_new (n := 4) dJ6_init_2_37 q371 q372 q130 rfl in_J8 tyJ8_ok rfl (by decide) (by decide) S hE hG hS hC0 e37 (fun H locs hG hS => ?_)
      refine lv_dup hx hb dJ6_init_2_40 rfl ?_
      cases h
    · have h := g_it c20 h
      refine lv_aload_n hx hb dJ6_init_2_23 rfl (lv_at hl 0 rfl) ?_
      refine c_gets q368 rfl hE.stat.2.2.2.1 dJ6_init_2_24 S hS ?_
      rw [← hG.2.2.2.2.1]
      obtain ⟨G27, e27, h⟩ := g_bd h
      refine cp_J6_9i dJ6_init_2_27 S hE hG hS hC0 hnm e27 (fun H locs hG hS => ?_)
      refine lv_goto (tgt := 60) hx hb dJ6_init_2_30 (by decide) ?_
      exact c_vretW dJ6_init_2_60 S hr hk hC0 hG hS h
  · have h := g_if c5 h
    refine lv_aload_n hx hb dJ6_init_2_8 rfl (lv_at hl 0 rfl) ?_
    refine lv_iload_n hx hb dJ6_init_2_9 rfl (lv_at hl 1 rfl) ?_
    obtain ⟨qx10, e10, h⟩ := g_bd h
    refine c_newO q366 dJ6_init_2_10 S hE hG hS hC0 e10 (fun H locs hG hS => ?_)
    obtain ⟨G13, e13, h⟩ := g_bd h
    refine cp_J6_9i dJ6_init_2_13 S hE hG hS hC0 hnm e13 (fun H locs hG hS => ?_)
    refine lv_goto (tgt := 60) hx hb dJ6_init_2_16 (by decide) ?_
    exact c_vretW dJ6_init_2_60 S hr hk hC0 hG hS h
theorem hc_X29_init : cHd yX29_init 1 := by decide +kernel
set_option maxHeartbeats 4000000 in
set_option maxRecDepth 100000 in
theorem wm_X29_init (E : gX) (l : Launch) (x0 : Nat) (x1 : Nat) (Gz G' : GH) (h : cm_X29_init x0 x1 Gz = some G') : gMetC E l yX29_init cX29_init 2 none 5 [.ref x0, .ref x1] Gz G' none := by
  refine gMetC.of (own := RX29) (by decide +kernel) (Nat.le_of_ble_eq_true rfl) rfl ?_
  intro p e s m args below meth c S hr hk hnm hE hC0 hG hS ls hl
  have hl : lv_has ls 2 [(0, .ref x0), (1, .ref x1)] := hl
  have hx := S.1
  have hb := S.2.1
  unfold cm_X29_init at h
  refine lv_aload_n hx hb dX29_init_0 rfl (lv_at hl 0 rfl) ?_
  obtain ⟨G1, e1, h⟩ := g_bd h
  refine c_cIN (y := yX23_init) (rest := []) dX29_init_1 (lw_nw q1608 rfl) q1536 q165 q1537 hc_X23_init rfl S hE hG hS hC0 hl.1 rfl (wm_X23_init E l x0 Gz _ e1) rfl (Nat.le_of_ble_eq_true rfl) ⟨Nat.le_of_ble_eq_true rfl, Nat.le_of_ble_eq_true rfl⟩ (fun H locs hG hS => ?_)
  refine lv_aload_n hx hb dX29_init_4 rfl (lv_at hl 0 rfl) ?_
  obtain ⟨qx5, e5, h⟩ := g_bd h
  refine c_new (n := 3) dX29_init_5 q1609 q338 q128 rfl in_J6 tyJ6_ok rfl (by decide) (by decide) S hE hG hS hC0 e5 (fun H locs hG hS => ?_)
  refine lv_dup hx hb dX29_init_8 rfl ?_
  refine lv_iconst (v := 2) hx hb dX29_init_9 (by decide) ?_
  obtain ⟨G10, e10, h⟩ := g_bd h
  refine c_cI (y := yJ6_init_2) (rest := [.ref qx5.1, .ref x0]) dX29_init_10 q1610 q364 q128 q365 hc_J6_init_2 rfl S hE hG hS hC0 hl.1 rfl (wm_J6_init_2 E l qx5.1 2 qx5.2 _ e10) rfl (Nat.le_of_ble_eq_true rfl) ⟨Nat.le_of_ble_eq_true rfl, Nat.le_of_ble_eq_true rfl⟩ (fun H locs hG hS => ?_)
  obtain ⟨G13, e13, h⟩ := g_bd h
  refine cp_X29_14i dX29_init_13 S hE hG hS hC0 hnm e13 (fun H locs hG hS => ?_)
  refine lv_aload_n hx hb dX29_init_16 rfl (lv_at hl 0 rfl) ?_
  refine lv_iconst (v := 2) hx hb dX29_init_17 (by decide) ?_
  obtain ⟨qx18, e18, h⟩ := g_bd h
  refine c_newB q245 dX29_init_18 S hE hG hS hC0 e18 (fun H locs hG hS => ?_)
  obtain ⟨G20, e20, h⟩ := g_bd h
  refine cp_X29_20i dX29_init_20 S hE hG hS hC0 hnm e20 (fun H locs hG hS => ?_)
  refine lv_aload_n hx hb dX29_init_23 rfl (lv_at hl 0 rfl) ?_
  refine lv_aload_n hx hb dX29_init_24 rfl (lv_at hl 1 rfl) ?_
  obtain ⟨G25, e25, h⟩ := g_bd h
  refine cp_X29_24i dX29_init_25 S hE hG hS hC0 hnm e25 (fun H locs hG hS => ?_)
  exact c_vretW dX29_init_28 S hr hk hC0 hG hS h
theorem hc_J11_newLength : cHd yJ11_newLength 3 := by decide +kernel
set_option maxHeartbeats 4000000 in
set_option maxRecDepth 100000 in
theorem wm_J11_newLength (E : gX) (l : Launch) (x0 : Int32) (x1 : Int32) (x2 : Int32) (Gz : GH) (r : Int32) (h : cm_J11_newLength x0 x1 x2 Gz = some r) : gMetC E l yJ11_newLength cJ11_newLength 4 (some Jvm.ClassFile.FieldType.int) 2 [.int x0, .int x1, .int x2] Gz Gz (some (.int r)) := by
  refine gMetC.of (own := RJ11) (by decide +kernel) (Nat.le_of_ble_eq_true rfl) rfl ?_
  intro p e s m args below meth c S hr hk hnm hE hC0 hG hS ls hl
  have hl : lv_has ls 4 [(0, .int x0), (1, .int x1), (2, .int x2)] := hl
  have hx := S.1
  have hb := S.2.1
  have J21 : ∀ (x0 : Int32) (x1 : Int32) (H : Heap) (locs : List Loc) (ls : Array Slot), cm_J11_newLength_J21 x0 x1 Gz = some r → gC E Gz H → va_S (gx_C E) s.heap H locs → lv_has ls 4 [(0, .int x0), (1, .int x1)] → WC E p l e (gRm 2 (cBx Gz) (cBs Gz)) s m args below meth c H locs (MQ below (gQ (some (.int r)) (gC E Gz) (gx_C E)) args s (cBx Gz) (cBs Gz) (gx_C E)) (F0 m 21 ls []) := by
    intro x0 x1 H locs ls h hG hS hl
    unfold cm_J11_newLength_J21 at h
    refine lv_iload_n hx hb dJ11_newLength_21 rfl (lv_at hl 0 rfl) ?_
    refine lv_iload_n hx hb dJ11_newLength_22 rfl (lv_at hl 1 rfl) ?_
    cases h
  unfold cm_J11_newLength at h
  refine lv_iload_n hx hb dJ11_newLength_0 rfl (lv_at hl 0 rfl) ?_
  refine lv_iload_n hx hb dJ11_newLength_1 rfl (lv_at hl 1 rfl) ?_
  refine lv_iload_n hx hb dJ11_newLength_2 rfl (lv_at hl 2 rfl) ?_
  refine c_math_max q425 dJ11_newLength_3 S hl.1 hC0 hG hS (by decide) (Nat.le_of_ble_eq_true rfl) ?_
  refine lv_iadd hx hb dJ11_newLength_6 ?_
  refine lv_istore_n (lv' := [(3, .int (x0 + (if x1 < x2 then x2 else x1))), (0, .int x0), (1, .int x1), (2, .int x2)]) hx hb dJ11_newLength_7 rfl hl (by decide) rfl (fun ls hl => ?_)
  refine lv_iconst (v := 0) hx hb dJ11_newLength_8 (by decide) ?_
  refine lv_iload_n hx hb dJ11_newLength_9 rfl (lv_at hl 0 rfl) ?_
  refine lv_icmp_ge (tgt := 21) hx hb dJ11_newLength_10 (by decide) (fun c10 => ?_) (fun c10 => ?_)
  · have h := g_it c10 h
    exact J21 x0 x1 _ _ _ h hG hS (lv_sub hl [1, 2] rfl)
  · have h := g_if c10 h
    refine lv_iload_n hx hb dJ11_newLength_13 rfl (lv_at hl 0 rfl) ?_
    refine lv_ldc (v := 2147483639) hx hb S.2.2.2.1 (S.2.2.2.2 _ q428) dJ11_newLength_14 ?_
    refine lv_icmp_gt (tgt := 21) hx hb dJ11_newLength_16 (by decide) (fun c16 => ?_) (fun c16 => ?_)
    · have h := g_it c16 h
      exact J21 x0 x1 _ _ _ h hG hS (lv_sub hl [1, 2] rfl)
    · have h := g_if c16 h
      refine lv_iload_n hx hb dJ11_newLength_19 rfl (lv_at hl 0 rfl) ?_
      exact c_iretR dJ11_newLength_20 S hr hk hC0 hG hS h
theorem hc_J6_grow_2 : cHd yJ6_grow_2 1 := by decide +kernel
set_option maxHeartbeats 4000000 in
set_option maxRecDepth 100000 in
theorem wm_J6_grow_2 (E : gX) (l : Launch) (x0 : Nat) (x1 : Int32) (Gz G' : GH) (r : Nat) (h : cm_J6_grow_2 x0 x1 Gz = some (r, G')) : gMetC E l yJ6_grow_2 cJ6_grow_2 4 (some (Jvm.ClassFile.FieldType.array (Jvm.ClassFile.FieldType.object "java/lang/Object"))) 3 [.ref x0, .int x1] Gz G' (some (.ref r)) := by
  refine gMetC.of (own := RJ6) (by decide +kernel) (Nat.le_of_ble_eq_true rfl) rfl ?_
  intro p e s m args below meth c S hr hk hnm hE hC0 hG hS ls hl
  have hl : lv_has ls 4 [(0, .ref x0), (1, .int x1)] := hl
  have hx := S.1
  have hb := S.2.1
  have J20 : ∀ (x0 : Nat) (x1 : Int32) (x2 : Int32) (G : GH) (H : Heap) (locs : List Loc) (ls : Array Slot), cm_J6_grow_2_J20 x0 x1 x2 G = some (r, G') → gC E G H → va_S (gx_C E) s.heap H locs → lv_has ls 4 [(0, .ref x0), (1, .int x1), (2, .int x2)] → WC E p l e (gRm 3 (cBx Gz) (cBs Gz)) s m args below meth c H locs (MQ below (gQ (some (.ref r)) (gC E G') (gx_C E)) args s (cBx Gz) (cBs Gz) (gx_C E)) (F0 m 20 ls []) := by
    intro x0 x1 x2 G H locs ls h hG hS hl
    unfold cm_J6_grow_2_J20 at h
    refine lv_iload_n hx hb dJ6_grow_2_20 rfl (lv_at hl 2 rfl) ?_
    refine lv_iload_n hx hb dJ6_grow_2_21 rfl (lv_at hl 1 rfl) ?_
    refine lv_iload_n hx hb dJ6_grow_2_22 rfl (lv_at hl 2 rfl) ?_
    refine lv_isub hx hb dJ6_grow_2_23 ?_
    refine lv_iload_n hx hb dJ6_grow_2_24 rfl (lv_at hl 2 rfl) ?_
    refine lv_iconst (v := 1) hx hb dJ6_grow_2_25 (by decide) ?_
    refine lv_ishr hx hb dJ6_grow_2_26 ?_
    obtain ⟨v27, e27, h⟩ := g_bd h
    refine c_cS (y := yJ11_newLength) (rest := []) dJ6_grow_2_27 q936 q423 q133 q424 hc_J11_newLength S hE hG hS hC0 hl.1 rfl (wm_J11_newLength E l x2 (x1 - x2) (x2 >>> (1 &&& 31)) G _ e27) rfl (Nat.le_of_ble_eq_true rfl) ⟨Nat.le_of_ble_eq_true rfl, Nat.le_of_ble_eq_true rfl⟩ (fun H locs hG hS => ?_)
    refine lv_istore_n (lv' := [(3, .int v27), (0, .ref x0), (1, .int x1), (2, .int x2)]) hx hb dJ6_grow_2_30 rfl hl (by decide) rfl (fun ls hl => ?_)
    refine lv_aload_n hx hb dJ6_grow_2_31 rfl (lv_at hl 1 rfl) ?_
    refine lv_aload_n hx hb dJ6_grow_2_32 rfl (lv_at hl 1 rfl) ?_
    obtain ⟨v33, e33, h⟩ := g_bd h
    refine cg_J6_9 dJ6_grow_2_33 S hE hG e33 ?_
    refine lv_iload_n hx hb dJ6_grow_2_36 rfl (lv_at hl 0 rfl) ?_
    obtain ⟨qx37, e37, h⟩ := g_bd h
    refine c_special_cCopyOf (rest := [.ref x0]) q937 dJ6_grow_2_37 S hE hG hS hC0 hl.1 e37 rfl (Nat.le_of_ble_eq_true rfl) (by decide) (fun H locs hG hS => ?_)
    refine lv_dup_x1 hx hb dJ6_grow_2_40 rfl rfl ?_
    obtain ⟨G41, e41, h⟩ := g_bd h
    refine cp_J6_9 dJ6_grow_2_41 S hE hG hS hC0 e41 (fun H locs hG hS => ?_)
    exact c_aretW dJ6_grow_2_44 (Or.inr ⟨_, rfl⟩) S hr hk hC0 hG hS h
  unfold cm_J6_grow_2 at h
  refine lv_aload_n hx hb dJ6_grow_2_0 rfl (lv_at hl 0 rfl) ?_
  obtain ⟨v1, e1, h⟩ := g_bd h
  refine cg_J6_9 dJ6_grow_2_1 S hE hG e1 ?_
  obtain ⟨v4, e4, h⟩ := g_bd h
  refine c_len dJ6_grow_2_4 S hE hG e4 ?_
  refine lv_istore_n (lv' := [(2, .int v4), (0, .ref x0), (1, .int x1)]) hx hb dJ6_grow_2_5 rfl hl (by decide) rfl (fun ls hl => ?_)
  refine lv_iload_n hx hb dJ6_grow_2_6 rfl (lv_at hl 0 rfl) ?_
  refine lv_if_gt (tgt := 20) hx hb dJ6_grow_2_7 (by decide) (fun c7 => ?_) (fun c7 => ?_)
  · have h := g_it c7 h
    exact J20 x0 x1 v4 Gz _ _ _ h hG hS (lv_sub hl [1, 2, 0] rfl)
  · have h := g_if c7 h
    refine lv_aload_n hx hb dJ6_grow_2_10 rfl (lv_at hl 1 rfl) ?_
    obtain ⟨v11, e11, h⟩ := g_bd h
    refine cg_J6_9 dJ6_grow_2_11 S hE hG e11 ?_
    refine c_gets q349 rfl hE.stat.2.2.1 dJ6_grow_2_14 S hS ?_
    rw [← hG.2.2.2.2.1]
    refine lv_acmp_eq (rx := (some v11)) (ry := (some (cK Gz 20))) (tgt := 45) hx hb dJ6_grow_2_17 (by decide) (fun c17 => ?_) (fun c17 => ?_)
    · have h := g_it c17 h
      refine lv_aload_n hx hb dJ6_grow_2_45 rfl (lv_at hl 1 rfl) ?_
      refine lv_bipush (v := 10) hx hb dJ6_grow_2_46 (by decide) ?_
      refine lv_iload_n hx hb dJ6_grow_2_48 rfl (lv_at hl 2 rfl) ?_
      refine c_math_max q987 dJ6_grow_2_49 S hl.1 hC0 hG hS (by decide) (Nat.le_of_ble_eq_true rfl) ?_
      obtain ⟨qx52, e52, h⟩ := g_bd h
      refine c_newO q366 dJ6_grow_2_52 S hE hG hS hC0 e52 (fun H locs hG hS => ?_)
      refine lv_dup_x1 hx hb dJ6_grow_2_55 rfl rfl ?_
      obtain ⟨G56, e56, h⟩ := g_bd h
      refine cp_J6_9 dJ6_grow_2_56 S hE hG hS hC0 e56 (fun H locs hG hS => ?_)
      exact c_aretW dJ6_grow_2_59 (Or.inr ⟨_, rfl⟩) S hr hk hC0 hG hS h
    · have h := g_if c17 h
      exact J20 x0 x1 v4 Gz _ _ _ h hG hS (lv_sub hl [1, 2, 0] rfl)
theorem hc_J6_grow : cHd yJ6_grow 0 := by decide +kernel
set_option maxHeartbeats 4000000 in
set_option maxRecDepth 100000 in
theorem wm_J6_grow (E : gX) (l : Launch) (x0 : Nat) (Gz G' : GH) (r : Nat) (h : cm_J6_grow x0 Gz = some (r, G')) : gMetC E l yJ6_grow cJ6_grow 1 (some (Jvm.ClassFile.FieldType.array (Jvm.ClassFile.FieldType.object "java/lang/Object"))) 4 [.ref x0] Gz G' (some (.ref r)) := by
  refine gMetC.of (own := RJ6) (by decide +kernel) (Nat.le_of_ble_eq_true rfl) rfl ?_
  intro p e s m args below meth c S hr hk hnm hE hC0 hG hS ls hl
  have hl : lv_has ls 1 [(0, .ref x0)] := hl
  have hx := S.1
  have hb := S.2.1
  unfold cm_J6_grow at h
  refine lv_aload_n hx hb dJ6_grow_0 rfl (lv_at hl 0 rfl) ?_
  refine lv_aload_n hx hb dJ6_grow_1 rfl (lv_at hl 0 rfl) ?_
  obtain ⟨v2, e2, h⟩ := g_bd h
  refine cg_J6_48 dJ6_grow_2 S hE hG e2 ?_
  refine lv_iconst (v := 1) hx hb dJ6_grow_5 (by decide) ?_
  refine lv_iadd hx hb dJ6_grow_6 ?_
  obtain ⟨u7, t7, h⟩ := g_bd h
  obtain ⟨qx7, e7, h⟩ := g_bd h
  refine c_cV (y := yJ6_grow_2) (rest := []) dJ6_grow_7 q932 q934 qs17 q128 q935 hc_J6_grow_2 rfl S hE hG hS hC0 hl.1 rfl (c_recv hE hG (ci := 2) rfl (by decide) (c_castM t7)) (wm_J6_grow_2 E l x0 (v2 + 1) Gz _ _ e7) rfl (Nat.le_of_ble_eq_true rfl) ⟨Nat.le_of_ble_eq_true rfl, Nat.le_of_ble_eq_true rfl⟩ (fun H locs hG hS => ?_)
  exact c_aretW dJ6_grow_10 (Or.inr ⟨_, rfl⟩) S hr hk hC0 hG hS h
theorem hc_J6_add_2 : cHd yJ6_add_2 3 := by decide +kernel
set_option maxHeartbeats 4000000 in
set_option maxRecDepth 100000 in
theorem wm_J6_add_2 (E : gX) (l : Launch) (x0 : Nat) (x1 : Nat) (x2 : Nat) (x3 : Int32) (Gz G' : GH) (h : cm_J6_add_2 x0 x1 x2 x3 Gz = some G') : gMetC E l yJ6_add_2 cJ6_add_2 4 none 5 [.ref x0, .ref x1, .ref x2, .int x3] Gz G' none := by
  refine gMetC.of (own := RJ6) (by decide +kernel) (Nat.le_of_ble_eq_true rfl) rfl ?_
  intro p e s m args below meth c S hr hk hnm hE hC0 hG hS ls hl
  have hl : lv_has ls 4 [(0, .ref x0), (1, .ref x1), (2, .ref x2), (3, .int x3)] := hl
  have hx := S.1
  have hb := S.2.1
  have J11 : ∀ (x0 : Nat) (x1 : Nat) (x2 : Nat) (x3 : Int32) (G : GH) (H : Heap) (locs : List Loc) (ls : Array Slot), cm_J6_add_2_J11 x0 x1 x2 x3 G = some G' → gC E G H → va_S (gx_C E) s.heap H locs → lv_has ls 4 [(0, .ref x0), (1, .ref x1), (2, .ref x2), (3, .int x3)] → WC E p l e (gRm 5 (cBx Gz) (cBs Gz)) s m args below meth c H locs (MQ below (gQ none (gC E G') (gx_C E)) args s (cBx Gz) (cBs Gz) (gx_C E)) (F0 m 11 ls []) := by
    intro x0 x1 x2 x3 G H locs ls h hG hS hl
    unfold cm_J6_add_2_J11 at h
    refine lv_aload_n hx hb dJ6_add_2_11 rfl (lv_at hl 2 rfl) ?_
    refine lv_iload_n hx hb dJ6_add_2_12 rfl (lv_at hl 3 rfl) ?_
    refine lv_aload_n hx hb dJ6_add_2_13 rfl (lv_at hl 1 rfl) ?_
    obtain ⟨G14, e14, h⟩ := g_bd h
    refine c_astR dJ6_add_2_14 S hE hG hS hC0 e14 (fun H locs hG hS => ?_)
    refine lv_aload_n hx hb dJ6_add_2_15 rfl (lv_at hl 0 rfl) ?_
    refine lv_iload_n hx hb dJ6_add_2_16 rfl (lv_at hl 3 rfl) ?_
    refine lv_iconst (v := 1) hx hb dJ6_add_2_17 (by decide) ?_
    refine lv_iadd hx hb dJ6_add_2_18 ?_
    obtain ⟨G19, e19, h⟩ := g_bd h
    refine cp_J6_48 dJ6_add_2_19 S hE hG hS hC0 e19 (fun H locs hG hS => ?_)
    exact c_vretW dJ6_add_2_22 S hr hk hC0 hG hS h
  unfold cm_J6_add_2 at h
  refine lv_iload_n hx hb dJ6_add_2_0 rfl (lv_at hl 3 rfl) ?_
  refine lv_aload_n hx hb dJ6_add_2_1 rfl (lv_at hl 2 rfl) ?_
  obtain ⟨v2, e2, h⟩ := g_bd h
  refine c_len dJ6_add_2_2 S hE hG e2 ?_
  refine lv_icmp_ne (tgt := 11) hx hb dJ6_add_2_3 (by decide) (fun c3 => ?_) (fun c3 => ?_)
  · have h := g_if c3 h
    exact J11 x0 x1 x2 x3 Gz _ _ _ h hG hS (lv_sub hl [0, 1, 2, 3] rfl)
  · have h := g_it c3 h
    refine lv_aload_n hx hb dJ6_add_2_6 rfl (lv_at hl 0 rfl) ?_
    obtain ⟨u7, t7, h⟩ := g_bd h
    obtain ⟨qx7, e7, h⟩ := g_bd h
    refine c_cV (y := yJ6_grow) (rest := []) dJ6_add_2_7 q928 q930 qs16 q128 q931 hc_J6_grow rfl S hE hG hS hC0 hl.1 rfl (c_recv hE hG (ci := 2) rfl (by decide) (c_castM t7)) (wm_J6_grow E l x0 Gz _ _ e7) rfl (Nat.le_of_ble_eq_true rfl) ⟨Nat.le_of_ble_eq_true rfl, Nat.le_of_ble_eq_true rfl⟩ (fun H locs hG hS => ?_)
    refine lv_astore_n (lv' := [(2, .ref qx7.1), (0, .ref x0), (1, .ref x1), (3, .int x3)]) hx hb dJ6_add_2_10 rfl hl (by decide) rfl (fun ls hl => ?_)
    exact J11 x0 x1 qx7.1 x3 qx7.2 _ _ _ h hG hS (lv_sub hl [1, 2, 0, 3] rfl)
theorem hc_J6_add : cHd yJ6_add 1 := by decide +kernel
set_option maxHeartbeats 4000000 in
set_option maxRecDepth 100000 in
theorem wm_J6_add (E : gX) (l : Launch) (x0 : Nat) (x1 : Nat) (Gz G' : GH) (r : Int32) (h : cm_J6_add x0 x1 Gz = some (r, G')) : gMetC E l yJ6_add cJ6_add 2 (some Jvm.ClassFile.FieldType.boolean) 6 [.ref x0, .ref x1] Gz G' (some (.int r)) := by
  refine gMetC.of (own := RJ6) (by decide +kernel) (Nat.le_of_ble_eq_true rfl) rfl ?_
  intro p e s m args below meth c S hr hk hnm hE hC0 hG hS ls hl
  have hl : lv_has ls 2 [(0, .ref x0), (1, .ref x1)] := hl
  have hx := S.1
  have hb := S.2.1
  unfold cm_J6_add at h
  refine lv_aload_n hx hb dJ6_add_0 rfl (lv_at hl 0 rfl) ?_
  refine lv_dup hx hb dJ6_add_1 rfl ?_
  obtain ⟨v2, e2, h⟩ := g_bd h
  refine cg_J6_63 dJ6_add_2 S hE hG e2 ?_
  refine lv_iconst (v := 1) hx hb dJ6_add_5 (by decide) ?_
  refine lv_iadd hx hb dJ6_add_6 ?_
  obtain ⟨G7, e7, h⟩ := g_bd h
  refine cp_J6_63 dJ6_add_7 S hE hG hS hC0 e7 (fun H locs hG hS => ?_)
  refine lv_aload_n hx hb dJ6_add_10 rfl (lv_at hl 0 rfl) ?_
  refine lv_aload_n hx hb dJ6_add_11 rfl (lv_at hl 1 rfl) ?_
  refine lv_aload_n hx hb dJ6_add_12 rfl (lv_at hl 0 rfl) ?_
  obtain ⟨v13, e13, h⟩ := g_bd h
  refine cg_J6_9 dJ6_add_13 S hE hG e13 ?_
  refine lv_aload_n hx hb dJ6_add_16 rfl (lv_at hl 0 rfl) ?_
  obtain ⟨v17, e17, h⟩ := g_bd h
  refine cg_J6_48 dJ6_add_17 S hE hG e17 ?_
  obtain ⟨u20, t20, h⟩ := g_bd h
  obtain ⟨G20, e20, h⟩ := g_bd h
  refine c_cV (y := yJ6_add_2) (rest := []) dJ6_add_20 q924 q926 qs15 q128 q927 hc_J6_add_2 rfl S hE hG hS hC0 hl.1 rfl (c_recv hE hG (ci := 2) rfl (by decide) (c_castM t20)) (wm_J6_add_2 E l x0 x1 v13 v17 G7 _ e20) rfl (Nat.le_of_ble_eq_true rfl) ⟨Nat.le_of_ble_eq_true rfl, Nat.le_of_ble_eq_true rfl⟩ (fun H locs hG hS => ?_)
  refine lv_iconst (v := 1) hx hb dJ6_add_23 (by decide) ?_
  exact c_zretW dJ6_add_24 S hr hk hC0 hG hS h
theorem hc_X29_add : cHd yX29_add 2 := by decide +kernel
set_option maxHeartbeats 4000000 in
set_option maxRecDepth 100000 in
theorem wm_X29_add (E : gX) (l : Launch) (x0 : Nat) (x1 : Int32) (x2 : Nat) (Gz G' : GH) (h : cm_X29_add x0 x1 x2 Gz = some G') : gMetC E l yX29_add cX29_add 5 none 7 [.ref x0, .int x1, .ref x2] Gz G' none := by
  refine gMetC.of (own := RX29) (by decide +kernel) (Nat.le_of_ble_eq_true rfl) rfl ?_
  intro p e s m args below meth c S hr hk hnm hE hC0 hG hS ls hl
  have hl : lv_has ls 5 [(0, .ref x0), (1, .int x1), (2, .ref x2)] := hl
  have hx := S.1
  have hb := S.2.1
  have J42 : ∀ (x0 : Nat) (x1 : Int32) (x2 : Nat) (x3 : Int32) (G : GH) (H : Heap) (locs : List Loc) (ls : Array Slot), cm_X29_add_J42 x0 x1 x2 x3 G = some G' → gC E G H → va_S (gx_C E) s.heap H locs → lv_has ls 5 [(0, .ref x0), (1, .int x1), (2, .ref x2), (3, .int x3)] → WC E p l e (gRm 7 (cBx Gz) (cBs Gz)) s m args below meth c H locs (MQ below (gQ none (gC E G') (gx_C E)) args s (cBx Gz) (cBs Gz) (gx_C E)) (F0 m 42 ls []) := by
    intro x0 x1 x2 x3 G H locs ls h hG hS hl
    unfold cm_X29_add_J42 at h
    refine lv_aload_n hx hb dX29_add_42 rfl (lv_at hl 0 rfl) ?_
    obtain ⟨v43, e43, h⟩ := g_bd h
    refine cg_X29_20 dX29_add_43 S hE hG e43 ?_
    refine lv_iload_n hx hb dX29_add_46 rfl (lv_at hl 3 rfl) ?_
    refine lv_iload_n hx hb dX29_add_47 rfl (lv_at hl 1 rfl) ?_
    refine lv_i2b (v := x1.toInt8.toInt32) hx hb dX29_add_48 rfl ?_
    obtain ⟨G49, e49, h⟩ := g_bd h
    refine c_astB dX29_add_49 S hE hG hS hC0 e49 (fun H locs hG hS => ?_)
    refine lv_aload_n hx hb dX29_add_50 rfl (lv_at hl 0 rfl) ?_
    obtain ⟨v51, e51, h⟩ := g_bd h
    refine cg_X29_14 dX29_add_51 S hE hG e51 ?_
    refine lv_aload_n hx hb dX29_add_54 rfl (lv_at hl 2 rfl) ?_
    obtain ⟨u55, t55, h⟩ := g_bd h
    obtain ⟨qx55, e55, h⟩ := g_bd h
    refine c_cV (y := yJ6_add) (rest := []) dX29_add_55 q1627 q921 q922 q128 q923 hc_J6_add rfl S hE hG hS hC0 hl.1 rfl (c_recv hE hG (ci := 2) rfl (by decide) (c_castM t55)) (wm_J6_add E l v51 x2 G49 _ _ e55) rfl (Nat.le_of_ble_eq_true rfl) ⟨Nat.le_of_ble_eq_true rfl, Nat.le_of_ble_eq_true rfl⟩ (fun H locs hG hS => ?_)
    refine lv_pop hx hb dX29_add_58 rfl ?_
    exact c_vretW dX29_add_59 S hr hk hC0 hG hS h
  unfold cm_X29_add at h
  refine lv_aload_n hx hb dX29_add_0 rfl (lv_at hl 0 rfl) ?_
  obtain ⟨v1, e1, h⟩ := g_bd h
  refine cg_X29_14 dX29_add_1 S hE hG e1 ?_
  obtain ⟨u4, t4, h⟩ := g_bd h
  obtain ⟨v4, e4, h⟩ := g_bd h
  refine c_cV (y := yJ6_size) (rest := []) dX29_add_4 q1625 q882 q883 q128 q884 hc_J6_size rfl S hE hG hS hC0 hl.1 rfl (c_recv hE hG (ci := 2) rfl (by decide) (c_castM t4)) (wm_J6_size E l v1 Gz _ e4) rfl (Nat.le_of_ble_eq_true rfl) ⟨Nat.le_of_ble_eq_true rfl, Nat.le_of_ble_eq_true rfl⟩ (fun H locs hG hS => ?_)
  refine lv_istore_n (lv' := [(3, .int v4), (0, .ref x0), (1, .int x1), (2, .ref x2)]) hx hb dX29_add_7 rfl hl (by decide) rfl (fun ls hl => ?_)
  refine lv_iload_n hx hb dX29_add_8 rfl (lv_at hl 0 rfl) ?_
  refine lv_aload_n hx hb dX29_add_9 rfl (lv_at hl 1 rfl) ?_
  obtain ⟨v10, e10, h⟩ := g_bd h
  refine cg_X29_20 dX29_add_10 S hE hG e10 ?_
  obtain ⟨v13, e13, h⟩ := g_bd h
  refine c_len dX29_add_13 S hE hG e13 ?_
  refine lv_icmp_ne (tgt := 42) hx hb dX29_add_14 (by decide) (fun c14 => ?_) (fun c14 => ?_)
  · have h := g_if c14 h
    exact J42 x0 x1 x2 v4 Gz _ _ _ h hG hS (lv_sub hl [1, 2, 3, 0] rfl)
  · have h := g_it c14 h
    refine lv_iconst (v := 2) hx hb dX29_add_17 (by decide) ?_
    refine lv_iload_n hx hb dX29_add_18 rfl (lv_at hl 0 rfl) ?_
    refine lv_imul hx hb dX29_add_19 ?_
    obtain ⟨qx20, e20, h⟩ := g_bd h
    refine c_newB q245 dX29_add_20 S hE hG hS hC0 e20 (fun H locs hG hS => ?_)
    refine lv_astore (lv' := [(4, .ref qx20.1), (3, .int v4), (0, .ref x0), (1, .int x1), (2, .ref x2)]) hx hb dX29_add_22 hl (by decide) rfl (fun ls hl => ?_)
    refine lv_aload_n hx hb dX29_add_24 rfl (lv_at hl 2 rfl) ?_
    obtain ⟨v25, e25, h⟩ := g_bd h
    refine cg_X29_20 dX29_add_25 S hE hG e25 ?_
    refine lv_iconst (v := 0) hx hb dX29_add_28 (by decide) ?_
    refine lv_aload hx hb dX29_add_29 (lv_at hl 0 rfl) ?_
    refine lv_iconst (v := 0) hx hb dX29_add_31 (by decide) ?_
    refine lv_iload_n hx hb dX29_add_32 rfl (lv_at hl 1 rfl) ?_
    obtain ⟨G33, e33, h⟩ := g_bd h
    refine c_copy q1626 dX29_add_33 S hE hG hS hC0 hl.1 (by decide) (by decide) e33 (by decide) (fun H locs hG hS => ?_)
    refine lv_aload_n hx hb dX29_add_36 rfl (lv_at hl 2 rfl) ?_
    refine lv_aload hx hb dX29_add_37 (lv_at hl 0 rfl) ?_
    obtain ⟨G39, e39, h⟩ := g_bd h
    refine cp_X29_20 dX29_add_39 S hE hG hS hC0 e39 (fun H locs hG hS => ?_)
    exact J42 x0 x1 x2 v4 G39 _ _ _ h hG hS (lv_sub hl [2, 3, 4, 1] rfl)
theorem hc_X15_init : cHd yX15_init 0 := by decide +kernel
set_option maxHeartbeats 4000000 in
set_option maxRecDepth 100000 in
theorem wm_X15_init (E : gX) (l : Launch) (x0 : Nat) (Gz G' : GH) (h : cm_X15_init x0 Gz = some G') : gMetC E l yX15_init cX15_init 1 none 2 [.ref x0] Gz G' none := by
  refine gMetC.of (own := RX15) (by decide +kernel) (Nat.le_of_ble_eq_true rfl) rfl ?_
  intro p e s m args below meth c S hr hk hnm hE hC0 hG hS ls hl
  have hl : lv_has ls 1 [(0, .ref x0)] := hl
  have hx := S.1
  have hb := S.2.1
  unfold cm_X15_init at h
  refine lv_aload_n hx hb dX15_init_0 rfl (lv_at hl 0 rfl) ?_
  refine W.objInit hx hb S.2.2.2.1 (S.2.2.2.2 _ q1239) (S.2.2.2.2 _ q185) (S.2.2.2.2 _ q186) rfl (hl.1.trans S.2.2.1.symm) rfl dX15_init_1 (Nat.le_of_ble_eq_true rfl) (Nat.le_of_ble_eq_true rfl) ?_
  refine W.eq (g2 := F0 m 4 ls []) rfl ?_
  exact c_vretW dX15_init_4 S hr hk hC0 hG hS h
theorem hc_X12_init : cHd yX12_init 2 := by decide +kernel
set_option maxHeartbeats 4000000 in
set_option maxRecDepth 100000 in
theorem wm_X12_init (E : gX) (l : Launch) (x0 : Nat) (x1 : Int32) (x2 : Int32) (Gz G' : GH) (h : cm_X12_init x0 x1 x2 Gz = some G') : gMetC E l yX12_init cX12_init 3 none 2 [.ref x0, .int x1, .int x2] Gz G' none := by
  refine gMetC.of (own := RX12) (by decide +kernel) (Nat.le_of_ble_eq_true rfl) rfl ?_
  intro p e s m args below meth c S hr hk hnm hE hC0 hG hS ls hl
  have hl : lv_has ls 3 [(0, .ref x0), (1, .int x1), (2, .int x2)] := hl
  have hx := S.1
  have hb := S.2.1
  unfold cm_X12_init at h
  refine lv_aload_n hx hb dX12_init_0 rfl (lv_at hl 0 rfl) ?_
  refine W.objInit hx hb S.2.2.2.1 (S.2.2.2.2 _ q1164) (S.2.2.2.2 _ q185) (S.2.2.2.2 _ q186) rfl (hl.1.trans S.2.2.1.symm) rfl dX12_init_1 (Nat.le_of_ble_eq_true rfl) (Nat.le_of_ble_eq_true rfl) ?_
  refine W.eq (g2 := F0 m 4 ls []) rfl ?_
  refine lv_aload_n hx hb dX12_init_4 rfl (lv_at hl 0 rfl) ?_
  refine lv_iload_n hx hb dX12_init_5 rfl (lv_at hl 1 rfl) ?_
  obtain ⟨G6, e6, h⟩ := g_bd h
  refine cp_X12_7i dX12_init_6 S hE hG hS hC0 hnm e6 (fun H locs hG hS => ?_)
  refine lv_aload_n hx hb dX12_init_9 rfl (lv_at hl 0 rfl) ?_
  refine lv_iload_n hx hb dX12_init_10 rfl (lv_at hl 2 rfl) ?_
  obtain ⟨G11, e11, h⟩ := g_bd h
  refine cp_X12_13i dX12_init_11 S hE hG hS hC0 hnm e11 (fun H locs hG hS => ?_)
  exact c_vretW dX12_init_14 S hr hk hC0 hG hS h
theorem hc_X18_init : cHd yX18_init 1 := by decide +kernel
set_option maxHeartbeats 4000000 in
set_option maxRecDepth 100000 in
theorem wm_X18_init (E : gX) (l : Launch) (x0 : Nat) (x1 : Nat) (Gz G' : GH) (h : cm_X18_init x0 x1 Gz = some G') : gMetC E l yX18_init cX18_init 2 none 7 [.ref x0, .ref x1] Gz G' none := by
  refine gMetC.of (own := RX18) (by decide +kernel) (Nat.le_of_ble_eq_true rfl) rfl ?_
  intro p e s m args below meth c S hr hk hnm hE hC0 hG hS ls hl
  have hl : lv_has ls 2 [(0, .ref x0), (1, .ref x1)] := hl
  have hx := S.1
  have hb := S.2.1
  unfold cm_X18_init at h
  refine lv_aload_n hx hb dX18_init_0 rfl (lv_at hl 0 rfl) ?_
  refine lv_iconst (v := 5) hx hb dX18_init_1 (by decide) ?_
  obtain ⟨G2, e2, h⟩ := g_bd h
  refine c_cI (y := yX6_init) (rest := []) dX18_init_2 q1296 q1009 q148 q1010 hc_X6_init rfl S hE hG hS hC0 hl.1 rfl (wm_X6_init E l x0 5 Gz _ e2) rfl (Nat.le_of_ble_eq_true rfl) ⟨Nat.le_of_ble_eq_true rfl, Nat.le_of_ble_eq_true rfl⟩ (fun H locs hG hS => ?_)
  refine lv_aload_n hx hb dX18_init_5 rfl (lv_at hl 0 rfl) ?_
  obtain ⟨qx6, e6, h⟩ := g_bd h
  refine c_new (n := 1) dX18_init_6 q1297 q1235 q157 rfl in_X15 tyX15_ok rfl (by decide) (by decide) S hE hG hS hC0 e6 (fun H locs hG hS => ?_)
  refine lv_dup hx hb dX18_init_9 rfl ?_
  obtain ⟨G10, e10, h⟩ := g_bd h
  refine c_cIN (y := yX15_init) (rest := [.ref qx6.1, .ref x0]) dX18_init_10 (lw_nw q1298 rfl) q1237 q157 q1238 hc_X15_init rfl S hE hG hS hC0 hl.1 rfl (wm_X15_init E l qx6.1 qx6.2 _ e10) rfl (Nat.le_of_ble_eq_true rfl) ⟨Nat.le_of_ble_eq_true rfl, Nat.le_of_ble_eq_true rfl⟩ (fun H locs hG hS => ?_)
  obtain ⟨G13, e13, h⟩ := g_bd h
  refine cp_X18_12i dX18_init_13 S hE hG hS hC0 hnm e13 (fun H locs hG hS => ?_)
  refine lv_aload_n hx hb dX18_init_16 rfl (lv_at hl 0 rfl) ?_
  obtain ⟨qx17, e17, h⟩ := g_bd h
  refine c_new (n := 5) dX18_init_17 q1299 q1160 q154 rfl in_X12 tyX12_ok rfl (by decide) (by decide) S hE hG hS hC0 e17 (fun H locs hG hS => ?_)
  refine lv_dup hx hb dX18_init_20 rfl ?_
  refine lv_aload_n hx hb dX18_init_21 rfl (lv_at hl 1 rfl) ?_
  refine lv_iconst (v := 0) hx hb dX18_init_22 (by decide) ?_
  obtain ⟨v23, e23, h⟩ := g_bd h
  refine c_aldI dX18_init_23 S hE hG e23 ?_
  refine lv_aload_n hx hb dX18_init_24 rfl (lv_at hl 1 rfl) ?_
  refine lv_iconst (v := 1) hx hb dX18_init_25 (by decide) ?_
  obtain ⟨v26, e26, h⟩ := g_bd h
  refine c_aldI dX18_init_26 S hE hG e26 ?_
  obtain ⟨G27, e27, h⟩ := g_bd h
  refine c_cI (y := yX12_init) (rest := [.ref qx17.1, .ref x0]) dX18_init_27 q1300 q1162 q154 q1163 hc_X12_init rfl S hE hG hS hC0 hl.1 rfl (wm_X12_init E l qx17.1 v23 v26 qx17.2 _ e27) rfl (Nat.le_of_ble_eq_true rfl) ⟨Nat.le_of_ble_eq_true rfl, Nat.le_of_ble_eq_true rfl⟩ (fun H locs hG hS => ?_)
  obtain ⟨G30, e30, h⟩ := g_bd h
  refine cp_X18_23i dX18_init_30 S hE hG hS hC0 hnm e30 (fun H locs hG hS => ?_)
  refine lv_aload_n hx hb dX18_init_33 rfl (lv_at hl 0 rfl) ?_
  obtain ⟨qx34, e34, h⟩ := g_bd h
  refine c_new (n := 2) dX18_init_34 q1301 q1268 q159 rfl in_X17 tyX17_ok rfl (by decide) (by decide) S hE hG hS hC0 e34 (fun H locs hG hS => ?_)
  refine lv_dup hx hb dX18_init_37 rfl ?_
  refine lv_aload_n hx hb dX18_init_38 rfl (lv_at hl 1 rfl) ?_
  refine lv_iconst (v := 2) hx hb dX18_init_39 (by decide) ?_
  obtain ⟨v40, e40, h⟩ := g_bd h
  refine c_aldI dX18_init_40 S hE hG e40 ?_
  obtain ⟨G41, e41, h⟩ := g_bd h
  refine c_cI (y := yX17_init) (rest := [.ref qx34.1, .ref x0]) dX18_init_41 q1302 q1270 q159 q1271 hc_X17_init rfl S hE hG hS hC0 hl.1 rfl (wm_X17_init E l qx34.1 v40 qx34.2 _ e41) rfl (Nat.le_of_ble_eq_true rfl) ⟨Nat.le_of_ble_eq_true rfl, Nat.le_of_ble_eq_true rfl⟩ (fun H locs hG hS => ?_)
  obtain ⟨G44, e44, h⟩ := g_bd h
  refine cp_X18_30i dX18_init_44 S hE hG hS hC0 hnm e44 (fun H locs hG hS => ?_)
  exact c_vretW dX18_init_47 S hr hk hC0 hG hS h
theorem hc_X30_init : cHd yX30_init 0 := by decide +kernel
set_option maxHeartbeats 4000000 in
set_option maxRecDepth 100000 in
theorem wm_X30_init (E : gX) (l : Launch) (x0 : Nat) (Gz G' : GH) (h : cm_X30_init x0 Gz = some G') : gMetC E l yX30_init cX30_init 1 none 2 [.ref x0] Gz G' none := by
  refine gMetC.of (own := RX30) (by decide +kernel) (Nat.le_of_ble_eq_true rfl) rfl ?_
  intro p e s m args below meth c S hr hk hnm hE hC0 hG hS ls hl
  have hl : lv_has ls 1 [(0, .ref x0)] := hl
  have hx := S.1
  have hb := S.2.1
  unfold cm_X30_init at h
  refine lv_aload_n hx hb dX30_init_0 rfl (lv_at hl 0 rfl) ?_
  refine W.objInit hx hb S.2.2.2.1 (S.2.2.2.2 _ q1654) (S.2.2.2.2 _ q185) (S.2.2.2.2 _ q186) rfl (hl.1.trans S.2.2.1.symm) rfl dX30_init_1 (Nat.le_of_ble_eq_true rfl) (Nat.le_of_ble_eq_true rfl) ?_
  refine W.eq (g2 := F0 m 4 ls []) rfl ?_
  exact c_vretW dX30_init_4 S hr hk hC0 hG hS h
theorem hc_X32_init : cHd yX32_init 4 := by decide +kernel
set_option maxHeartbeats 4000000 in
set_option maxRecDepth 100000 in
theorem wm_X32_init (E : gX) (l : Launch) (x0 : Nat) (x1 : Int32) (x2 : Nat) (x3 : Nat) (x4 : Int32) (Gz G' : GH) (h : cm_X32_init x0 x1 x2 x3 x4 Gz = some G') : gMetC E l yX32_init cX32_init 5 none 3 [.ref x0, .int x1, .ref x2, .ref x3, .int x4] Gz G' none := by
  refine gMetC.of (own := RX32) (by decide +kernel) (Nat.le_of_ble_eq_true rfl) rfl ?_
  intro p e s m args below meth c S hr hk hnm hE hC0 hG hS ls hl
  have hl : lv_has ls 5 [(0, .ref x0), (1, .int x1), (2, .ref x2), (3, .ref x3), (4, .int x4)] := hl
  have hx := S.1
  have hb := S.2.1
  unfold cm_X32_init at h
  refine lv_aload_n hx hb dX32_init_0 rfl (lv_at hl 0 rfl) ?_
  obtain ⟨G1, e1, h⟩ := g_bd h
  refine c_cIN (y := yX30_init) (rest := []) dX32_init_1 (lw_nw q1667 rfl) q1652 q172 q1653 hc_X30_init rfl S hE hG hS hC0 hl.1 rfl (wm_X30_init E l x0 Gz _ e1) rfl (Nat.le_of_ble_eq_true rfl) ⟨Nat.le_of_ble_eq_true rfl, Nat.le_of_ble_eq_true rfl⟩ (fun H locs hG hS => ?_)
  refine lv_aload_n hx hb dX32_init_4 rfl (lv_at hl 0 rfl) ?_
  refine lv_iload_n hx hb dX32_init_5 rfl (lv_at hl 1 rfl) ?_
  obtain ⟨G6, e6, h⟩ := g_bd h
  refine cp_X32_9i dX32_init_6 S hE hG hS hC0 hnm e6 (fun H locs hG hS => ?_)
  refine lv_aload_n hx hb dX32_init_9 rfl (lv_at hl 0 rfl) ?_
  refine lv_aload_n hx hb dX32_init_10 rfl (lv_at hl 2 rfl) ?_
  obtain ⟨G11, e11, h⟩ := g_bd h
  refine cp_X32_15i dX32_init_11 S hE hG hS hC0 hnm e11 (fun H locs hG hS => ?_)
  refine lv_aload_n hx hb dX32_init_14 rfl (lv_at hl 0 rfl) ?_
  refine lv_aload_n hx hb dX32_init_15 rfl (lv_at hl 3 rfl) ?_
  obtain ⟨G16, e16, h⟩ := g_bd h
  refine cp_X32_19i dX32_init_16 S hE hG hS hC0 hnm e16 (fun H locs hG hS => ?_)
  refine lv_aload_n hx hb dX32_init_19 rfl (lv_at hl 0 rfl) ?_
  refine lv_iload hx hb dX32_init_20 (lv_at hl 4 rfl) ?_
  obtain ⟨G22, e22, h⟩ := g_bd h
  refine cp_X32_22i dX32_init_22 S hE hG hS hC0 hnm e22 (fun H locs hG hS => ?_)
  exact c_vretW dX32_init_25 S hr hk hC0 hG hS h
theorem hc_X19_init : cHd yX19_init 1 := by decide +kernel
set_option maxHeartbeats 4000000 in
set_option maxRecDepth 100000 in
theorem wm_X19_init (E : gX) (l : Launch) (x0 : Nat) (x1 : Nat) (Gz G' : GH) (h : cm_X19_init x0 x1 Gz = some G') : gMetC E l yX19_init cX19_init 2 none 7 [.ref x0, .ref x1] Gz G' none := by
  refine gMetC.of (own := RX19) (by decide +kernel) (Nat.le_of_ble_eq_true rfl) rfl ?_
  intro p e s m args below meth c S hr hk hnm hE hC0 hG hS ls hl
  have hl : lv_has ls 2 [(0, .ref x0), (1, .ref x1)] := hl
  have hx := S.1
  have hb := S.2.1
  unfold cm_X19_init at h
  refine lv_aload_n hx hb dX19_init_0 rfl (lv_at hl 0 rfl) ?_
  refine lv_bipush (v := 6) hx hb dX19_init_1 (by decide) ?_
  obtain ⟨G3, e3, h⟩ := g_bd h
  refine c_cI (y := yX6_init) (rest := []) dX19_init_3 q1321 q1009 q148 q1010 hc_X6_init rfl S hE hG hS hC0 hl.1 rfl (wm_X6_init E l x0 6 Gz _ e3) rfl (Nat.le_of_ble_eq_true rfl) ⟨Nat.le_of_ble_eq_true rfl, Nat.le_of_ble_eq_true rfl⟩ (fun H locs hG hS => ?_)
  refine lv_aload_n hx hb dX19_init_6 rfl (lv_at hl 0 rfl) ?_
  obtain ⟨qx7, e7, h⟩ := g_bd h
  refine c_new (n := 1) dX19_init_7 q1322 q1235 q157 rfl in_X15 tyX15_ok rfl (by decide) (by decide) S hE hG hS hC0 e7 (fun H locs hG hS => ?_)
  refine lv_dup hx hb dX19_init_10 rfl ?_
  obtain ⟨G11, e11, h⟩ := g_bd h
  refine c_cIN (y := yX15_init) (rest := [.ref qx7.1, .ref x0]) dX19_init_11 (lw_nw q1323 rfl) q1237 q157 q1238 hc_X15_init rfl S hE hG hS hC0 hl.1 rfl (wm_X15_init E l qx7.1 qx7.2 _ e11) rfl (Nat.le_of_ble_eq_true rfl) ⟨Nat.le_of_ble_eq_true rfl, Nat.le_of_ble_eq_true rfl⟩ (fun H locs hG hS => ?_)
  obtain ⟨G14, e14, h⟩ := g_bd h
  refine cp_X19_12i dX19_init_14 S hE hG hS hC0 hnm e14 (fun H locs hG hS => ?_)
  refine lv_aload_n hx hb dX19_init_17 rfl (lv_at hl 0 rfl) ?_
  obtain ⟨qx18, e18, h⟩ := g_bd h
  refine c_new (n := 8) dX19_init_18 q1324 q1098 q152 rfl in_X10 tyX10_ok rfl (by decide) (by decide) S hE hG hS hC0 e18 (fun H locs hG hS => ?_)
  refine lv_dup hx hb dX19_init_21 rfl ?_
  refine lv_aload_n hx hb dX19_init_22 rfl (lv_at hl 1 rfl) ?_
  refine lv_iconst (v := 0) hx hb dX19_init_23 (by decide) ?_
  obtain ⟨v24, e24, h⟩ := g_bd h
  refine c_aldI dX19_init_24 S hE hG e24 ?_
  obtain ⟨G25, e25, h⟩ := g_bd h
  refine c_cI (y := yX10_init) (rest := [.ref qx18.1, .ref x0]) dX19_init_25 q1325 q1100 q152 q1101 hc_X10_init rfl S hE hG hS hC0 hl.1 rfl (wm_X10_init E l qx18.1 v24 qx18.2 _ e25) rfl (Nat.le_of_ble_eq_true rfl) ⟨Nat.le_of_ble_eq_true rfl, Nat.le_of_ble_eq_true rfl⟩ (fun H locs hG hS => ?_)
  obtain ⟨G28, e28, h⟩ := g_bd h
  refine cp_X19_21i dX19_init_28 S hE hG hS hC0 hnm e28 (fun H locs hG hS => ?_)
  refine lv_aload_n hx hb dX19_init_31 rfl (lv_at hl 0 rfl) ?_
  obtain ⟨qx32, e32, h⟩ := g_bd h
  refine c_new (n := 2) dX19_init_32 q1326 q1268 q159 rfl in_X17 tyX17_ok rfl (by decide) (by decide) S hE hG hS hC0 e32 (fun H locs hG hS => ?_)
  refine lv_dup hx hb dX19_init_35 rfl ?_
  refine lv_aload_n hx hb dX19_init_36 rfl (lv_at hl 1 rfl) ?_
  refine lv_iconst (v := 1) hx hb dX19_init_37 (by decide) ?_
  obtain ⟨v38, e38, h⟩ := g_bd h
  refine c_aldI dX19_init_38 S hE hG e38 ?_
  obtain ⟨G39, e39, h⟩ := g_bd h
  refine c_cI (y := yX17_init) (rest := [.ref qx32.1, .ref x0]) dX19_init_39 q1327 q1270 q159 q1271 hc_X17_init rfl S hE hG hS hC0 hl.1 rfl (wm_X17_init E l qx32.1 v38 qx32.2 _ e39) rfl (Nat.le_of_ble_eq_true rfl) ⟨Nat.le_of_ble_eq_true rfl, Nat.le_of_ble_eq_true rfl⟩ (fun H locs hG hS => ?_)
  obtain ⟨G42, e42, h⟩ := g_bd h
  refine cp_X19_28i dX19_init_42 S hE hG hS hC0 hnm e42 (fun H locs hG hS => ?_)
  exact c_vretW dX19_init_45 S hr hk hC0 hG hS h
theorem hc_X28_init : cHd yX28_init 1 := by decide +kernel
set_option maxHeartbeats 4000000 in
set_option maxRecDepth 100000 in
theorem wm_X28_init (E : gX) (l : Launch) (x0 : Nat) (x1 : Int32) (Gz G' : GH) (h : cm_X28_init x0 x1 Gz = some G') : gMetC E l yX28_init cX28_init 2 none 3 [.ref x0, .int x1] Gz G' none := by
  refine gMetC.of (own := RX28) (by decide +kernel) (Nat.le_of_ble_eq_true rfl) rfl ?_
  intro p e s m args below meth c S hr hk hnm hE hC0 hG hS ls hl
  have hl : lv_has ls 2 [(0, .ref x0), (1, .int x1)] := hl
  have hx := S.1
  have hb := S.2.1
  unfold cm_X28_init at h
  refine lv_aload_n hx hb dX28_init_0 rfl (lv_at hl 0 rfl) ?_
  obtain ⟨G1, e1, h⟩ := g_bd h
  refine c_cIN (y := yX23_init) (rest := []) dX28_init_1 (lw_nw q1598 rfl) q1536 q165 q1537 hc_X23_init rfl S hE hG hS hC0 hl.1 rfl (wm_X23_init E l x0 Gz _ e1) rfl (Nat.le_of_ble_eq_true rfl) ⟨Nat.le_of_ble_eq_true rfl, Nat.le_of_ble_eq_true rfl⟩ (fun H locs hG hS => ?_)
  refine lv_aload_n hx hb dX28_init_4 rfl (lv_at hl 0 rfl) ?_
  refine lv_iload_n hx hb dX28_init_5 rfl (lv_at hl 1 rfl) ?_
  obtain ⟨G6, e6, h⟩ := g_bd h
  refine cp_X28_7i dX28_init_6 S hE hG hS hC0 hnm e6 (fun H locs hG hS => ?_)
  exact c_vretW dX28_init_9 S hr hk hC0 hG hS h
theorem hc_X24_init : cHd yX24_init 1 := by decide +kernel
set_option maxHeartbeats 4000000 in
set_option maxRecDepth 100000 in
theorem wm_X24_init (E : gX) (l : Launch) (x0 : Nat) (x1 : Nat) (Gz G' : GH) (h : cm_X24_init x0 x1 Gz = some G') : gMetC E l yX24_init cX24_init 2 none 3 [.ref x0, .ref x1] Gz G' none := by
  refine gMetC.of (own := RX24) (by decide +kernel) (Nat.le_of_ble_eq_true rfl) rfl ?_
  intro p e s m args below meth c S hr hk hnm hE hC0 hG hS ls hl
  have hl : lv_has ls 2 [(0, .ref x0), (1, .ref x1)] := hl
  have hx := S.1
  have hb := S.2.1
  unfold cm_X24_init at h
  refine lv_aload_n hx hb dX24_init_0 rfl (lv_at hl 0 rfl) ?_
  obtain ⟨G1, e1, h⟩ := g_bd h
  refine c_cIN (y := yX23_init) (rest := []) dX24_init_1 (lw_nw q1535 rfl) q1536 q165 q1537 hc_X23_init rfl S hE hG hS hC0 hl.1 rfl (wm_X23_init E l x0 Gz _ e1) rfl (Nat.le_of_ble_eq_true rfl) ⟨Nat.le_of_ble_eq_true rfl, Nat.le_of_ble_eq_true rfl⟩ (fun H locs hG hS => ?_)
  refine lv_aload_n hx hb dX24_init_4 rfl (lv_at hl 0 rfl) ?_
  refine lv_aload_n hx hb dX24_init_5 rfl (lv_at hl 1 rfl) ?_
  obtain ⟨G6, e6, h⟩ := g_bd h
  refine cp_X24_7i dX24_init_6 S hE hG hS hC0 hnm e6 (fun H locs hG hS => ?_)
  exact c_vretW dX24_init_9 S hr hk hC0 hG hS h
theorem hc_J19_init : cHd yJ19_init 0 := by decide +kernel
set_option maxHeartbeats 4000000 in
set_option maxRecDepth 100000 in
theorem wm_J19_init (E : gX) (l : Launch) (x0 : Nat) (Gz G' : GH) (h : cm_J19_init x0 Gz = some G') : gMetC E l yJ19_init cJ19_init 1 none 2 [.ref x0] Gz G' none := by
  refine gMetC.of (own := RJ19) (by decide +kernel) (Nat.le_of_ble_eq_true rfl) rfl ?_
  intro p e s m args below meth c S hr hk hnm hE hC0 hG hS ls hl
  have hl : lv_has ls 1 [(0, .ref x0)] := hl
  have hx := S.1
  have hb := S.2.1
  unfold cm_J19_init at h
  refine lv_aload_n hx hb dJ19_init_0 rfl (lv_at hl 0 rfl) ?_
  refine W.objInit hx hb S.2.2.2.1 (S.2.2.2.2 _ q909) (S.2.2.2.2 _ q185) (S.2.2.2.2 _ q186) rfl (hl.1.trans S.2.2.1.symm) rfl dJ19_init_1 (Nat.le_of_ble_eq_true rfl) (Nat.le_of_ble_eq_true rfl) ?_
  refine W.eq (g2 := F0 m 4 ls []) rfl ?_
  exact c_vretW dJ19_init_4 S hr hk hC0 hG hS h
theorem hc_X5_init : cHd yX5_init 3 := by decide +kernel
set_option maxHeartbeats 4000000 in
set_option maxRecDepth 100000 in
theorem wm_X5_init (E : gX) (l : Launch) (x0 : Nat) (x1 : Int64) (x3 : Int32) (x4 : Int32) (Gz G' : GH) (h : cm_X5_init x0 x1 x3 x4 Gz = some G') : gMetC E l yX5_init cX5_init 5 none 3 [.ref x0, .long x1, .int x3, .int x4] Gz G' none := by
  refine gMetC.of (own := RX5) (by decide +kernel) (Nat.le_of_ble_eq_true rfl) rfl ?_
  intro p e s m args below meth c S hr hk hnm hE hC0 hG hS ls hl
  have hl : lv_has ls 5 [(0, .ref x0), (1, .long x1), (3, .int x3), (4, .int x4)] := hl
  have hx := S.1
  have hb := S.2.1
  unfold cm_X5_init at h
  refine lv_aload_n hx hb dX5_init_0 rfl (lv_at hl 0 rfl) ?_
  obtain ⟨G1, e1, h⟩ := g_bd h
  refine c_cI (y := yJ19_init) (rest := []) dX5_init_1 q906 q907 q146 q908 hc_J19_init rfl S hE hG hS hC0 hl.1 rfl (wm_J19_init E l x0 Gz _ e1) rfl (Nat.le_of_ble_eq_true rfl) ⟨Nat.le_of_ble_eq_true rfl, Nat.le_of_ble_eq_true rfl⟩ (fun H locs hG hS => ?_)
  refine lv_aload_n hx hb dX5_init_4 rfl (lv_at hl 0 rfl) ?_
  refine lv_lload_n hx hb dX5_init_5 rfl (lv_at hl 1 rfl) ?_
  obtain ⟨G6, e6, h⟩ := g_bd h
  refine cp_X5_7i dX5_init_6 S hE hG hS hC0 hnm e6 (fun H locs hG hS => ?_)
  refine lv_aload_n hx hb dX5_init_9 rfl (lv_at hl 0 rfl) ?_
  refine lv_iload_n hx hb dX5_init_10 rfl (lv_at hl 2 rfl) ?_
  obtain ⟨G11, e11, h⟩ := g_bd h
  refine cp_X5_13i dX5_init_11 S hE hG hS hC0 hnm e11 (fun H locs hG hS => ?_)
  refine lv_aload_n hx hb dX5_init_14 rfl (lv_at hl 0 rfl) ?_
  refine lv_iload hx hb dX5_init_15 (lv_at hl 3 rfl) ?_
  obtain ⟨G17, e17, h⟩ := g_bd h
  refine cp_X5_17i dX5_init_17 S hE hG hS hC0 hnm e17 (fun H locs hG hS => ?_)
  exact c_vretW dX5_init_20 S hr hk hC0 hG hS h
theorem hc_X5_number : cHd yX5_number 0 := by decide +kernel
set_option maxHeartbeats 4000000 in
set_option maxRecDepth 100000 in
theorem wm_X5_number (E : gX) (l : Launch) (x0 : Nat) (Gz : GH) (r : Int32) (h : cm_X5_number x0 Gz = some r) : gMetC E l yX5_number cX5_number 1 (some Jvm.ClassFile.FieldType.int) 2 [.ref x0] Gz Gz (some (.int r)) := by
  refine gMetC.of (own := RX5) (by decide +kernel) (Nat.le_of_ble_eq_true rfl) rfl ?_
  intro p e s m args below meth c S hr hk hnm hE hC0 hG hS ls hl
  have hl : lv_has ls 1 [(0, .ref x0)] := hl
  have hx := S.1
  have hb := S.2.1
  unfold cm_X5_number at h
  refine lv_aload_n hx hb dX5_number_0 rfl (lv_at hl 0 rfl) ?_
  obtain ⟨v1, e1, h⟩ := g_bd h
  refine cg_X5_17 dX5_number_1 S hE hG e1 ?_
  exact c_iretR dX5_number_4 S hr hk hC0 hG hS h
theorem hc_X5_sort : cHd yX5_sort 0 := by decide +kernel
set_option maxHeartbeats 4000000 in
set_option maxRecDepth 100000 in
theorem wm_X5_sort (E : gX) (l : Launch) (x0 : Nat) (Gz : GH) (r : Int32) (h : cm_X5_sort x0 Gz = some r) : gMetC E l yX5_sort cX5_sort 1 (some Jvm.ClassFile.FieldType.int) 2 [.ref x0] Gz Gz (some (.int r)) := by
  refine gMetC.of (own := RX5) (by decide +kernel) (Nat.le_of_ble_eq_true rfl) rfl ?_
  intro p e s m args below meth c S hr hk hnm hE hC0 hG hS ls hl
  have hl : lv_has ls 1 [(0, .ref x0)] := hl
  have hx := S.1
  have hb := S.2.1
  unfold cm_X5_sort at h
  refine lv_aload_n hx hb dX5_sort_0 rfl (lv_at hl 0 rfl) ?_
  obtain ⟨v1, e1, h⟩ := g_bd h
  refine cg_X5_13 dX5_sort_1 S hE hG e1 ?_
  exact c_iretR dX5_sort_4 S hr hk hC0 hG hS h
theorem hc_X5_word : cHd yX5_word 0 := by decide +kernel
set_option maxHeartbeats 4000000 in
set_option maxRecDepth 100000 in
theorem wm_X5_word (E : gX) (l : Launch) (x0 : Nat) (Gz : GH) (r : Int64) (h : cm_X5_word x0 Gz = some r) : gMetC E l yX5_word cX5_word 1 (some Jvm.ClassFile.FieldType.long) 2 [.ref x0] Gz Gz (some (.long r)) := by
  refine gMetC.of (own := RX5) (by decide +kernel) (Nat.le_of_ble_eq_true rfl) rfl ?_
  intro p e s m args below meth c S hr hk hnm hE hC0 hG hS ls hl
  have hl : lv_has ls 1 [(0, .ref x0)] := hl
  have hx := S.1
  have hb := S.2.1
  unfold cm_X5_word at h
  refine lv_aload_n hx hb dX5_word_0 rfl (lv_at hl 0 rfl) ?_
  obtain ⟨v1, e1, h⟩ := g_bd h
  refine cg_X5_7 dX5_word_1 S hE hG e1 ?_
  exact c_lretR dX5_word_4 S hr hk hC0 hG hS h
theorem hc_X25_init : cHd yX25_init 1 := by decide +kernel
set_option maxHeartbeats 4000000 in
set_option maxRecDepth 100000 in
theorem wm_X25_init (E : gX) (l : Launch) (x0 : Nat) (x1 : Int32) (Gz G' : GH) (h : cm_X25_init x0 x1 Gz = some G') : gMetC E l yX25_init cX25_init 2 none 3 [.ref x0, .int x1] Gz G' none := by
  refine gMetC.of (own := RX25) (by decide +kernel) (Nat.le_of_ble_eq_true rfl) rfl ?_
  intro p e s m args below meth c S hr hk hnm hE hC0 hG hS ls hl
  have hl : lv_has ls 2 [(0, .ref x0), (1, .int x1)] := hl
  have hx := S.1
  have hb := S.2.1
  unfold cm_X25_init at h
  refine lv_aload_n hx hb dX25_init_0 rfl (lv_at hl 0 rfl) ?_
  obtain ⟨G1, e1, h⟩ := g_bd h
  refine c_cIN (y := yX23_init) (rest := []) dX25_init_1 (lw_nw q1548 rfl) q1536 q165 q1537 hc_X23_init rfl S hE hG hS hC0 hl.1 rfl (wm_X23_init E l x0 Gz _ e1) rfl (Nat.le_of_ble_eq_true rfl) ⟨Nat.le_of_ble_eq_true rfl, Nat.le_of_ble_eq_true rfl⟩ (fun H locs hG hS => ?_)
  refine lv_aload_n hx hb dX25_init_4 rfl (lv_at hl 0 rfl) ?_
  refine lv_iload_n hx hb dX25_init_5 rfl (lv_at hl 1 rfl) ?_
  obtain ⟨G6, e6, h⟩ := g_bd h
  refine cp_X25_7i dX25_init_6 S hE hG hS hC0 hnm e6 (fun H locs hG hS => ?_)
  exact c_vretW dX25_init_9 S hr hk hC0 hG hS h
theorem hc_X9_init : cHd yX9_init 2 := by decide +kernel
set_option maxHeartbeats 4000000 in
set_option maxRecDepth 100000 in
theorem wm_X9_init (E : gX) (l : Launch) (x0 : Nat) (x1 : Int32) (x2 : Int32) (Gz G' : GH) (h : cm_X9_init x0 x1 x2 Gz = some G') : gMetC E l yX9_init cX9_init 3 none 2 [.ref x0, .int x1, .int x2] Gz G' none := by
  refine gMetC.of (own := RX9) (by decide +kernel) (Nat.le_of_ble_eq_true rfl) rfl ?_
  intro p e s m args below meth c S hr hk hnm hE hC0 hG hS ls hl
  have hl : lv_has ls 3 [(0, .ref x0), (1, .int x1), (2, .int x2)] := hl
  have hx := S.1
  have hb := S.2.1
  unfold cm_X9_init at h
  refine lv_aload_n hx hb dX9_init_0 rfl (lv_at hl 0 rfl) ?_
  refine W.objInit hx hb S.2.2.2.1 (S.2.2.2.2 _ q1075) (S.2.2.2.2 _ q185) (S.2.2.2.2 _ q186) rfl (hl.1.trans S.2.2.1.symm) rfl dX9_init_1 (Nat.le_of_ble_eq_true rfl) (Nat.le_of_ble_eq_true rfl) ?_
  refine W.eq (g2 := F0 m 4 ls []) rfl ?_
  refine lv_aload_n hx hb dX9_init_4 rfl (lv_at hl 0 rfl) ?_
  refine lv_iload_n hx hb dX9_init_5 rfl (lv_at hl 1 rfl) ?_
  obtain ⟨G6, e6, h⟩ := g_bd h
  refine cp_X9_7i dX9_init_6 S hE hG hS hC0 hnm e6 (fun H locs hG hS => ?_)
  refine lv_aload_n hx hb dX9_init_9 rfl (lv_at hl 0 rfl) ?_
  refine lv_iload_n hx hb dX9_init_10 rfl (lv_at hl 2 rfl) ?_
  obtain ⟨G11, e11, h⟩ := g_bd h
  refine cp_X9_13i dX9_init_11 S hE hG hS hC0 hnm e11 (fun H locs hG hS => ?_)
  exact c_vretW dX9_init_14 S hr hk hC0 hG hS h
theorem hc_X14_init : cHd yX14_init 1 := by decide +kernel
set_option maxHeartbeats 4000000 in
set_option maxRecDepth 100000 in
theorem wm_X14_init (E : gX) (l : Launch) (x0 : Nat) (x1 : Nat) (Gz G' : GH) (h : cm_X14_init x0 x1 Gz = some G') : gMetC E l yX14_init cX14_init 2 none 7 [.ref x0, .ref x1] Gz G' none := by
  refine gMetC.of (own := RX14) (by decide +kernel) (Nat.le_of_ble_eq_true rfl) rfl ?_
  intro p e s m args below meth c S hr hk hnm hE hC0 hG hS ls hl
  have hl : lv_has ls 2 [(0, .ref x0), (1, .ref x1)] := hl
  have hx := S.1
  have hb := S.2.1
  unfold cm_X14_init at h
  refine lv_aload_n hx hb dX14_init_0 rfl (lv_at hl 0 rfl) ?_
  refine lv_iconst (v := 3) hx hb dX14_init_1 (by decide) ?_
  obtain ⟨G2, e2, h⟩ := g_bd h
  refine c_cI (y := yX6_init) (rest := []) dX14_init_2 q1233 q1009 q148 q1010 hc_X6_init rfl S hE hG hS hC0 hl.1 rfl (wm_X6_init E l x0 3 Gz _ e2) rfl (Nat.le_of_ble_eq_true rfl) ⟨Nat.le_of_ble_eq_true rfl, Nat.le_of_ble_eq_true rfl⟩ (fun H locs hG hS => ?_)
  refine lv_aload_n hx hb dX14_init_5 rfl (lv_at hl 0 rfl) ?_
  obtain ⟨qx6, e6, h⟩ := g_bd h
  refine c_new (n := 1) dX14_init_6 q1234 q1235 q157 rfl in_X15 tyX15_ok rfl (by decide) (by decide) S hE hG hS hC0 e6 (fun H locs hG hS => ?_)
  refine lv_dup hx hb dX14_init_9 rfl ?_
  obtain ⟨G10, e10, h⟩ := g_bd h
  refine c_cIN (y := yX15_init) (rest := [.ref qx6.1, .ref x0]) dX14_init_10 (lw_nw q1236 rfl) q1237 q157 q1238 hc_X15_init rfl S hE hG hS hC0 hl.1 rfl (wm_X15_init E l qx6.1 qx6.2 _ e10) rfl (Nat.le_of_ble_eq_true rfl) ⟨Nat.le_of_ble_eq_true rfl, Nat.le_of_ble_eq_true rfl⟩ (fun H locs hG hS => ?_)
  obtain ⟨G13, e13, h⟩ := g_bd h
  refine cp_X14_12i dX14_init_13 S hE hG hS hC0 hnm e13 (fun H locs hG hS => ?_)
  refine lv_aload_n hx hb dX14_init_16 rfl (lv_at hl 0 rfl) ?_
  obtain ⟨qx17, e17, h⟩ := g_bd h
  refine c_new (n := 4) dX14_init_17 q1249 q1071 q151 rfl in_X9 tyX9_ok rfl (by decide) (by decide) S hE hG hS hC0 e17 (fun H locs hG hS => ?_)
  refine lv_dup hx hb dX14_init_20 rfl ?_
  refine lv_aload_n hx hb dX14_init_21 rfl (lv_at hl 1 rfl) ?_
  refine lv_iconst (v := 0) hx hb dX14_init_22 (by decide) ?_
  obtain ⟨v23, e23, h⟩ := g_bd h
  refine c_aldI dX14_init_23 S hE hG e23 ?_
  refine lv_aload_n hx hb dX14_init_24 rfl (lv_at hl 1 rfl) ?_
  refine lv_iconst (v := 1) hx hb dX14_init_25 (by decide) ?_
  obtain ⟨v26, e26, h⟩ := g_bd h
  refine c_aldI dX14_init_26 S hE hG e26 ?_
  obtain ⟨G27, e27, h⟩ := g_bd h
  refine c_cI (y := yX9_init) (rest := [.ref qx17.1, .ref x0]) dX14_init_27 q1250 q1073 q151 q1074 hc_X9_init rfl S hE hG hS hC0 hl.1 rfl (wm_X9_init E l qx17.1 v23 v26 qx17.2 _ e27) rfl (Nat.le_of_ble_eq_true rfl) ⟨Nat.le_of_ble_eq_true rfl, Nat.le_of_ble_eq_true rfl⟩ (fun H locs hG hS => ?_)
  obtain ⟨G30, e30, h⟩ := g_bd h
  refine cp_X14_23i dX14_init_30 S hE hG hS hC0 hnm e30 (fun H locs hG hS => ?_)
  exact c_vretW dX14_init_33 S hr hk hC0 hG hS h
theorem hc_X3_init : cHd yX3_init 2 := by decide +kernel
set_option maxHeartbeats 4000000 in
set_option maxRecDepth 100000 in
theorem wm_X3_init (E : gX) (l : Launch) (x0 : Nat) (x1 : Nat) (x2 : Int32) (Gz G' : GH) (h : cm_X3_init x0 x1 x2 Gz = some G') : gMetC E l yX3_init cX3_init 3 none 5 [.ref x0, .ref x1, .int x2] Gz G' none := by
  refine gMetC.of (own := RX3) (by decide +kernel) (Nat.le_of_ble_eq_true rfl) rfl ?_
  intro p e s m args below meth c S hr hk hnm hE hC0 hG hS ls hl
  have hl : lv_has ls 3 [(0, .ref x0), (1, .ref x1), (2, .int x2)] := hl
  have hx := S.1
  have hb := S.2.1
  unfold cm_X3_init at h
  refine lv_aload_n hx hb dX3_init_0 rfl (lv_at hl 0 rfl) ?_
  refine W.objInit hx hb S.2.2.2.1 (S.2.2.2.2 _ q336) (S.2.2.2.2 _ q185) (S.2.2.2.2 _ q186) rfl (hl.1.trans S.2.2.1.symm) rfl dX3_init_1 (Nat.le_of_ble_eq_true rfl) (Nat.le_of_ble_eq_true rfl) ?_
  refine W.eq (g2 := F0 m 4 ls []) rfl ?_
  refine lv_aload_n hx hb dX3_init_4 rfl (lv_at hl 0 rfl) ?_
  obtain ⟨qx5, e5, h⟩ := g_bd h
  refine c_new (n := 3) dX3_init_5 q337 q338 q128 rfl in_J6 tyJ6_ok rfl (by decide) (by decide) S hE hG hS hC0 e5 (fun H locs hG hS => ?_)
  refine lv_dup hx hb dX3_init_8 rfl ?_
  obtain ⟨G9, e9, h⟩ := g_bd h
  refine c_cI (y := yJ6_init) (rest := [.ref qx5.1, .ref x0]) dX3_init_9 q339 q340 q128 q341 hc_J6_init rfl S hE hG hS hC0 hl.1 rfl (wm_J6_init E l qx5.1 qx5.2 _ e9) rfl (Nat.le_of_ble_eq_true rfl) ⟨Nat.le_of_ble_eq_true rfl, Nat.le_of_ble_eq_true rfl⟩ (fun H locs hG hS => ?_)
  obtain ⟨G12, e12, h⟩ := g_bd h
  refine cp_X3_12i dX3_init_12 S hE hG hS hC0 hnm e12 (fun H locs hG hS => ?_)
  refine lv_aload_n hx hb dX3_init_15 rfl (lv_at hl 0 rfl) ?_
  obtain ⟨qx16, e16, h⟩ := g_bd h
  refine c_new (n := 3) dX3_init_16 q337 q338 q128 rfl in_J6 tyJ6_ok rfl (by decide) (by decide) S hE hG hS hC0 e16 (fun H locs hG hS => ?_)
  refine lv_dup hx hb dX3_init_19 rfl ?_
  obtain ⟨G20, e20, h⟩ := g_bd h
  refine c_cI (y := yJ6_init) (rest := [.ref qx16.1, .ref x0]) dX3_init_20 q339 q340 q128 q341 hc_J6_init rfl S hE hG hS hC0 hl.1 rfl (wm_J6_init E l qx16.1 qx16.2 _ e20) rfl (Nat.le_of_ble_eq_true rfl) ⟨Nat.le_of_ble_eq_true rfl, Nat.le_of_ble_eq_true rfl⟩ (fun H locs hG hS => ?_)
  obtain ⟨G23, e23, h⟩ := g_bd h
  refine cp_X3_18i dX3_init_23 S hE hG hS hC0 hnm e23 (fun H locs hG hS => ?_)
  refine lv_aload_n hx hb dX3_init_26 rfl (lv_at hl 0 rfl) ?_
  obtain ⟨qx27, e27, h⟩ := g_bd h
  refine c_new (n := 3) dX3_init_27 q337 q338 q128 rfl in_J6 tyJ6_ok rfl (by decide) (by decide) S hE hG hS hC0 e27 (fun H locs hG hS => ?_)
  refine lv_dup hx hb dX3_init_30 rfl ?_
  refine lv_bipush (v := 12) hx hb dX3_init_31 (by decide) ?_
  obtain ⟨G33, e33, h⟩ := g_bd h
  refine c_cI (y := yJ6_init_2) (rest := [.ref qx27.1, .ref x0]) dX3_init_33 q363 q364 q128 q365 hc_J6_init_2 rfl S hE hG hS hC0 hl.1 rfl (wm_J6_init_2 E l qx27.1 12 qx27.2 _ e33) rfl (Nat.le_of_ble_eq_true rfl) ⟨Nat.le_of_ble_eq_true rfl, Nat.le_of_ble_eq_true rfl⟩ (fun H locs hG hS => ?_)
  obtain ⟨G36, e36, h⟩ := g_bd h
  refine cp_X3_24i dX3_init_36 S hE hG hS hC0 hnm e36 (fun H locs hG hS => ?_)
  refine lv_aload_n hx hb dX3_init_39 rfl (lv_at hl 0 rfl) ?_
  refine lv_bipush (v := 6) hx hb dX3_init_40 (by decide) ?_
  obtain ⟨qx42, e42, h⟩ := g_bd h
  refine c_newI q246 dX3_init_42 S hE hG hS hC0 e42 (fun H locs hG hS => ?_)
  obtain ⟨G44, e44, h⟩ := g_bd h
  refine cp_X3_27i dX3_init_44 S hE hG hS hC0 hnm e44 (fun H locs hG hS => ?_)
  refine lv_aload_n hx hb dX3_init_47 rfl (lv_at hl 0 rfl) ?_
  refine lv_sipush (v := 9999) hx hb dX3_init_48 (by decide) ?_
  obtain ⟨G51, e51, h⟩ := g_bd h
  refine cp_X3_31i dX3_init_51 S hE hG hS hC0 hnm e51 (fun H locs hG hS => ?_)
  refine lv_aload_n hx hb dX3_init_54 rfl (lv_at hl 0 rfl) ?_
  refine lv_aload_n hx hb dX3_init_55 rfl (lv_at hl 1 rfl) ?_
  obtain ⟨G56, e56, h⟩ := g_bd h
  refine cp_X3_35i dX3_init_56 S hE hG hS hC0 hnm e56 (fun H locs hG hS => ?_)
  refine lv_aload_n hx hb dX3_init_59 rfl (lv_at hl 0 rfl) ?_
  refine lv_iload_n hx hb dX3_init_60 rfl (lv_at hl 2 rfl) ?_
  obtain ⟨G61, e61, h⟩ := g_bd h
  refine cp_X3_39i dX3_init_61 S hE hG hS hC0 hnm e61 (fun H locs hG hS => ?_)
  exact c_vretW dX3_init_64 S hr hk hC0 hG hS h
theorem hc_X8_add : cHd yX8_add 1 := by decide +kernel
set_option maxHeartbeats 4000000 in
set_option maxRecDepth 100000 in
theorem wm_X8_add (E : gX) (l : Launch) (x0 : Nat) (x1 : Nat) (Gz G' : GH) (r : Int32) (h : cm_X8_add x0 x1 Gz = some (r, G')) : gMetC E l yX8_add cX8_add 2 (some Jvm.ClassFile.FieldType.int) 7 [.ref x0, .ref x1] Gz G' (some (.int r)) := by
  refine gMetC.of (own := RX8) (by decide +kernel) (Nat.le_of_ble_eq_true rfl) rfl ?_
  intro p e s m args below meth c S hr hk hnm hE hC0 hG hS ls hl
  have hl : lv_has ls 2 [(0, .ref x0), (1, .ref x1)] := hl
  have hx := S.1
  have hb := S.2.1
  unfold cm_X8_add at h
  refine lv_aload_n hx hb dX8_add_0 rfl (lv_at hl 0 rfl) ?_
  obtain ⟨v1, e1, h⟩ := g_bd h
  refine cg_X8_12 dX8_add_1 S hE hG e1 ?_
  refine lv_aload_n hx hb dX8_add_4 rfl (lv_at hl 1 rfl) ?_
  obtain ⟨u5, t5, h⟩ := g_bd h
  obtain ⟨qx5, e5, h⟩ := g_bd h
  refine c_cV (y := yJ6_add) (rest := []) dX8_add_5 q1512 q921 q922 q128 q923 hc_J6_add rfl S hE hG hS hC0 hl.1 rfl (c_recv hE hG (ci := 2) rfl (by decide) (c_castM t5)) (wm_J6_add E l v1 x1 Gz _ _ e5) rfl (Nat.le_of_ble_eq_true rfl) ⟨Nat.le_of_ble_eq_true rfl, Nat.le_of_ble_eq_true rfl⟩ (fun H locs hG hS => ?_)
  refine lv_pop hx hb dX8_add_8 rfl ?_
  refine lv_aload_n hx hb dX8_add_9 rfl (lv_at hl 0 rfl) ?_
  obtain ⟨v10, e10, h⟩ := g_bd h
  refine cg_X8_12 dX8_add_10 S hE hG e10 ?_
  obtain ⟨u13, t13, h⟩ := g_bd h
  obtain ⟨v13, e13, h⟩ := g_bd h
  refine c_cV (y := yJ6_size) (rest := []) dX8_add_13 q1513 q882 q883 q128 q884 hc_J6_size rfl S hE hG hS hC0 hl.1 rfl (c_recv hE hG (ci := 2) rfl (by decide) (c_castM t13)) (wm_J6_size E l v10 qx5.2 _ e13) rfl (Nat.le_of_ble_eq_true rfl) ⟨Nat.le_of_ble_eq_true rfl, Nat.le_of_ble_eq_true rfl⟩ (fun H locs hG hS => ?_)
  refine lv_iconst (v := 1) hx hb dX8_add_16 (by decide) ?_
  refine lv_isub hx hb dX8_add_17 ?_
  exact c_iretW dX8_add_18 S hr hk hC0 hG hS h
theorem hc_X3_act : cHd yX3_act 2 := by decide +kernel
set_option maxHeartbeats 4000000 in
set_option maxRecDepth 100000 in
theorem wm_X3_act (E : gX) (l : Launch) (x0 : Nat) (x1 : Int32) (x2 : Int32) (Gz G' : GH) (r : Nat) (h : cm_X3_act x0 x1 x2 Gz = some (r, G')) : gMetC E l yX3_act cX3_act 4 (some (Jvm.ClassFile.FieldType.object "FairHouse$Act")) 8 [.ref x0, .int x1, .int x2] Gz G' (some (.ref r)) := by
  refine gMetC.of (own := RX3) (by decide +kernel) (Nat.le_of_ble_eq_true rfl) rfl ?_
  intro p e s m args below meth c S hr hk hnm hE hC0 hG hS ls hl
  have hl : lv_has ls 4 [(0, .ref x0), (1, .int x1), (2, .int x2)] := hl
  have hx := S.1
  have hb := S.2.1
  unfold cm_X3_act at h
  obtain ⟨qx0, e0, h⟩ := g_bd h
  refine c_new (n := 6) dX3_act_0 q1473 q1474 q164 rfl in_X22 tyX22_ok rfl (by decide) (by decide) S hE hG hS hC0 e0 (fun H locs hG hS => ?_)
  refine lv_dup hx hb dX3_act_3 rfl ?_
  refine lv_iload_n hx hb dX3_act_4 rfl (lv_at hl 1 rfl) ?_
  refine lv_iload_n hx hb dX3_act_5 rfl (lv_at hl 2 rfl) ?_
  obtain ⟨G6, e6, h⟩ := g_bd h
  refine c_cI (y := yX22_init) (rest := [.ref qx0.1]) dX3_act_6 q1475 q1476 q164 q1477 hc_X22_init rfl S hE hG hS hC0 hl.1 rfl (wm_X22_init E l qx0.1 x1 x2 qx0.2 _ e6) rfl (Nat.le_of_ble_eq_true rfl) ⟨Nat.le_of_ble_eq_true rfl, Nat.le_of_ble_eq_true rfl⟩ (fun H locs hG hS => ?_)
  refine lv_astore_n (lv' := [(3, .ref qx0.1), (0, .ref x0), (1, .int x1), (2, .int x2)]) hx hb dX3_act_9 rfl hl (by decide) rfl (fun ls hl => ?_)
  refine lv_aload_n hx hb dX3_act_10 rfl (lv_at hl 1 rfl) ?_
  obtain ⟨v11, e11, h⟩ := g_bd h
  refine cg_X3_216 dX3_act_11 S hE hG e11 ?_
  obtain ⟨v14, e14, h⟩ := g_bd h
  refine cg_X3_229 dX3_act_14 S hE hG e14 ?_
  refine lv_aload_n hx hb dX3_act_17 rfl (lv_at hl 0 rfl) ?_
  obtain ⟨u18, t18, h⟩ := g_bd h
  obtain ⟨qx18, e18, h⟩ := g_bd h
  refine c_cV (y := yX8_add) (rest := []) dX3_act_18 q1508 q1509 q1510 q150 q1511 hc_X8_add rfl S hE hG hS hC0 hl.1 rfl (c_recv hE hG (ci := 14) rfl (by decide) (c_castM t18)) (wm_X8_add E l v14 qx0.1 G6 _ _ e18) rfl (Nat.le_of_ble_eq_true rfl) ⟨Nat.le_of_ble_eq_true rfl, Nat.le_of_ble_eq_true rfl⟩ (fun H locs hG hS => ?_)
  refine lv_pop hx hb dX3_act_21 rfl ?_
  refine lv_aload_n hx hb dX3_act_22 rfl (lv_at hl 0 rfl) ?_
  exact c_aretW dX3_act_23 (Or.inl ⟨_, rfl⟩) S hr hk hC0 hG hS h
theorem hc_X3_at : cHd yX3_at 1 := by decide +kernel
set_option maxHeartbeats 4000000 in
set_option maxRecDepth 100000 in
theorem wm_X3_at (E : gX) (l : Launch) (x0 : Nat) (x1 : Int32) (Gz : GH) (r : Int32) (h : cm_X3_at x0 x1 Gz = some r) : gMetC E l yX3_at cX3_at 2 (some Jvm.ClassFile.FieldType.int) 2 [.ref x0, .int x1] Gz Gz (some (.int r)) := by
  refine gMetC.of (own := RX3) (by decide +kernel) (Nat.le_of_ble_eq_true rfl) rfl ?_
  intro p e s m args below meth c S hr hk hnm hE hC0 hG hS ls hl
  have hl : lv_has ls 2 [(0, .ref x0), (1, .int x1)] := hl
  have hx := S.1
  have hb := S.2.1
  unfold cm_X3_at at h
  refine lv_iload_n hx hb dX3_at_0 rfl (lv_at hl 1 rfl) ?_
  refine lv_aload_n hx hb dX3_at_1 rfl (lv_at hl 0 rfl) ?_
  obtain ⟨v2, e2, h⟩ := g_bd h
  refine cg_X3_39 dX3_at_2 S hE hG e2 ?_
  refine lv_icmp_ge (tgt := 17) hx hb dX3_at_5 (by decide) (fun c5 => ?_) (fun c5 => ?_)
  · have h := g_it c5 h
    refine lv_iconst (v := 0) hx hb dX3_at_17 (by decide) ?_
    exact c_iretR dX3_at_18 S hr hk hC0 hG hS h
  · have h := g_if c5 h
    refine lv_aload_n hx hb dX3_at_8 rfl (lv_at hl 0 rfl) ?_
    obtain ⟨v9, e9, h⟩ := g_bd h
    refine cg_X3_35 dX3_at_9 S hE hG e9 ?_
    refine lv_iload_n hx hb dX3_at_12 rfl (lv_at hl 1 rfl) ?_
    obtain ⟨v13, e13, h⟩ := g_bd h
    refine c_aldB dX3_at_13 S hE hG e13 ?_
    refine lv_goto (tgt := 18) hx hb dX3_at_14 (by decide) ?_
    exact c_iretR dX3_at_18 S hr hk hC0 hG hS h
