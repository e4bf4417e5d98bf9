/-! walks of the component's methods: printed by cgen.py -/
set_option maxRecDepth 100000
theorem hc_X1_stalls : cHd yX1_stalls 3 := by decide +kernel
set_option maxHeartbeats 4000000 in
set_option maxRecDepth 100000 in
theorem wm_X1_stalls (E : gX) (l : Launch) (x0 : Nat) (x1 : Int32) (x2 : Nat) (x3 : Int32) (Gz G' : GH) (h : cm_X1_stalls x0 x1 x2 x3 Gz = some G') : gMetC E l yX1_stalls cX1_stalls 6 none 8 [.ref x0, .int x1, .ref x2, .int x3] Gz G' none := by
  refine gMetC.of (own := RX1) (by decide +kernel) (Nat.le_of_ble_eq_true rfl) rfl ?_
  intro p e s m args below meth c S hr hk hnm hE hC0 hG hS ls hl
  have hl : lv_has ls 6 [(0, .ref x0), (1, .int x1), (2, .ref x2), (3, .int x3)] := hl
  have hx := S.1
  have hb := S.2.1
  have L33 : ∀ (n : Nat) (x0 : Nat) (x1 : Int32) (x3 : Int32) (x4 : Nat) (x5 : Int32) (G : GH) (H : Heap) (locs : List Loc) (ls : Array Slot), cm_X1_stalls_L33 n x0 x1 x3 x4 x5 G = some G' → gC E G H → va_S (gx_C E) s.heap H locs → lv_has ls 6 [(0, .ref x0), (1, .int x1), (3, .int x3), (4, .ref x4), (5, .int x5)] → WC E p l e (gRm 8 (cBx Gz) (cBs Gz)) s m args below meth c H locs (MQ below (gQ none (gC E G') (gx_C E)) args s (cBx Gz) (cBs Gz) (gx_C E)) (F0 m 33 ls []) := by
    intro n33
    induction n33 with
    | zero =>
      intro x0 x1 x3 x4 x5 G H locs ls h
      cases h
    | succ n33 ih33 =>
      intro x0 x1 x3 x4 x5 G H locs ls h hG hS hl
      have h : cm_X1_stalls_B33 (cm_X1_stalls_L33 n33) x0 x1 x3 x4 x5 G = some G' := h
      unfold cm_X1_stalls_B33 at h
      refine lv_iload hx hb dX1_stalls_33 (lv_at hl 4 rfl) ?_
      refine lv_bipush (v := 6) hx hb dX1_stalls_35 (by decide) ?_
      refine lv_icmp_ge (tgt := 73) hx hb dX1_stalls_37 (by decide) (fun c37 => ?_) (fun c37 => ?_)
      · have h := g_it c37 h
        refine lv_aload_n hx hb dX1_stalls_73 rfl (lv_at hl 0 rfl) ?_
        refine lv_iconst (v := 2) hx hb dX1_stalls_74 (by decide) ?_
        refine lv_iload_n hx hb dX1_stalls_75 rfl (lv_at hl 1 rfl) ?_
        refine lv_iload_n hx hb dX1_stalls_76 rfl (lv_at hl 2 rfl) ?_
        obtain ⟨u77, t77, h⟩ := g_bd h
        obtain ⟨G77, e77, h⟩ := g_bd h
        refine c_cV (y := yX1_tell) (rest := []) dX1_stalls_77 q1992 q1994 qs43 q119 q1995 hc_X1_tell rfl S hE hG hS hC0 hl.1 rfl (c_recv hE hG (ci := 8) rfl (by decide) (c_castM t77)) (wm_X1_tell E l x0 2 x1 x3 G _ e77) rfl (Nat.le_of_ble_eq_true rfl) ⟨Nat.le_of_ble_eq_true rfl, Nat.le_of_ble_eq_true rfl⟩ (fun H locs hG hS => ?_)
        exact c_vretW dX1_stalls_80 S hr hk hC0 hG hS h
      · have h := g_if c37 h
        refine lv_aload_n hx hb dX1_stalls_40 rfl (lv_at hl 0 rfl) ?_
        obtain ⟨v41, e41, h⟩ := g_bd h
        refine cg_X1_45 dX1_stalls_41 S hE hG e41 ?_
        refine lv_iload hx hb dX1_stalls_44 (lv_at hl 4 rfl) ?_
        refine lv_dup2_11 hx hb dX1_stalls_46 rfl rfl ?_
        obtain ⟨v47, e47, h⟩ := g_bd h
        refine c_aldI dX1_stalls_47 S hE hG e47 ?_
        refine lv_aload hx hb dX1_stalls_48 (lv_at hl 3 rfl) ?_
        obtain ⟨v50, e50, h⟩ := g_bd h
        refine cg_X1_302 dX1_stalls_50 S hE hG e50 ?_
        refine lv_iload hx hb dX1_stalls_53 (lv_at hl 4 rfl) ?_
        obtain ⟨v55, e55, h⟩ := g_bd h
        refine c_aldI dX1_stalls_55 S hE hG e55 ?_
        refine lv_iadd hx hb dX1_stalls_56 ?_
        obtain ⟨G57, e57, h⟩ := g_bd h
        refine c_astI dX1_stalls_57 S hE hG hS hC0 e57 (fun H locs hG hS => ?_)
        refine lv_aload hx hb dX1_stalls_58 (lv_at hl 3 rfl) ?_
        obtain ⟨v60, e60, h⟩ := g_bd h
        refine cg_X1_302 dX1_stalls_60 S hE hG e60 ?_
        refine lv_iload hx hb dX1_stalls_63 (lv_at hl 4 rfl) ?_
        refine lv_iconst (v := 0) hx hb dX1_stalls_65 (by decide) ?_
        obtain ⟨G66, e66, h⟩ := g_bd h
        refine c_astI dX1_stalls_66 S hE hG hS hC0 e66 (fun H locs hG hS => ?_)
        refine lv_iinc (k := 4) (v := (x5 + 1)) (lv' := [(5, .int (x5 + 1)), (0, .ref x0), (1, .int x1), (3, .int x3), (4, .ref x4)]) hx hb dX1_stalls_67 hl rfl rfl (by decide) rfl (fun ls hl => ?_)
        refine lv_goto (tgt := 33) hx hb dX1_stalls_70 (by decide) ?_
        exact ih33 x0 x1 x3 x4 (x5 + 1) G66 _ _ _ h hG hS (lv_sub hl [1, 2, 3, 4, 0] rfl)
  unfold cm_X1_stalls at h
  refine lv_aload_n hx hb dX1_stalls_0 rfl (lv_at hl 2 rfl) ?_
  obtain ⟨G1, e1, h⟩ := g_bd h
  refine c_cS (y := yX1_goals) (rest := []) dX1_stalls_1 q1729 q1730 q119 q1731 hc_X1_goals S hE hG hS hC0 hl.1 rfl (wm_X1_goals E l x2 Gz _ e1) rfl (Nat.le_of_ble_eq_true rfl) ⟨Nat.le_of_ble_eq_true rfl, Nat.le_of_ble_eq_true rfl⟩ (fun H locs hG hS => ?_)
  refine lv_aload_n hx hb dX1_stalls_4 rfl (lv_at hl 2 rfl) ?_
  obtain ⟨v5, e5, h⟩ := g_bd h
  refine cg_X1_154 dX1_stalls_5 S hE hG e5 ?_
  refine lv_astore (lv' := [(4, .ref v5), (0, .ref x0), (1, .int x1), (2, .ref x2), (3, .int x3)]) hx hb dX1_stalls_8 hl (by decide) rfl (fun ls hl => ?_)
  refine lv_aload hx hb dX1_stalls_10 (lv_at hl 0 rfl) ?_
  refine lv_iconst (v := 0) hx hb dX1_stalls_12 (by decide) ?_
  obtain ⟨G13, e13, h⟩ := g_bd h
  refine cp_X1_294 dX1_stalls_13 S hE hG hS hC0 e13 (fun H locs hG hS => ?_)
  refine lv_aload hx hb dX1_stalls_16 (lv_at hl 0 rfl) ?_
  obtain ⟨u18, t18, h⟩ := g_bd h
  obtain ⟨qx18, e18, h⟩ := g_bd h
  refine c_cV (y := yX8_falls) (rest := []) dX1_stalls_18 q2236 q2237 q2238 q150 q2239 hc_X8_falls rfl S hE hG hS hC0 hl.1 rfl (c_recv hE hG (ci := 14) rfl (by decide) (c_castM t18)) (wm_X8_falls E l v5 G13 _ _ e18) rfl (Nat.le_of_ble_eq_true rfl) ⟨Nat.le_of_ble_eq_true rfl, Nat.le_of_ble_eq_true rfl⟩ (fun H locs hG hS => ?_)
  refine lv_if_ne (tgt := 81) hx hb dX1_stalls_21 (by decide) (fun c21 => ?_) (fun c21 => ?_)
  · have h := g_if c21 h
    refine lv_aload hx hb dX1_stalls_81 (lv_at hl 0 rfl) ?_
    refine lv_iload_n hx hb dX1_stalls_83 rfl (lv_at hl 4 rfl) ?_
    obtain ⟨G84, e84, h⟩ := g_bd h
    refine cp_X1_305 dX1_stalls_84 S hE hG hS hC0 e84 (fun H locs hG hS => ?_)
    refine lv_aload_n hx hb dX1_stalls_87 rfl (lv_at hl 1 rfl) ?_
    refine lv_iconst (v := 1) hx hb dX1_stalls_88 (by decide) ?_
    refine lv_iload_n hx hb dX1_stalls_89 rfl (lv_at hl 2 rfl) ?_
    refine lv_iload_n hx hb dX1_stalls_90 rfl (lv_at hl 4 rfl) ?_
    obtain ⟨u91, t91, h⟩ := g_bd h
    obtain ⟨G91, e91, h⟩ := g_bd h
    refine c_cV (y := yX1_tell) (rest := []) dX1_stalls_91 q1992 q1994 qs43 q119 q1995 hc_X1_tell rfl S hE hG hS hC0 hl.1 rfl (c_recv hE hG (ci := 8) rfl (by decide) (c_castM t91)) (wm_X1_tell E l x0 1 x1 x3 G84 _ e91) rfl (Nat.le_of_ble_eq_true rfl) ⟨Nat.le_of_ble_eq_true rfl, Nat.le_of_ble_eq_true rfl⟩ (fun H locs hG hS => ?_)
    refine lv_aload_n hx hb dX1_stalls_94 rfl (lv_at hl 1 rfl) ?_
    refine lv_iload_n hx hb dX1_stalls_95 rfl (lv_at hl 2 rfl) ?_
    refine lv_aload hx hb dX1_stalls_96 (lv_at hl 0 rfl) ?_
    obtain ⟨u98, t98, h⟩ := g_bd h
    obtain ⟨G98, e98, h⟩ := g_bd h
    refine c_cV (y := yX1_settle) (rest := []) dX1_stalls_98 q2006 q2008 qs45 q119 q2009 hc_X1_settle rfl S hE hG hS hC0 hl.1 rfl (c_recv hE hG (ci := 8) rfl (by decide) (c_castM t98)) (wm_X1_settle E l x0 x1 v5 G91 _ e98) rfl (Nat.le_of_ble_eq_true rfl) ⟨Nat.le_of_ble_eq_true rfl, Nat.le_of_ble_eq_true rfl⟩ (fun H locs hG hS => ?_)
    exact c_vretW dX1_stalls_101 S hr hk hC0 hG hS h
  · have h := g_it c21 h
    refine lv_aload hx hb dX1_stalls_24 (lv_at hl 0 rfl) ?_
    refine lv_iconst (v := 2) hx hb dX1_stalls_26 (by decide) ?_
    obtain ⟨G27, e27, h⟩ := g_bd h
    refine cp_X1_272 dX1_stalls_27 S hE hG hS hC0 e27 (fun H locs hG hS => ?_)
    refine lv_iconst (v := 0) hx hb dX1_stalls_30 (by decide) ?_
    refine lv_istore (lv' := [(5, .int 0), (4, .ref v5), (0, .ref x0), (1, .int x1), (2, .ref x2), (3, .int x3)]) hx hb dX1_stalls_31 hl (by decide) rfl (fun ls hl => ?_)
    exact L33 gF x0 x1 x3 v5 0 G27 _ _ _ h hG hS (lv_sub hl [2, 3, 5, 1, 0] rfl)
theorem hc_X1_goesOn : cHd yX1_goesOn 2 := by decide +kernel
set_option maxHeartbeats 4000000 in
set_option maxRecDepth 100000 in
theorem wm_X1_goesOn (E : gX) (l : Launch) (x0 : Nat) (x1 : Int32) (x2 : Nat) (Gz G' : GH) (h : cm_X1_goesOn x0 x1 x2 Gz = some G') : gMetC E l yX1_goesOn cX1_goesOn 7 none 130 [.ref x0, .int x1, .ref x2] Gz G' none := by
  refine gMetC.of (own := RX1) (by decide +kernel) (Nat.le_of_ble_eq_true rfl) rfl ?_
  intro p e s m args below meth c S hr hk hnm hE hC0 hG hS ls hl
  have hl : lv_has ls 7 [(0, .ref x0), (1, .int x1), (2, .ref x2)] := hl
  have hx := S.1
  have hb := S.2.1
  have L36 : ∀ (n : Nat) (x0 : Nat) (x1 : Int32) (x2 : Nat) (x3 : Nat) (x4 : Int32) (x5 : Int32) (G : GH) (H : Heap) (locs : List Loc) (ls : Array Slot), cm_X1_goesOn_L36 n x0 x1 x2 x3 x4 x5 G = some G' → gC E G H → va_S (gx_C E) s.heap H locs → lv_has ls 7 [(0, .ref x0), (1, .int x1), (2, .ref x2), (3, .ref x3), (4, .int x4), (5, .int x5)] → WC E p l e (gRm 130 (cBx Gz) (cBs Gz)) s m args below meth c H locs (MQ below (gQ none (gC E G') (gx_C E)) args s (cBx Gz) (cBs Gz) (gx_C E)) (F0 m 36 ls []) := by
    intro n36
    induction n36 with
    | zero =>
      intro x0 x1 x2 x3 x4 x5 G H locs ls h
      cases h
    | succ n36 ih36 =>
      have J107 : ∀ (x0 : Nat) (x1 : Int32) (x2 : Nat) (x3 : Nat) (x4 : Int32) (x5 : Int32) (G : GH) (H : Heap) (locs : List Loc) (ls : Array Slot), cm_X1_goesOn_J107 (cm_X1_goesOn_L36 n36) x0 x1 x2 x3 x4 x5 G = some G' → gC E G H → va_S (gx_C E) s.heap H locs → lv_has ls 7 [(0, .ref x0), (1, .int x1), (2, .ref x2), (3, .ref x3), (4, .int x4), (5, .int x5)] → WC E p l e (gRm 130 (cBx Gz) (cBs Gz)) s m args below meth c H locs (MQ below (gQ none (gC E G') (gx_C E)) args s (cBx Gz) (cBs Gz) (gx_C E)) (F0 m 107 ls []) := by
        intro x0 x1 x2 x3 x4 x5 G H locs ls h hG hS hl
        unfold cm_X1_goesOn_J107 at h
        refine lv_iinc (k := 5) (v := (x5 + 1)) (lv' := [(5, .int (x5 + 1)), (0, .ref x0), (1, .int x1), (2, .ref x2), (3, .ref x3), (4, .int x4)]) hx hb dX1_goesOn_107 hl rfl rfl (by decide) rfl (fun ls hl => ?_)
        refine lv_goto (tgt := 36) hx hb dX1_goesOn_110 (by decide) ?_
        exact ih36 x0 x1 x2 x3 x4 (x5 + 1) G _ _ _ h hG hS (lv_sub hl [1, 2, 3, 4, 5, 0] rfl)
      intro x0 x1 x2 x3 x4 x5 G H locs ls h hG hS hl
      have h : cm_X1_goesOn_B36 (cm_X1_goesOn_L36 n36) x0 x1 x2 x3 x4 x5 G = some G' := h
      unfold cm_X1_goesOn_B36 at h
      refine lv_iload hx hb dX1_goesOn_36 (lv_at hl 4 rfl) ?_
      refine lv_if_eq (tgt := 113) hx hb dX1_goesOn_38 (by decide) (fun c38 => ?_) (fun c38 => ?_)
      · have h := g_it c38 h
        exact c_vretW dX1_goesOn_113 S hr hk hC0 hG hS h
      · have h := g_if c38 h
        refine lv_aload_n hx hb dX1_goesOn_41 rfl (lv_at hl 3 rfl) ?_
        obtain ⟨v42, e42, h⟩ := g_bd h
        refine cg_X1_272 dX1_goesOn_42 S hE hG e42 ?_
        refine lv_if_ne (tgt := 113) hx hb dX1_goesOn_45 (by decide) (fun c45 => ?_) (fun c45 => ?_)
        · have h := g_if c45 h
          exact c_vretW dX1_goesOn_113 S hr hk hC0 hG hS h
        · have h := g_it c45 h
          refine lv_iload hx hb dX1_goesOn_48 (lv_at hl 5 rfl) ?_
          refine lv_bipush (v := 40) hx hb dX1_goesOn_50 (by decide) ?_
          refine lv_icmp_ge (tgt := 113) hx hb dX1_goesOn_52 (by decide) (fun c52 => ?_) (fun c52 => ?_)
          · have h := g_it c52 h
            exact c_vretW dX1_goesOn_113 S hr hk hC0 hG hS h
          · have h := g_if c52 h
            refine lv_aload_n hx hb dX1_goesOn_55 rfl (lv_at hl 3 rfl) ?_
            refine lv_dup hx hb dX1_goesOn_56 rfl ?_
            obtain ⟨v57, e57, h⟩ := g_bd h
            refine cg_X1_324 dX1_goesOn_57 S hE hG e57 ?_
            refine lv_iconst (v := 1) hx hb dX1_goesOn_60 (by decide) ?_
            refine lv_iadd hx hb dX1_goesOn_61 ?_
            obtain ⟨G62, e62, h⟩ := g_bd h
            refine cp_X1_324 dX1_goesOn_62 S hE hG hS hC0 e62 (fun H locs hG hS => ?_)
            refine lv_aload_n hx hb dX1_goesOn_65 rfl (lv_at hl 0 rfl) ?_
            refine lv_iconst (v := 0) hx hb dX1_goesOn_66 (by decide) ?_
            obtain ⟨G67, e67, h⟩ := g_bd h
            refine cp_X1_327 dX1_goesOn_67 S hE hG hS hC0 e67 (fun H locs hG hS => ?_)
            refine lv_aload_n hx hb dX1_goesOn_70 rfl (lv_at hl 0 rfl) ?_
            refine lv_iload_n hx hb dX1_goesOn_71 rfl (lv_at hl 1 rfl) ?_
            refine lv_aload_n hx hb dX1_goesOn_72 rfl (lv_at hl 2 rfl) ?_
            refine lv_aload_n hx hb dX1_goesOn_73 rfl (lv_at hl 3 rfl) ?_
            refine lv_aload_n hx hb dX1_goesOn_74 rfl (lv_at hl 3 rfl) ?_
            obtain ⟨u75, t75, h⟩ := g_bd h
            obtain ⟨v75, e75, h⟩ := g_bd h
            refine c_cV (y := yX8_now) (rest := [.ref x3, .ref x2, .int x1, .ref x0]) dX1_goesOn_75 q2000 q2001 q2002 q150 q2003 hc_X8_now rfl S hE hG hS hC0 hl.1 rfl (c_recv hE hG (ci := 14) rfl (by decide) (c_castM t75)) (wm_X8_now E l x3 G67 _ e75) rfl (Nat.le_of_ble_eq_true rfl) ⟨Nat.le_of_ble_eq_true rfl, Nat.le_of_ble_eq_true rfl⟩ (fun H locs hG hS => ?_)
            obtain ⟨u78, t78, h⟩ := g_bd h
            obtain ⟨qx78, e78, h⟩ := g_bd h
            refine c_cV (y := yX1_does) (rest := []) dX1_goesOn_78 q2015 q2017 qs46 q119 q2018 hc_X1_does rfl S hE hG hS hC0 hl.1 rfl (c_recv hE hG (ci := 8) rfl (by decide) (c_castM t78)) (wm_X1_does E l x0 x1 x2 x3 v75 G67 _ _ e78) rfl (Nat.le_of_ble_eq_true rfl) ⟨Nat.le_of_ble_eq_true rfl, Nat.le_of_ble_eq_true rfl⟩ (fun H locs hG hS => ?_)
            refine lv_istore (lv' := [(4, .int qx78.1), (0, .ref x0), (1, .int x1), (2, .ref x2), (3, .ref x3), (5, .int x5)]) hx hb dX1_goesOn_81 hl (by decide) rfl (fun ls hl => ?_)
            refine lv_aload_n hx hb dX1_goesOn_83 rfl (lv_at hl 1 rfl) ?_
            obtain ⟨v84, e84, h⟩ := g_bd h
            refine cg_X1_327 dX1_goesOn_84 S hE hG e84 ?_
            refine lv_if_eq (tgt := 107) hx hb dX1_goesOn_87 (by decide) (fun c87 => ?_) (fun c87 => ?_)
            · have h := g_it c87 h
              exact J107 x0 x1 x2 x3 qx78.1 x5 qx78.2 _ _ _ h hG hS (lv_sub hl [1, 2, 3, 4, 0, 5] rfl)
            · have h := g_if c87 h
              refine lv_aload_n hx hb dX1_goesOn_90 rfl (lv_at hl 1 rfl) ?_
              obtain ⟨v91, e91, h⟩ := g_bd h
              refine cg_X1_327 dX1_goesOn_91 S hE hG e91 ?_
              refine lv_istore (lv' := [(6, .int v91), (4, .int qx78.1), (0, .ref x0), (1, .int x1), (2, .ref x2), (3, .ref x3), (5, .int x5)]) hx hb dX1_goesOn_94 hl (by decide) rfl (fun ls hl => ?_)
              refine lv_aload_n hx hb dX1_goesOn_96 rfl (lv_at hl 2 rfl) ?_
              refine lv_iload_n hx hb dX1_goesOn_97 rfl (lv_at hl 3 rfl) ?_
              refine lv_aload_n hx hb dX1_goesOn_98 rfl (lv_at hl 4 rfl) ?_
              refine lv_iload hx hb dX1_goesOn_99 (lv_at hl 0 rfl) ?_
              obtain ⟨u101, t101, h⟩ := g_bd h
              obtain ⟨G101, e101, h⟩ := g_bd h
              refine c_cV (y := yX1_stalls) (rest := []) dX1_goesOn_101 q2232 q2234 qs54 q119 q2235 hc_X1_stalls rfl S hE hG hS hC0 hl.1 rfl (c_recv hE hG (ci := 8) rfl (by decide) (c_castM t101)) (wm_X1_stalls E l x0 x1 x2 v91 qx78.2 _ e101) rfl (Nat.le_of_ble_eq_true rfl) ⟨Nat.le_of_ble_eq_true rfl, Nat.le_of_ble_eq_true rfl⟩ (fun H locs hG hS => ?_)
              refine lv_iconst (v := 1) hx hb dX1_goesOn_104 (by decide) ?_
              refine lv_istore (lv' := [(4, .int 1), (6, .int v91), (0, .ref x0), (1, .int x1), (2, .ref x2), (3, .ref x3), (5, .int x5)]) hx hb dX1_goesOn_105 hl (by decide) rfl (fun ls hl => ?_)
              exact J107 x0 x1 x2 x3 1 x5 G101 _ _ _ h hG hS (lv_sub hl [2, 3, 4, 5, 0, 6] rfl)
  have J30 : ∀ (x0 : Nat) (x1 : Int32) (x2 : Nat) (x3 : Nat) (G : GH) (H : Heap) (locs : List Loc) (ls : Array Slot), cm_X1_goesOn_J30 x0 x1 x2 x3 G = some G' → gC E G H → va_S (gx_C E) s.heap H locs → lv_has ls 7 [(0, .ref x0), (1, .int x1), (2, .ref x2), (3, .ref x3)] → WC E p l e (gRm 130 (cBx Gz) (cBs Gz)) s m args below meth c H locs (MQ below (gQ none (gC E G') (gx_C E)) args s (cBx Gz) (cBs Gz) (gx_C E)) (F0 m 30 ls []) := by
    intro x0 x1 x2 x3 G H locs ls h hG hS hl
    unfold cm_X1_goesOn_J30 at h
    refine lv_iconst (v := 1) hx hb dX1_goesOn_30 (by decide) ?_
    refine lv_istore (lv' := [(4, .int 1), (0, .ref x0), (1, .int x1), (2, .ref x2), (3, .ref x3)]) hx hb dX1_goesOn_31 hl (by decide) rfl (fun ls hl => ?_)
    refine lv_iconst (v := 0) hx hb dX1_goesOn_33 (by decide) ?_
    refine lv_istore (lv' := [(5, .int 0), (4, .int 1), (0, .ref x0), (1, .int x1), (2, .ref x2), (3, .ref x3)]) hx hb dX1_goesOn_34 hl (by decide) rfl (fun ls hl => ?_)
    exact L36 gF x0 x1 x2 x3 1 0 G _ _ _ h hG hS (lv_sub hl [2, 3, 4, 5, 1, 0] rfl)
  unfold cm_X1_goesOn at h
  refine lv_aload_n hx hb dX1_goesOn_0 rfl (lv_at hl 2 rfl) ?_
  obtain ⟨v1, e1, h⟩ := g_bd h
  refine cg_X1_154 dX1_goesOn_1 S hE hG e1 ?_
  refine lv_astore_n (lv' := [(3, .ref v1), (0, .ref x0), (1, .int x1), (2, .ref x2)]) hx hb dX1_goesOn_4 rfl hl (by decide) rfl (fun ls hl => ?_)
  refine lv_aload_n hx hb dX1_goesOn_5 rfl (lv_at hl 0 rfl) ?_
  obtain ⟨v6, e6, h⟩ := g_bd h
  refine cg_X1_272 dX1_goesOn_6 S hE hG e6 ?_
  refine lv_if_ne (tgt := 30) hx hb dX1_goesOn_9 (by decide) (fun c9 => ?_) (fun c9 => ?_)
  · have h := g_if c9 h
    exact J30 x0 x1 x2 v1 Gz _ _ _ h hG hS (lv_sub hl [1, 2, 3, 0] rfl)
  · have h := g_it c9 h
    refine lv_aload_n hx hb dX1_goesOn_12 rfl (lv_at hl 0 rfl) ?_
    obtain ⟨u13, t13, h⟩ := g_bd h
    obtain ⟨v13, e13, h⟩ := g_bd h
    refine c_cV (y := yX8_now) (rest := []) dX1_goesOn_13 q2000 q2001 q2002 q150 q2003 hc_X8_now rfl S hE hG hS hC0 hl.1 rfl (c_recv hE hG (ci := 14) rfl (by decide) (c_castM t13)) (wm_X8_now E l v1 Gz _ e13) rfl (Nat.le_of_ble_eq_true rfl) ⟨Nat.le_of_ble_eq_true rfl, Nat.le_of_ble_eq_true rfl⟩ (fun H locs hG hS => ?_)
    obtain ⟨v16, e16, h⟩ := g_bd h
    refine cg_X1_319 dX1_goesOn_16 S hE hG e16 ?_
    refine lv_bipush (v := 23) hx hb dX1_goesOn_19 (by decide) ?_
    refine lv_icmp_ne (tgt := 30) hx hb dX1_goesOn_21 (by decide) (fun c21 => ?_) (fun c21 => ?_)
    · have h := g_if c21 h
      exact J30 x0 x1 x2 v1 Gz _ _ _ h hG hS (lv_sub hl [1, 2, 3, 0] rfl)
    · have h := g_it c21 h
      refine lv_aload_n hx hb dX1_goesOn_24 rfl (lv_at hl 1 rfl) ?_
      refine lv_iload_n hx hb dX1_goesOn_25 rfl (lv_at hl 2 rfl) ?_
      refine lv_aload_n hx hb dX1_goesOn_26 rfl (lv_at hl 0 rfl) ?_
      obtain ⟨u27, t27, h⟩ := g_bd h
      obtain ⟨G27, e27, h⟩ := g_bd h
      refine c_cV (y := yX1_settle) (rest := []) dX1_goesOn_27 q2006 q2008 qs45 q119 q2009 hc_X1_settle rfl S hE hG hS hC0 hl.1 rfl (c_recv hE hG (ci := 8) rfl (by decide) (c_castM t27)) (wm_X1_settle E l x0 x1 v1 Gz _ e27) rfl (Nat.le_of_ble_eq_true rfl) ⟨Nat.le_of_ble_eq_true rfl, Nat.le_of_ble_eq_true rfl⟩ (fun H locs hG hS => ?_)
      exact J30 x0 x1 x2 v1 G27 _ _ _ h hG hS (lv_sub hl [1, 2, 3, 0] rfl)
theorem hc_X1_hasGoal : cHd yX1_hasGoal 1 := by decide +kernel
set_option maxHeartbeats 4000000 in
set_option maxRecDepth 100000 in
theorem wm_X1_hasGoal (E : gX) (l : Launch) (x0 : Nat) (Gz : GH) (r : Int32) (h : cm_X1_hasGoal x0 Gz = some r) : gMetC E l yX1_hasGoal cX1_hasGoal 3 (some Jvm.ClassFile.FieldType.boolean) 3 [.ref x0] Gz Gz (some (.int r)) := by
  refine gMetC.of (own := RX1) (by decide +kernel) (Nat.le_of_ble_eq_true rfl) rfl ?_
  intro p e s m args below meth c S hr hk hnm hE hC0 hG hS ls hl
  have hl : lv_has ls 3 [(0, .ref x0)] := hl
  have hx := S.1
  have hb := S.2.1
  have J48 : ∀ (H : Heap) (locs : List Loc) (ls : Array Slot), cm_X1_hasGoal_J48 Gz = some r → gC E Gz H → va_S (gx_C E) s.heap H locs → lv_has ls 3 [] → WC E p l e (gRm 3 (cBx Gz) (cBs Gz)) s m args below meth c H locs (MQ below (gQ (some (.int r)) (gC E Gz) (gx_C E)) args s (cBx Gz) (cBs Gz) (gx_C E)) (F0 m 48 ls []) := by
    intro H locs ls h hG hS hl
    unfold cm_X1_hasGoal_J48 at h
    refine lv_iconst (v := 1) hx hb dX1_hasGoal_48 (by decide) ?_
    refine lv_goto (tgt := 53) hx hb dX1_hasGoal_49 (by decide) ?_
    exact c_zretR dX1_hasGoal_53 S hr hk hC0 hG hS h
  have J24 : ∀ (x0 : Nat) (H : Heap) (locs : List Loc) (ls : Array Slot), cm_X1_hasGoal_J24 x0 Gz = some r → gC E Gz H → va_S (gx_C E) s.heap H locs → lv_has ls 3 [(0, .ref x0)] → WC E p l e (gRm 3 (cBx Gz) (cBs Gz)) s m args below meth c H locs (MQ below (gQ (some (.int r)) (gC E Gz) (gx_C E)) args s (cBx Gz) (cBs Gz) (gx_C E)) (F0 m 24 ls []) := by
    intro x0 H locs ls h hG hS hl
    unfold cm_X1_hasGoal_J24 at h
    refine lv_aload_n hx hb dX1_hasGoal_24 rfl (lv_at hl 0 rfl) ?_
    obtain ⟨v25, e25, h⟩ := g_bd h
    refine ci_X1_178 dX1_hasGoal_25 S hE hG e25 ?_
    refine lv_if_eq (tgt := 52) hx hb dX1_hasGoal_28 (by decide) (fun c28 => ?_) (fun c28 => ?_)
    · have h := g_it c28 h
      refine lv_iconst (v := 0) hx hb dX1_hasGoal_52 (by decide) ?_
      exact c_zretR dX1_hasGoal_53 S hr hk hC0 hG hS h
    · have h := g_if c28 h
      refine lv_aload_n hx hb dX1_hasGoal_31 rfl (lv_at hl 0 rfl) ?_
      obtain ⟨u32, e32, h⟩ := g_bd h
      refine ck_X1_178 dX1_hasGoal_32 S hE hG e32 ?_
      refine lv_astore_n (lv' := [(1, .ref x0), (0, .ref x0)]) hx hb dX1_hasGoal_35 rfl hl (by decide) rfl (fun ls hl => ?_)
      refine lv_aload_n hx hb dX1_hasGoal_36 rfl (lv_at hl 0 rfl) ?_
      obtain ⟨v37, e37, h⟩ := g_bd h
      refine wd_Lifts_hoist (rest := []) q1737 dX1_hasGoal_37 S hE hG hS hC0 hl.1 e37 rfl (Nat.le_of_ble_eq_true rfl) (by decide) (fun H locs hG hS => ?_)
      obtain ⟨v42, e42, h⟩ := g_bd h
      refine cg_X1_207 dX1_hasGoal_42 S hE hG e42 ?_
      refine lv_if_eq (tgt := 52) hx hb dX1_hasGoal_45 (by decide) (fun c45 => ?_) (fun c45 => ?_)
      · have h := g_it c45 h
        refine lv_iconst (v := 0) hx hb dX1_hasGoal_52 (by decide) ?_
        exact c_zretR dX1_hasGoal_53 S hr hk hC0 hG hS h
      · have h := g_if c45 h
        exact J48 _ _ _ h hG hS (lv_sub hl [] rfl)
  unfold cm_X1_hasGoal at h
  refine lv_aload_n hx hb dX1_hasGoal_0 rfl (lv_at hl 0 rfl) ?_
  obtain ⟨v1, e1, h⟩ := g_bd h
  refine ci_X1_167 dX1_hasGoal_1 S hE hG e1 ?_
  refine lv_if_eq (tgt := 24) hx hb dX1_hasGoal_4 (by decide) (fun c4 => ?_) (fun c4 => ?_)
  · have h := g_it c4 h
    exact J24 x0 _ _ _ h hG hS (lv_sub hl [0] rfl)
  · have h := g_if c4 h
    refine lv_aload_n hx hb dX1_hasGoal_7 rfl (lv_at hl 0 rfl) ?_
    obtain ⟨u8, e8, h⟩ := g_bd h
    refine ck_X1_167 dX1_hasGoal_8 S hE hG e8 ?_
    refine lv_astore_n (lv' := [(2, .ref x0), (0, .ref x0)]) hx hb dX1_hasGoal_11 rfl hl (by decide) rfl (fun ls hl => ?_)
    refine lv_aload_n hx hb dX1_hasGoal_12 rfl (lv_at hl 0 rfl) ?_
    obtain ⟨v13, e13, h⟩ := g_bd h
    refine wd_Turns_spin (rest := []) q1734 dX1_hasGoal_13 S hE hG hS hC0 hl.1 e13 rfl (Nat.le_of_ble_eq_true rfl) (by decide) (fun H locs hG hS => ?_)
    obtain ⟨v18, e18, h⟩ := g_bd h
    refine cg_X1_204 dX1_hasGoal_18 S hE hG e18 ?_
    refine lv_if_ne (tgt := 48) hx hb dX1_hasGoal_21 (by decide) (fun c21 => ?_) (fun c21 => ?_)
    · have h := g_if c21 h
      exact J48 _ _ _ h hG hS (lv_sub hl [] rfl)
    · have h := g_it c21 h
      exact J24 x0 _ _ _ h hG hS (lv_sub hl [1] rfl)
theorem hc_X1_isBright : cHd yX1_isBright 1 := by decide +kernel
set_option maxHeartbeats 4000000 in
set_option maxRecDepth 100000 in
theorem wm_X1_isBright (E : gX) (l : Launch) (x0 : Nat) (Gz : GH) (r : Int32) (h : cm_X1_isBright x0 Gz = some r) : gMetC E l yX1_isBright cX1_isBright 3 (some Jvm.ClassFile.FieldType.boolean) 3 [.ref x0] Gz Gz (some (.int r)) := by
  refine gMetC.of (own := RX1) (by decide +kernel) (Nat.le_of_ble_eq_true rfl) rfl ?_
  intro p e s m args below meth c S hr hk hnm hE hC0 hG hS ls hl
  have hl : lv_has ls 3 [(0, .ref x0)] := hl
  have hx := S.1
  have hb := S.2.1
  have J48 : ∀ (H : Heap) (locs : List Loc) (ls : Array Slot), cm_X1_isBright_J48 Gz = some r → gC E Gz H → va_S (gx_C E) s.heap H locs → lv_has ls 3 [] → WC E p l e (gRm 3 (cBx Gz) (cBs Gz)) s m args below meth c H locs (MQ below (gQ (some (.int r)) (gC E Gz) (gx_C E)) args s (cBx Gz) (cBs Gz) (gx_C E)) (F0 m 48 ls []) := by
    intro H locs ls h hG hS hl
    unfold cm_X1_isBright_J48 at h
    refine lv_iconst (v := 1) hx hb dX1_isBright_48 (by decide) ?_
    refine lv_goto (tgt := 53) hx hb dX1_isBright_49 (by decide) ?_
    exact c_zretR dX1_isBright_53 S hr hk hC0 hG hS h
  have J24 : ∀ (x0 : Nat) (H : Heap) (locs : List Loc) (ls : Array Slot), cm_X1_isBright_J24 x0 Gz = some r → gC E Gz H → va_S (gx_C E) s.heap H locs → lv_has ls 3 [(0, .ref x0)] → WC E p l e (gRm 3 (cBx Gz) (cBs Gz)) s m args below meth c H locs (MQ below (gQ (some (.int r)) (gC E Gz) (gx_C E)) args s (cBx Gz) (cBs Gz) (gx_C E)) (F0 m 24 ls []) := by
    intro x0 H locs ls h hG hS hl
    unfold cm_X1_isBright_J24 at h
    refine lv_aload_n hx hb dX1_isBright_24 rfl (lv_at hl 0 rfl) ?_
    obtain ⟨v25, e25, h⟩ := g_bd h
    refine ci_X1_219 dX1_isBright_25 S hE hG e25 ?_
    refine lv_if_eq (tgt := 52) hx hb dX1_isBright_28 (by decide) (fun c28 => ?_) (fun c28 => ?_)
    · have h := g_it c28 h
      refine lv_iconst (v := 0) hx hb dX1_isBright_52 (by decide) ?_
      exact c_zretR dX1_isBright_53 S hr hk hC0 hG hS h
    · have h := g_if c28 h
      refine lv_aload_n hx hb dX1_isBright_31 rfl (lv_at hl 0 rfl) ?_
      obtain ⟨u32, e32, h⟩ := g_bd h
      refine ck_X1_219 dX1_isBright_32 S hE hG e32 ?_
      refine lv_astore_n (lv' := [(1, .ref x0), (0, .ref x0)]) hx hb dX1_isBright_35 rfl hl (by decide) rfl (fun ls hl => ?_)
      refine lv_aload_n hx hb dX1_isBright_36 rfl (lv_at hl 0 rfl) ?_
      obtain ⟨v37, e37, h⟩ := g_bd h
      refine wd_Sounds_voice (rest := []) q1798 dX1_isBright_37 S hE hG hS hC0 hl.1 e37 rfl (Nat.le_of_ble_eq_true rfl) (by decide) (fun H locs hG hS => ?_)
      obtain ⟨v42, e42, h⟩ := g_bd h
      refine cg_X1_225 dX1_isBright_42 S hE hG e42 ?_
      refine lv_if_eq (tgt := 52) hx hb dX1_isBright_45 (by decide) (fun c45 => ?_) (fun c45 => ?_)
      · have h := g_it c45 h
        refine lv_iconst (v := 0) hx hb dX1_isBright_52 (by decide) ?_
        exact c_zretR dX1_isBright_53 S hr hk hC0 hG hS h
      · have h := g_if c45 h
        exact J48 _ _ _ h hG hS (lv_sub hl [] rfl)
  unfold cm_X1_isBright at h
  refine lv_aload_n hx hb dX1_isBright_0 rfl (lv_at hl 0 rfl) ?_
  obtain ⟨v1, e1, h⟩ := g_bd h
  refine ci_X1_208 dX1_isBright_1 S hE hG e1 ?_
  refine lv_if_eq (tgt := 24) hx hb dX1_isBright_4 (by decide) (fun c4 => ?_) (fun c4 => ?_)
  · have h := g_it c4 h
    exact J24 x0 _ _ _ h hG hS (lv_sub hl [0] rfl)
  · have h := g_if c4 h
    refine lv_aload_n hx hb dX1_isBright_7 rfl (lv_at hl 0 rfl) ?_
    obtain ⟨u8, e8, h⟩ := g_bd h
    refine ck_X1_208 dX1_isBright_8 S hE hG e8 ?_
    refine lv_astore_n (lv' := [(2, .ref x0), (0, .ref x0)]) hx hb dX1_isBright_11 rfl hl (by decide) rfl (fun ls hl => ?_)
    refine lv_aload_n hx hb dX1_isBright_12 rfl (lv_at hl 0 rfl) ?_
    obtain ⟨v13, e13, h⟩ := g_bd h
    refine wd_Lamps_light (rest := []) q1769 dX1_isBright_13 S hE hG hS hC0 hl.1 e13 rfl (Nat.le_of_ble_eq_true rfl) (by decide) (fun H locs hG hS => ?_)
    obtain ⟨v18, e18, h⟩ := g_bd h
    refine cg_X1_214 dX1_isBright_18 S hE hG e18 ?_
    refine lv_if_ne (tgt := 48) hx hb dX1_isBright_21 (by decide) (fun c21 => ?_) (fun c21 => ?_)
    · have h := g_if c21 h
      exact J48 _ _ _ h hG hS (lv_sub hl [] rfl)
    · have h := g_it c21 h
      exact J24 x0 _ _ _ h hG hS (lv_sub hl [1] rfl)
theorem hc_X1_word : cHd yX1_word 1 := by decide +kernel
set_option maxHeartbeats 4000000 in
set_option maxRecDepth 100000 in
theorem wm_X1_word (E : gX) (l : Launch) (x0 : Nat) (Gz G' : GH) (r : Int64) (h : cm_X1_word x0 Gz = some (r, G')) : gMetC E l yX1_word cX1_word 4 (some Jvm.ClassFile.FieldType.long) 6 [.ref x0] Gz G' (some (.long r)) := by
  refine gMetC.of (own := RX1) (by decide +kernel) (Nat.le_of_ble_eq_true rfl) rfl ?_
  intro p e s m args below meth c S hr hk hnm hE hC0 hG hS ls hl
  have hl : lv_has ls 4 [(0, .ref x0)] := hl
  have hx := S.1
  have hb := S.2.1
  have L4 : ∀ (n : Nat) (x0 : Nat) (x1 : Int64) (x3 : Int32) (G : GH) (H : Heap) (locs : List Loc) (ls : Array Slot), cm_X1_word_L4 n x0 x1 x3 G = some (r, G') → gC E G H → va_S (gx_C E) s.heap H locs → lv_has ls 4 [(0, .ref x0), (1, .long x1), (3, .int x3)] → WC E p l e (gRm 6 (cBx Gz) (cBs Gz)) s m args below meth c H locs (MQ below (gQ (some (.long r)) (gC E G') (gx_C E)) args s (cBx Gz) (cBs Gz) (gx_C E)) (F0 m 4 ls []) := by
    intro n4
    induction n4 with
    | zero =>
      intro x0 x1 x3 G H locs ls h
      cases h
    | succ n4 ih4 =>
      intro x0 x1 x3 G H locs ls h hG hS hl
      have h : cm_X1_word_B4 (cm_X1_word_L4 n4) x0 x1 x3 G = some (r, G') := h
      unfold cm_X1_word_B4 at h
      refine lv_iload_n hx hb dX1_word_4 rfl (lv_at hl 2 rfl) ?_
      refine lv_aload_n hx hb dX1_word_5 rfl (lv_at hl 0 rfl) ?_
      obtain ⟨u6, t6, h⟩ := g_bd h
      obtain ⟨v6, e6, h⟩ := g_bd h
      refine c_cV (y := yJ9_length) (rest := [.int x3]) dX1_word_6 q796 q481 q482 q131 q483 hc_J9_length rfl S hE hG hS hC0 hl.1 rfl (c_recvS hE hG (c_castM t6)) (wm_J9_length E l x0 G _ e6) rfl (Nat.le_of_ble_eq_true rfl) ⟨Nat.le_of_ble_eq_true rfl, Nat.le_of_ble_eq_true rfl⟩ (fun H locs hG hS => ?_)
      refine lv_icmp_ge (tgt := 30) hx hb dX1_word_9 (by decide) (fun c9 => ?_) (fun c9 => ?_)
      · have h := g_it c9 h
        refine lv_lload_n hx hb dX1_word_30 rfl (lv_at hl 1 rfl) ?_
        exact c_lretW dX1_word_31 S hr hk hC0 hG hS h
      · have h := g_if c9 h
        refine lv_lload_n hx hb dX1_word_12 rfl (lv_at hl 1 rfl) ?_
        refine lv_bipush (v := 8) hx hb dX1_word_13 (by decide) ?_
        refine lv_lshl (v := (x1 <<< ((8 : Int32).toInt64 &&& 63))) hx hb dX1_word_15 rfl ?_
        refine lv_aload_n hx hb dX1_word_16 rfl (lv_at hl 0 rfl) ?_
        refine lv_iload_n hx hb dX1_word_17 rfl (lv_at hl 2 rfl) ?_
        obtain ⟨u18, t18, h⟩ := g_bd h
        obtain ⟨qx18, e18, h⟩ := g_bd h
        refine c_cV (y := yJ9_charAt) (rest := [.long (x1 <<< ((8 : Int32).toInt64 &&& 63))]) dX1_word_18 q797 q798 q799 q131 q800 hc_J9_charAt rfl S hE hG hS hC0 hl.1 rfl (c_recvS hE hG (c_castM t18)) (wm_J9_charAt E l x0 x3 G _ _ e18) rfl (Nat.le_of_ble_eq_true rfl) ⟨Nat.le_of_ble_eq_true rfl, Nat.le_of_ble_eq_true rfl⟩ (fun H locs hG hS => ?_)
        refine lv_i2l (v := qx18.1.toInt64) hx hb dX1_word_21 rfl ?_
        refine lv_lor hx hb dX1_word_22 ?_
        refine lv_lstore_n (lv' := [(1, .long ((x1 <<< ((8 : Int32).toInt64 &&& 63)) ||| qx18.1.toInt64)), (0, .ref x0), (3, .int x3)]) hx hb dX1_word_23 rfl hl (by decide) rfl (fun ls hl => ?_)
        refine lv_iinc (k := 2) (v := (x3 + 1)) (lv' := [(3, .int (x3 + 1)), (1, .long ((x1 <<< ((8 : Int32).toInt64 &&& 63)) ||| qx18.1.toInt64)), (0, .ref x0)]) hx hb dX1_word_24 hl rfl rfl (by decide) rfl (fun ls hl => ?_)
        refine lv_goto (tgt := 4) hx hb dX1_word_27 (by decide) ?_
        exact ih4 x0 ((x1 <<< ((8 : Int32).toInt64 &&& 63)) ||| qx18.1.toInt64) (x3 + 1) qx18.2 _ _ _ h hG hS (lv_sub hl [2, 1, 0] rfl)
  unfold cm_X1_word at h
  refine lv_lconst (v := 0) hx hb dX1_word_0 rfl ?_
  refine lv_lstore_n (lv' := [(1, .long 0), (0, .ref x0)]) hx hb dX1_word_1 rfl hl (by decide) rfl (fun ls hl => ?_)
  refine lv_iconst (v := 0) hx hb dX1_word_2 (by decide) ?_
  refine lv_istore_n (lv' := [(3, .int 0), (1, .long 0), (0, .ref x0)]) hx hb dX1_word_3 rfl hl (by decide) rfl (fun ls hl => ?_)
  exact L4 gF x0 0 0 Gz _ _ _ h hG hS (lv_sub hl [2, 1, 0] rfl)
theorem hc_X1_isReserved : cHd yX1_isReserved 1 := by decide +kernel
set_option maxHeartbeats 4000000 in
set_option maxRecDepth 100000 in
theorem wm_X1_isReserved (E : gX) (l : Launch) (x0 : Int64) (Gz G' : GH) (r : Int32) (h : cm_X1_isReserved x0 Gz = some (r, G')) : gMetC E l yX1_isReserved cX1_isReserved 2 (some Jvm.ClassFile.FieldType.boolean) 7 [.long x0] Gz G' (some (.int r)) := by
  refine gMetC.of (own := RX1) (by decide +kernel) (Nat.le_of_ble_eq_true rfl) rfl ?_
  intro p e s m args below meth c S hr hk hnm hE hC0 hG hS ls hl
  have hl : lv_has ls 2 [(0, .long x0)] := hl
  have hx := S.1
  have hb := S.2.1
  have J50 : ∀ (G : GH) (H : Heap) (locs : List Loc) (ls : Array Slot), cm_X1_isReserved_J50 G = some (r, G') → gC E G H → va_S (gx_C E) s.heap H locs → lv_has ls 2 [] → WC E p l e (gRm 7 (cBx Gz) (cBs Gz)) s m args below meth c H locs (MQ below (gQ (some (.int r)) (gC E G') (gx_C E)) args s (cBx Gz) (cBs Gz) (gx_C E)) (F0 m 50 ls []) := by
    intro G H locs ls h hG hS hl
    unfold cm_X1_isReserved_J50 at h
    refine lv_iconst (v := 1) hx hb dX1_isReserved_50 (by decide) ?_
    refine lv_goto (tgt := 55) hx hb dX1_isReserved_51 (by decide) ?_
    exact c_zretW dX1_isReserved_55 S hr hk hC0 hG hS h
  have J20 : ∀ (x0 : Int64) (G : GH) (H : Heap) (locs : List Loc) (ls : Array Slot), cm_X1_isReserved_J20 x0 G = some (r, G') → gC E G H → va_S (gx_C E) s.heap H locs → lv_has ls 2 [(0, .long x0)] → WC E p l e (gRm 7 (cBx Gz) (cBs Gz)) s m args below meth c H locs (MQ below (gQ (some (.int r)) (gC E G') (gx_C E)) args s (cBx Gz) (cBs Gz) (gx_C E)) (F0 m 20 ls []) := by
    intro x0 G H locs ls h hG hS hl
    unfold cm_X1_isReserved_J20 at h
    refine c_ldcS (i := 55) rfl dX1_isReserved_20 S hE hG ?_
    refine lv_lload_n hx hb dX1_isReserved_22 rfl (lv_at hl 0 rfl) ?_
    obtain ⟨qx23, e23, h⟩ := g_bd h
    refine c_cS (y := yX1_among) (rest := []) dX1_isReserved_23 q869 q870 q119 q871 hc_X1_among S hE hG hS hC0 hl.1 rfl (wm_X1_among E l (cK G (100 + 55)) x0 G _ _ e23) rfl (Nat.le_of_ble_eq_true rfl) ⟨Nat.le_of_ble_eq_true rfl, Nat.le_of_ble_eq_true rfl⟩ (fun H locs hG hS => ?_)
    refine lv_iconst (v := (-1)) hx hb dX1_isReserved_26 (by decide) ?_
    refine lv_icmp_ne (tgt := 50) hx hb dX1_isReserved_27 (by decide) (fun c27 => ?_) (fun c27 => ?_)
    · have h := g_if c27 h
      exact J50 qx23.2 _ _ _ h hG hS (lv_sub hl [] rfl)
    · have h := g_it c27 h
      refine c_ldcS (i := 56) rfl dX1_isReserved_30 S hE hG ?_
      refine lv_lload_n hx hb dX1_isReserved_32 rfl (lv_at hl 0 rfl) ?_
      obtain ⟨qx33, e33, h⟩ := g_bd h
      refine c_cS (y := yX1_among) (rest := []) dX1_isReserved_33 q869 q870 q119 q871 hc_X1_among S hE hG hS hC0 hl.1 rfl (wm_X1_among E l (cK qx23.2 (100 + 56)) x0 qx23.2 _ _ e33) rfl (Nat.le_of_ble_eq_true rfl) ⟨Nat.le_of_ble_eq_true rfl, Nat.le_of_ble_eq_true rfl⟩ (fun H locs hG hS => ?_)
      refine lv_iconst (v := (-1)) hx hb dX1_isReserved_36 (by decide) ?_
      refine lv_icmp_ne (tgt := 50) hx hb dX1_isReserved_37 (by decide) (fun c37 => ?_) (fun c37 => ?_)
      · have h := g_if c37 h
        exact J50 qx33.2 _ _ _ h hG hS (lv_sub hl [] rfl)
      · have h := g_it c37 h
        refine c_ldcS (i := 57) rfl dX1_isReserved_40 S hE hG ?_
        refine lv_lload_n hx hb dX1_isReserved_42 rfl (lv_at hl 0 rfl) ?_
        obtain ⟨qx43, e43, h⟩ := g_bd h
        refine c_cS (y := yX1_among) (rest := []) dX1_isReserved_43 q869 q870 q119 q871 hc_X1_among S hE hG hS hC0 hl.1 rfl (wm_X1_among E l (cK qx33.2 (100 + 57)) x0 qx33.2 _ _ e43) rfl (Nat.le_of_ble_eq_true rfl) ⟨Nat.le_of_ble_eq_true rfl, Nat.le_of_ble_eq_true rfl⟩ (fun H locs hG hS => ?_)
        refine lv_iconst (v := (-1)) hx hb dX1_isReserved_46 (by decide) ?_
        refine lv_icmp_eq (tgt := 54) hx hb dX1_isReserved_47 (by decide) (fun c47 => ?_) (fun c47 => ?_)
        · have h := g_it c47 h
          refine lv_iconst (v := 0) hx hb dX1_isReserved_54 (by decide) ?_
          exact c_zretW dX1_isReserved_55 S hr hk hC0 hG hS h
        · have h := g_if c47 h
          exact J50 qx43.2 _ _ _ h hG hS (lv_sub hl [] rfl)
  unfold cm_X1_isReserved at h
  refine c_ldcS (i := 53) rfl dX1_isReserved_0 S hE hG ?_
  refine lv_lload_n hx hb dX1_isReserved_2 rfl (lv_at hl 0 rfl) ?_
  obtain ⟨qx3, e3, h⟩ := g_bd h
  refine c_cS (y := yX1_among) (rest := []) dX1_isReserved_3 q869 q870 q119 q871 hc_X1_among S hE hG hS hC0 hl.1 rfl (wm_X1_among E l (cK Gz (100 + 53)) x0 Gz _ _ e3) rfl (Nat.le_of_ble_eq_true rfl) ⟨Nat.le_of_ble_eq_true rfl, Nat.le_of_ble_eq_true rfl⟩ (fun H locs hG hS => ?_)
  refine lv_iconst (v := (-1)) hx hb dX1_isReserved_6 (by decide) ?_
  refine lv_icmp_eq (tgt := 20) hx hb dX1_isReserved_7 (by decide) (fun c7 => ?_) (fun c7 => ?_)
  · have h := g_it c7 h
    exact J20 x0 qx3.2 _ _ _ h hG hS (lv_sub hl [0] rfl)
  · have h := g_if c7 h
    refine lv_lload_n hx hb dX1_isReserved_10 rfl (lv_at hl 0 rfl) ?_
    refine c_ldcS (i := 54) rfl dX1_isReserved_11 S hE hG ?_
    obtain ⟨qx13, e13, h⟩ := g_bd h
    refine c_cS (y := yX1_word) (rest := [.long x0]) dX1_isReserved_13 q873 q794 q119 q795 hc_X1_word S hE hG hS hC0 hl.1 rfl (wm_X1_word E l (cK qx3.2 (100 + 54)) qx3.2 _ _ e13) rfl (Nat.le_of_ble_eq_true rfl) ⟨Nat.le_of_ble_eq_true rfl, Nat.le_of_ble_eq_true rfl⟩ (fun H locs hG hS => ?_)
    refine W.lcmp hx hb dX1_isReserved_16 ?_
    refine lv_if_ne (tgt := 50) hx hb dX1_isReserved_17 (by decide) (fun c17 => ?_) (fun c17 => ?_)
    · have h := g_if c17 h
      exact J50 qx13.2 _ _ _ h hG hS (lv_sub hl [] rfl)
    · have h := g_it c17 h
      exact J20 x0 qx13.2 _ _ _ h hG hS (lv_sub hl [0] rfl)
theorem hc_X1_isUp : cHd yX1_isUp 1 := by decide +kernel
set_option maxHeartbeats 4000000 in
set_option maxRecDepth 100000 in
theorem wm_X1_isUp (E : gX) (l : Launch) (hl9 : l.stackTraces = false) (x0 : Nat) (x1 : Int32) (Gz : GH) (r : (GX Int32)) (h : cm_X1_isUp x0 x1 Gz = some r) : gMetX E l yX1_isUp cX1_isUp 2 (some Jvm.ClassFile.FieldType.boolean) 8 [.ref x0, .int x1] Gz (gRs (fun r => some (.int r)) r) := by
  refine gMetX.of (own := RX1) (by decide +kernel) (Nat.le_of_ble_eq_true rfl) rfl ?_
  intro p e s m args below meth c S hr hk hx9 hE hC0 hG hS ls hl
  have hl : lv_has ls 2 [(0, .ref x0), (1, .int x1)] := hl
  have hx := S.1
  have hb := S.2.1
  have J24 : ∀ (x0 : Nat) (x1 : Int32) (s0 : Int32) (G : GH) (H : Heap) (locs : List Loc) (ls : Array Slot), cm_X1_isUp_J24 x0 x1 s0 G = some r → gC E G H → va_S (gx_C E) s.heap H locs → lv_has ls 2 [(0, .ref x0), (1, .int x1)] → WC E p l e (gRm 8 (cBx Gz) (cBs Gz)) s m args below meth c H locs (gXMQ E below (gRs (fun r => some (.int r)) r) args s Gz) (F0 m 24 ls [.int s0]) := by
    intro x0 x1 s0 G H locs ls h hG hS hl
    unfold cm_X1_isUp_J24 at h
    rcases gXb_e h with ⟨qx24, e24, h⟩ | ⟨xx24, e24, rfl⟩
    rotate_left
    · exact c_xS (r := .inr xx24) (y := yX1_there) (rest := []) dX1_isUp_24 q1896 q1897 q119 q1898 hc_X1_there S hE hG hS hC0 hl.1 rfl (wm_X1_there E l hl9 s0 G _ e24) rfl (Nat.le_of_ble_eq_true rfl) ⟨Nat.le_of_ble_eq_true rfl, Nat.le_of_ble_eq_true rfl⟩ (fun hr9 => c_xthrew hC0 hr9 hS (fun H locs ce hG hS h1 h2 h3 => c_xout rfl hx9 hk hC0 hG hS h1 h2 h3))
    refine c_xS (r := .inl (none, qx24.2)) (y := yX1_there) (rest := []) dX1_isUp_24 q1896 q1897 q119 q1898 hc_X1_there S hE hG hS hC0 hl.1 rfl (wm_X1_there E l hl9 s0 G _ e24) rfl (Nat.le_of_ble_eq_true rfl) ⟨Nat.le_of_ble_eq_true rfl, Nat.le_of_ble_eq_true rfl⟩ (fun hr9 => c_xback hC0 hr9 hS (fun H locs hG hS => ?_))
    refine lv_aload_n hx hb dX1_isUp_27 rfl (lv_at hl 0 rfl) ?_
    obtain ⟨v28, e28, h⟩ := g_bd h
    refine cg_X1_49 dX1_isUp_28 S hE hG e28 ?_
    refine lv_iload_n hx hb dX1_isUp_31 rfl (lv_at hl 1 rfl) ?_
    obtain ⟨v32, e32, h⟩ := g_bd h
    refine c_aldB dX1_isUp_32 S hE hG e32 ?_
    obtain ⟨h01, h⟩ := m_zr h
    cases h
    exact c_xret (v := some (.int v32)) (G1 := qx24.2) rfl (c_zretW dX1_isUp_33 S hr hk hC0 hG hS (if_pos h01))
  have J23 : ∀ (x0 : Nat) (x1 : Int32) (G : GH) (H : Heap) (locs : List Loc) (ls : Array Slot), cm_X1_isUp_J23 x0 x1 G = some r → gC E G H → va_S (gx_C E) s.heap H locs → lv_has ls 2 [(0, .ref x0), (1, .int x1)] → WC E p l e (gRm 8 (cBx Gz) (cBs Gz)) s m args below meth c H locs (gXMQ E below (gRs (fun r => some (.int r)) r) args s Gz) (F0 m 23 ls []) := by
    intro x0 x1 G H locs ls h hG hS hl
    unfold cm_X1_isUp_J23 at h
    refine lv_iconst (v := 0) hx hb dX1_isUp_23 (by decide) ?_
    exact J24 x0 x1 0 G _ _ _ h hG hS (lv_sub hl [0, 1] rfl)
  unfold cm_X1_isUp at h
  refine lv_aload_n hx hb dX1_isUp_0 rfl (lv_at hl 0 rfl) ?_
  obtain ⟨u1, t1, h⟩ := g_bd h
  rcases gXb_e h with ⟨qx1, e1, h⟩ | ⟨xx1, e1, rfl⟩
  rotate_left
  · exact c_xV (r := .inr xx1) (y := yX1_isFair) (rest := []) dX1_isUp_1 q1929 q1931 qs39 q119 q1932 hc_X1_isFair rfl S hE hG hS hC0 hl.1 rfl (c_recv hE hG (ci := 8) rfl (by decide) (c_castM t1)) (wm_X1_isFair E l hl9 x0 Gz _ e1) rfl (Nat.le_of_ble_eq_true rfl) ⟨Nat.le_of_ble_eq_true rfl, Nat.le_of_ble_eq_true rfl⟩ (fun hr9 => c_xthrew hC0 hr9 hS (fun H locs ce hG hS h1 h2 h3 => c_xout rfl hx9 hk hC0 hG hS h1 h2 h3))
  refine c_xV (r := .inl (none, qx1.2)) (y := yX1_isFair) (rest := []) dX1_isUp_1 q1929 q1931 qs39 q119 q1932 hc_X1_isFair rfl S hE hG hS hC0 hl.1 rfl (c_recv hE hG (ci := 8) rfl (by decide) (c_castM t1)) (wm_X1_isFair E l hl9 x0 Gz _ e1) rfl (Nat.le_of_ble_eq_true rfl) ⟨Nat.le_of_ble_eq_true rfl, Nat.le_of_ble_eq_true rfl⟩ (fun hr9 => c_xback hC0 hr9 hS (fun H locs hG hS => ?_))
  refine lv_iload_n hx hb dX1_isUp_4 rfl (lv_at hl 1 rfl) ?_
  refine lv_if_lt (tgt := 23) hx hb dX1_isUp_5 (by decide) (fun c5 => ?_) (fun c5 => ?_)
  · have h := g_it c5 h
    exact J23 x0 x1 qx1.2 _ _ _ h hG hS (lv_sub hl [0, 1] rfl)
  · have h := g_if c5 h
    refine lv_iload_n hx hb dX1_isUp_8 rfl (lv_at hl 1 rfl) ?_
    refine lv_aload_n hx hb dX1_isUp_9 rfl (lv_at hl 0 rfl) ?_
    obtain ⟨v10, e10, h⟩ := g_bd h
    refine cg_X1_75 dX1_isUp_10 S hE hG e10 ?_
    obtain ⟨b13, eb13, h⟩ := g_bd h
    have rb13 : va_rf v10 = .ref b13 := by rw [eb13]; rfl
    (try rw [rb13] at hl)
    (try rw [rb13])
    obtain ⟨v13, e13, h⟩ := g_bd h
    refine cg_X1_116 dX1_isUp_13 S hE hG e13 ?_
    refine lv_icmp_ge (tgt := 23) hx hb dX1_isUp_16 (by decide) (fun c16 => ?_) (fun c16 => ?_)
    · have h := g_it c16 h
      exact J23 x0 x1 qx1.2 _ _ _ h hG hS (lv_sub hl [0, 1] rfl)
    · have h := g_if c16 h
      refine lv_iconst (v := 1) hx hb dX1_isUp_19 (by decide) ?_
      refine lv_goto (tgt := 24) hx hb dX1_isUp_20 (by decide) ?_
      exact J24 x0 x1 1 qx1.2 _ _ _ h hG hS (lv_sub hl [0, 1] rfl)
theorem hc_X1_log : cHd yX1_log 2 := by decide +kernel
set_option maxHeartbeats 4000000 in
set_option maxRecDepth 100000 in
theorem wm_X1_log (E : gX) (l : Launch) (hl9 : l.stackTraces = false) (x0 : Nat) (x1 : Int32) (x2 : Int32) (Gz : GH) (r : (GX Int32)) (h : cm_X1_log x0 x1 x2 Gz = some r) : gMetX E l yX1_log cX1_log 3 (some Jvm.ClassFile.FieldType.int) 8 [.ref x0, .int x1, .int x2] Gz (gRs (fun r => some (.int r)) r) := by
  refine gMetX.of (own := RX1) (by decide +kernel) (Nat.le_of_ble_eq_true rfl) rfl ?_
  intro p e s m args below meth c S hr hk hx9 hE hC0 hG hS ls hl
  have hl : lv_has ls 3 [(0, .ref x0), (1, .int x1), (2, .int x2)] := hl
  have hx := S.1
  have hb := S.2.1
  have J37 : ∀ (x0 : Nat) (x1 : Int32) (x2 : Int32) (s0 : Int32) (G : GH) (H : Heap) (locs : List Loc) (ls : Array Slot), cm_X1_log_J37 x0 x1 x2 s0 G = some r → gC E G H → va_S (gx_C E) s.heap H locs → lv_has ls 3 [(0, .ref x0), (1, .int x1), (2, .int x2)] → WC E p l e (gRm 8 (cBx Gz) (cBs Gz)) s m args below meth c H locs (gXMQ E below (gRs (fun r => some (.int r)) r) args s Gz) (F0 m 37 ls [.int s0]) := by
    intro x0 x1 x2 s0 G H locs ls h hG hS hl
    unfold cm_X1_log_J37 at h
    rcases gXb_e h with ⟨qx37, e37, h⟩ | ⟨xx37, e37, rfl⟩
    rotate_left
    · exact c_xS (r := .inr xx37) (y := yX1_there) (rest := []) dX1_log_37 q1896 q1897 q119 q1898 hc_X1_there S hE hG hS hC0 hl.1 rfl (wm_X1_there E l hl9 s0 G _ e37) rfl (Nat.le_of_ble_eq_true rfl) ⟨Nat.le_of_ble_eq_true rfl, Nat.le_of_ble_eq_true rfl⟩ (fun hr9 => c_xthrew hC0 hr9 hS (fun H locs ce hG hS h1 h2 h3 => c_xout rfl hx9 hk hC0 hG hS h1 h2 h3))
    refine c_xS (r := .inl (none, qx37.2)) (y := yX1_there) (rest := []) dX1_log_37 q1896 q1897 q119 q1898 hc_X1_there S hE hG hS hC0 hl.1 rfl (wm_X1_there E l hl9 s0 G _ e37) rfl (Nat.le_of_ble_eq_true rfl) ⟨Nat.le_of_ble_eq_true rfl, Nat.le_of_ble_eq_true rfl⟩ (fun hr9 => c_xback hC0 hr9 hS (fun H locs hG hS => ?_))
    refine lv_iload_n hx hb dX1_log_40 rfl (lv_at hl 2 rfl) ?_
    refine lv_if_ne (tgt := 53) hx hb dX1_log_41 (by decide) (fun c41 => ?_) (fun c41 => ?_)
    · have h := g_if c41 h
      refine lv_iload_n hx hb dX1_log_53 rfl (lv_at hl 2 rfl) ?_
      refine lv_iconst (v := 1) hx hb dX1_log_54 (by decide) ?_
      refine lv_icmp_ne (tgt := 67) hx hb dX1_log_55 (by decide) (fun c55 => ?_) (fun c55 => ?_)
      · have h := g_if c55 h
        refine lv_iload_n hx hb dX1_log_67 rfl (lv_at hl 2 rfl) ?_
        refine lv_iconst (v := 2) hx hb dX1_log_68 (by decide) ?_
        refine lv_icmp_ne (tgt := 81) hx hb dX1_log_69 (by decide) (fun c69 => ?_) (fun c69 => ?_)
        · have h := g_if c69 h
          refine lv_aload_n hx hb dX1_log_81 rfl (lv_at hl 0 rfl) ?_
          obtain ⟨v82, e82, h⟩ := g_bd h
          refine cg_X1_62 dX1_log_82 S hE hG e82 ?_
          refine lv_iload_n hx hb dX1_log_85 rfl (lv_at hl 1 rfl) ?_
          obtain ⟨v86, e86, h⟩ := g_bd h
          refine c_aldI dX1_log_86 S hE hG e86 ?_
          cases h
          exact c_xret (v := some (.int v86)) (G1 := qx37.2) rfl (c_iretW dX1_log_87 S hr hk hC0 hG hS rfl)
        · have h := g_it c69 h
          refine lv_aload_n hx hb dX1_log_72 rfl (lv_at hl 0 rfl) ?_
          obtain ⟨v73, e73, h⟩ := g_bd h
          refine cg_X1_59 dX1_log_73 S hE hG e73 ?_
          refine lv_iload_n hx hb dX1_log_76 rfl (lv_at hl 1 rfl) ?_
          obtain ⟨v77, e77, h⟩ := g_bd h
          refine c_aldI dX1_log_77 S hE hG e77 ?_
          refine lv_goto (tgt := 87) hx hb dX1_log_78 (by decide) ?_
          cases h
          exact c_xret (v := some (.int v77)) (G1 := qx37.2) rfl (c_iretW dX1_log_87 S hr hk hC0 hG hS rfl)
      · have h := g_it c55 h
        refine lv_aload_n hx hb dX1_log_58 rfl (lv_at hl 0 rfl) ?_
        obtain ⟨v59, e59, h⟩ := g_bd h
        refine cg_X1_56 dX1_log_59 S hE hG e59 ?_
        refine lv_iload_n hx hb dX1_log_62 rfl (lv_at hl 1 rfl) ?_
        obtain ⟨v63, e63, h⟩ := g_bd h
        refine c_aldI dX1_log_63 S hE hG e63 ?_
        refine lv_goto (tgt := 87) hx hb dX1_log_64 (by decide) ?_
        cases h
        exact c_xret (v := some (.int v63)) (G1 := qx37.2) rfl (c_iretW dX1_log_87 S hr hk hC0 hG hS rfl)
    · have h := g_it c41 h
      refine lv_aload_n hx hb dX1_log_44 rfl (lv_at hl 0 rfl) ?_
      obtain ⟨v45, e45, h⟩ := g_bd h
      refine cg_X1_53 dX1_log_45 S hE hG e45 ?_
      refine lv_iload_n hx hb dX1_log_48 rfl (lv_at hl 1 rfl) ?_
      obtain ⟨v49, e49, h⟩ := g_bd h
      refine c_aldI dX1_log_49 S hE hG e49 ?_
      refine lv_goto (tgt := 87) hx hb dX1_log_50 (by decide) ?_
      cases h
      exact c_xret (v := some (.int v49)) (G1 := qx37.2) rfl (c_iretW dX1_log_87 S hr hk hC0 hG hS rfl)
  have J36 : ∀ (x0 : Nat) (x1 : Int32) (x2 : Int32) (G : GH) (H : Heap) (locs : List Loc) (ls : Array Slot), cm_X1_log_J36 x0 x1 x2 G = some r → gC E G H → va_S (gx_C E) s.heap H locs → lv_has ls 3 [(0, .ref x0), (1, .int x1), (2, .int x2)] → WC E p l e (gRm 8 (cBx Gz) (cBs Gz)) s m args below meth c H locs (gXMQ E below (gRs (fun r => some (.int r)) r) args s Gz) (F0 m 36 ls []) := by
    intro x0 x1 x2 G H locs ls h hG hS hl
    unfold cm_X1_log_J36 at h
    refine lv_iconst (v := 0) hx hb dX1_log_36 (by decide) ?_
    exact J37 x0 x1 x2 0 G _ _ _ h hG hS (lv_sub hl [0, 1, 2] rfl)
  unfold cm_X1_log at h
  refine lv_aload_n hx hb dX1_log_0 rfl (lv_at hl 0 rfl) ?_
  obtain ⟨u1, t1, h⟩ := g_bd h
  rcases gXb_e h with ⟨qx1, e1, h⟩ | ⟨xx1, e1, rfl⟩
  rotate_left
  · exact c_xV (r := .inr xx1) (y := yX1_isFair) (rest := []) dX1_log_1 q1929 q1931 qs39 q119 q1932 hc_X1_isFair rfl S hE hG hS hC0 hl.1 rfl (c_recv hE hG (ci := 8) rfl (by decide) (c_castM t1)) (wm_X1_isFair E l hl9 x0 Gz _ e1) rfl (Nat.le_of_ble_eq_true rfl) ⟨Nat.le_of_ble_eq_true rfl, Nat.le_of_ble_eq_true rfl⟩ (fun hr9 => c_xthrew hC0 hr9 hS (fun H locs ce hG hS h1 h2 h3 => c_xout rfl hx9 hk hC0 hG hS h1 h2 h3))
  refine c_xV (r := .inl (none, qx1.2)) (y := yX1_isFair) (rest := []) dX1_log_1 q1929 q1931 qs39 q119 q1932 hc_X1_isFair rfl S hE hG hS hC0 hl.1 rfl (c_recv hE hG (ci := 8) rfl (by decide) (c_castM t1)) (wm_X1_isFair E l hl9 x0 Gz _ e1) rfl (Nat.le_of_ble_eq_true rfl) ⟨Nat.le_of_ble_eq_true rfl, Nat.le_of_ble_eq_true rfl⟩ (fun hr9 => c_xback hC0 hr9 hS (fun H locs hG hS => ?_))
  refine lv_iload_n hx hb dX1_log_4 rfl (lv_at hl 1 rfl) ?_
  refine lv_if_lt (tgt := 36) hx hb dX1_log_5 (by decide) (fun c5 => ?_) (fun c5 => ?_)
  · have h := g_it c5 h
    exact J36 x0 x1 x2 qx1.2 _ _ _ h hG hS (lv_sub hl [0, 1, 2] rfl)
  · have h := g_if c5 h
    refine lv_iload_n hx hb dX1_log_8 rfl (lv_at hl 1 rfl) ?_
    refine lv_aload_n hx hb dX1_log_9 rfl (lv_at hl 0 rfl) ?_
    obtain ⟨v10, e10, h⟩ := g_bd h
    refine cg_X1_145 dX1_log_10 S hE hG e10 ?_
    refine lv_icmp_ge (tgt := 36) hx hb dX1_log_13 (by decide) (fun c13 => ?_) (fun c13 => ?_)
    · have h := g_it c13 h
      exact J36 x0 x1 x2 qx1.2 _ _ _ h hG hS (lv_sub hl [0, 1, 2] rfl)
    · have h := g_if c13 h
      refine lv_iload_n hx hb dX1_log_16 rfl (lv_at hl 1 rfl) ?_
      refine lv_sipush (v := 400) hx hb dX1_log_17 (by decide) ?_
      refine lv_icmp_ge (tgt := 36) hx hb dX1_log_20 (by decide) (fun c20 => ?_) (fun c20 => ?_)
      · have h := g_it c20 h
        exact J36 x0 x1 x2 qx1.2 _ _ _ h hG hS (lv_sub hl [0, 1, 2] rfl)
      · have h := g_if c20 h
        refine lv_iload_n hx hb dX1_log_23 rfl (lv_at hl 2 rfl) ?_
        refine lv_if_lt (tgt := 36) hx hb dX1_log_24 (by decide) (fun c24 => ?_) (fun c24 => ?_)
        · have h := g_it c24 h
          exact J36 x0 x1 x2 qx1.2 _ _ _ h hG hS (lv_sub hl [0, 1, 2] rfl)
        · have h := g_if c24 h
          refine lv_iload_n hx hb dX1_log_27 rfl (lv_at hl 2 rfl) ?_
          refine lv_iconst (v := 3) hx hb dX1_log_28 (by decide) ?_
          refine lv_icmp_gt (tgt := 36) hx hb dX1_log_29 (by decide) (fun c29 => ?_) (fun c29 => ?_)
          · have h := g_it c29 h
            exact J36 x0 x1 x2 qx1.2 _ _ _ h hG hS (lv_sub hl [0, 1, 2] rfl)
          · have h := g_if c29 h
            refine lv_iconst (v := 1) hx hb dX1_log_32 (by decide) ?_
            refine lv_goto (tgt := 37) hx hb dX1_log_33 (by decide) ?_
            exact J37 x0 x1 x2 1 qx1.2 _ _ _ h hG hS (lv_sub hl [0, 1, 2] rfl)
theorem hc_X1_measure : cHd yX1_measure 2 := by decide +kernel
set_option maxHeartbeats 4000000 in
set_option maxRecDepth 100000 in
theorem wm_X1_measure (E : gX) (l : Launch) (hl9 : l.stackTraces = false) (x0 : Nat) (x1 : Int32) (x2 : Int32) (Gz : GH) (r : (GX Int32)) (h : cm_X1_measure x0 x1 x2 Gz = some r) : gMetX E l yX1_measure cX1_measure 5 (some Jvm.ClassFile.FieldType.int) 9 [.ref x0, .int x1, .int x2] Gz (gRs (fun r => some (.int r)) r) := by
  refine gMetX.of (own := RX1) (by decide +kernel) (Nat.le_of_ble_eq_true rfl) rfl ?_
  intro p e s m args below meth c S hr hk hx9 hE hC0 hG hS ls hl
  have hl : lv_has ls 5 [(0, .ref x0), (1, .int x1), (2, .int x2)] := hl
  have hx := S.1
  have hb := S.2.1
  have J202 : ∀ (s0 : Nat) (s1 : Int32) (G : GH) (H : Heap) (locs : List Loc) (ls : Array Slot), cm_X1_measure_J202 s0 s1 G = some r → gC E G H → va_S (gx_C E) s.heap H locs → lv_has ls 5 [] → WC E p l e (gRm 9 (cBx Gz) (cBs Gz)) s m args below meth c H locs (gXMQ E below (gRs (fun r => some (.int r)) r) args s Gz) (F0 m 202 ls [.int s1, .ref s0]) := by
    intro s0 s1 G H locs ls h hG hS hl
    unfold cm_X1_measure_J202 at h
    obtain ⟨v202, e202, h⟩ := g_bd h
    refine c_cS (y := yX1_measured) (rest := []) dX1_measure_202 q2571 q2036 q119 q2037 hc_X1_measured S hE hG hS hC0 hl.1 rfl (wm_X1_measured E l s0 s1 G _ e202) rfl (Nat.le_of_ble_eq_true rfl) ⟨Nat.le_of_ble_eq_true rfl, Nat.le_of_ble_eq_true rfl⟩ (fun H locs hG hS => ?_)
    cases h
    exact c_xret (v := some (.int v202)) (G1 := G) rfl (c_iretW dX1_measure_205 S hr hk hC0 hG hS rfl)
  have J25 : ∀ (x2 : Int32) (x3 : Nat) (s0 : Int32) (G : GH) (H : Heap) (locs : List Loc) (ls : Array Slot), cm_X1_measure_J25 x2 x3 s0 G = some r → gC E G H → va_S (gx_C E) s.heap H locs → lv_has ls 5 [(2, .int x2), (3, .ref x3)] → WC E p l e (gRm 9 (cBx Gz) (cBs Gz)) s m args below meth c H locs (gXMQ E below (gRs (fun r => some (.int r)) r) args s Gz) (F0 m 25 ls [.int s0]) := by
    intro x2 x3 s0 G H locs ls h hG hS hl
    unfold cm_X1_measure_J25 at h
    rcases gXb_e h with ⟨qx25, e25, h⟩ | ⟨xx25, e25, rfl⟩
    rotate_left
    · exact c_xS (r := .inr xx25) (y := yX1_there) (rest := []) dX1_measure_25 q1896 q1897 q119 q1898 hc_X1_there S hE hG hS hC0 hl.1 rfl (wm_X1_there E l hl9 s0 G _ e25) rfl (Nat.le_of_ble_eq_true rfl) ⟨Nat.le_of_ble_eq_true rfl, Nat.le_of_ble_eq_true rfl⟩ (fun hr9 => c_xthrew hC0 hr9 hS (fun H locs ce hG hS h1 h2 h3 => c_xout rfl hx9 hk hC0 hG hS h1 h2 h3))
    refine c_xS (r := .inl (none, qx25.2)) (y := yX1_there) (rest := []) dX1_measure_25 q1896 q1897 q119 q1898 hc_X1_there S hE hG hS hC0 hl.1 rfl (wm_X1_there E l hl9 s0 G _ e25) rfl (Nat.le_of_ble_eq_true rfl) ⟨Nat.le_of_ble_eq_true rfl, Nat.le_of_ble_eq_true rfl⟩ (fun hr9 => c_xback hC0 hr9 hS (fun H locs hG hS => ?_))
    refine lv_iload_n hx hb dX1_measure_28 rfl (lv_at hl 0 rfl) ?_
    by_cases c29_0 : x2 = 0
    · have h := g_it c29_0 h
      refine lv_tableIn (off := 59) (tgt := 88) hx hb dX1_measure_29 (by rw [c29_0]; decide) (by rw [c29_0]; decide) (by rw [c29_0]; rfl) (by decide) ?_
      refine lv_aload_n hx hb dX1_measure_88 rfl (lv_at hl 1 rfl) ?_
      obtain ⟨v89, e89, h⟩ := g_bd h
      refine cg_X1_426 dX1_measure_89 S hE hG e89 ?_
      cases h
      exact c_xret (v := some (.int v89)) (G1 := qx25.2) rfl (c_iretW dX1_measure_92 S hr hk hC0 hG hS rfl)
    have h := g_if c29_0 h
    by_cases c29_1 : x2 = 1
    · have h := g_it c29_1 h
      refine lv_tableIn (off := 64) (tgt := 93) hx hb dX1_measure_29 (by rw [c29_1]; decide) (by rw [c29_1]; decide) (by rw [c29_1]; rfl) (by decide) ?_
      refine lv_aload_n hx hb dX1_measure_93 rfl (lv_at hl 1 rfl) ?_
      refine lv_iconst (v := 0) hx hb dX1_measure_94 (by decide) ?_
      obtain ⟨v95, e95, h⟩ := g_bd h
      refine c_cS (y := yX1_measured) (rest := []) dX1_measure_95 q2571 q2036 q119 q2037 hc_X1_measured S hE hG hS hC0 hl.1 rfl (wm_X1_measured E l x3 0 qx25.2 _ e95) rfl (Nat.le_of_ble_eq_true rfl) ⟨Nat.le_of_ble_eq_true rfl, Nat.le_of_ble_eq_true rfl⟩ (fun H locs hG hS => ?_)
      cases h
      exact c_xret (v := some (.int v95)) (G1 := qx25.2) rfl (c_iretW dX1_measure_98 S hr hk hC0 hG hS rfl)
    have h := g_if c29_1 h
    by_cases c29_2 : x2 = 2
    · have h := g_it c29_2 h
      refine lv_tableIn (off := 70) (tgt := 99) hx hb dX1_measure_29 (by rw [c29_2]; decide) (by rw [c29_2]; decide) (by rw [c29_2]; rfl) (by decide) ?_
      refine lv_aload_n hx hb dX1_measure_99 rfl (lv_at hl 1 rfl) ?_
      obtain ⟨v100, e100, h⟩ := g_bd h
      refine ci_X1_167 dX1_measure_100 S hE hG e100 ?_
      refine lv_if_eq (tgt := 125) hx hb dX1_measure_103 (by decide) (fun c103 => ?_) (fun c103 => ?_)
      · have h := g_it c103 h
        refine lv_iconst (v := 0) hx hb dX1_measure_125 (by decide) ?_
        cases h
        exact c_xret (v := some (.int 0)) (G1 := qx25.2) rfl (c_iretW dX1_measure_126 S hr hk hC0 hG hS rfl)
      · have h := g_if c103 h
        refine lv_aload_n hx hb dX1_measure_106 rfl (lv_at hl 1 rfl) ?_
        obtain ⟨u107, e107, h⟩ := g_bd h
        refine ck_X1_167 dX1_measure_107 S hE hG e107 ?_
        refine lv_astore (lv' := [(4, .ref x3), (2, .int x2), (3, .ref x3)]) hx hb dX1_measure_110 hl (by decide) rfl (fun ls hl => ?_)
        refine lv_aload hx hb dX1_measure_112 (lv_at hl 0 rfl) ?_
        obtain ⟨v114, e114, h⟩ := g_bd h
        refine wd_Turns_spin (rest := []) q1734 dX1_measure_114 S hE hG hS hC0 hl.1 e114 rfl (Nat.le_of_ble_eq_true rfl) (by decide) (fun H locs hG hS => ?_)
        obtain ⟨v119, e119, h⟩ := g_bd h
        refine cg_X1_204 dX1_measure_119 S hE hG e119 ?_
        refine lv_goto (tgt := 126) hx hb dX1_measure_122 (by decide) ?_
        cases h
        exact c_xret (v := some (.int v119)) (G1 := qx25.2) rfl (c_iretW dX1_measure_126 S hr hk hC0 hG hS rfl)
    have h := g_if c29_2 h
    by_cases c29_3 : x2 = 3
    · have h := g_it c29_3 h
      refine lv_tableIn (off := 98) (tgt := 127) hx hb dX1_measure_29 (by rw [c29_3]; decide) (by rw [c29_3]; decide) (by rw [c29_3]; rfl) (by decide) ?_
      refine lv_aload_n hx hb dX1_measure_127 rfl (lv_at hl 1 rfl) ?_
      refine lv_iconst (v := 1) hx hb dX1_measure_128 (by decide) ?_
      obtain ⟨v129, e129, h⟩ := g_bd h
      refine c_cS (y := yX1_measured) (rest := []) dX1_measure_129 q2571 q2036 q119 q2037 hc_X1_measured S hE hG hS hC0 hl.1 rfl (wm_X1_measured E l x3 1 qx25.2 _ e129) rfl (Nat.le_of_ble_eq_true rfl) ⟨Nat.le_of_ble_eq_true rfl, Nat.le_of_ble_eq_true rfl⟩ (fun H locs hG hS => ?_)
      cases h
      exact c_xret (v := some (.int v129)) (G1 := qx25.2) rfl (c_iretW dX1_measure_132 S hr hk hC0 hG hS rfl)
    have h := g_if c29_3 h
    by_cases c29_4 : x2 = 4
    · have h := g_it c29_4 h
      refine lv_tableIn (off := 104) (tgt := 133) hx hb dX1_measure_29 (by rw [c29_4]; decide) (by rw [c29_4]; decide) (by rw [c29_4]; rfl) (by decide) ?_
      refine lv_aload_n hx hb dX1_measure_133 rfl (lv_at hl 1 rfl) ?_
      obtain ⟨v134, e134, h⟩ := g_bd h
      refine ci_X1_178 dX1_measure_134 S hE hG e134 ?_
      refine lv_if_eq (tgt := 159) hx hb dX1_measure_137 (by decide) (fun c137 => ?_) (fun c137 => ?_)
      · have h := g_it c137 h
        refine lv_iconst (v := 0) hx hb dX1_measure_159 (by decide) ?_
        cases h
        exact c_xret (v := some (.int 0)) (G1 := qx25.2) rfl (c_iretW dX1_measure_160 S hr hk hC0 hG hS rfl)
      · have h := g_if c137 h
        refine lv_aload_n hx hb dX1_measure_140 rfl (lv_at hl 1 rfl) ?_
        obtain ⟨u141, e141, h⟩ := g_bd h
        refine ck_X1_178 dX1_measure_141 S hE hG e141 ?_
        refine lv_astore (lv' := [(4, .ref x3), (2, .int x2), (3, .ref x3)]) hx hb dX1_measure_144 hl (by decide) rfl (fun ls hl => ?_)
        refine lv_aload hx hb dX1_measure_146 (lv_at hl 0 rfl) ?_
        obtain ⟨v148, e148, h⟩ := g_bd h
        refine wd_Lifts_hoist (rest := []) q1737 dX1_measure_148 S hE hG hS hC0 hl.1 e148 rfl (Nat.le_of_ble_eq_true rfl) (by decide) (fun H locs hG hS => ?_)
        obtain ⟨v153, e153, h⟩ := g_bd h
        refine cg_X1_207 dX1_measure_153 S hE hG e153 ?_
        refine lv_goto (tgt := 160) hx hb dX1_measure_156 (by decide) ?_
        cases h
        exact c_xret (v := some (.int v153)) (G1 := qx25.2) rfl (c_iretW dX1_measure_160 S hr hk hC0 hG hS rfl)
    have h := g_if c29_4 h
    by_cases c29_5 : x2 = 5
    · have h := g_it c29_5 h
      refine lv_tableIn (off := 160) (tgt := 189) hx hb dX1_measure_29 (by rw [c29_5]; decide) (by rw [c29_5]; decide) (by rw [c29_5]; rfl) (by decide) ?_
      refine lv_aload_n hx hb dX1_measure_189 rfl (lv_at hl 1 rfl) ?_
      refine lv_iload_n hx hb dX1_measure_190 rfl (lv_at hl 0 rfl) ?_
      refine lv_iconst (v := 5) hx hb dX1_measure_191 (by decide) ?_
      refine lv_icmp_ne (tgt := 199) hx hb dX1_measure_192 (by decide) (fun c192 => ?_) (fun c192 => ?_)
      · have h := g_if c192 h
        refine lv_iload_n hx hb dX1_measure_199 rfl (lv_at hl 0 rfl) ?_
        refine lv_iconst (v := 3) hx hb dX1_measure_200 (by decide) ?_
        refine lv_isub hx hb dX1_measure_201 ?_
        exact J202 x3 (x2 - 3) qx25.2 _ _ _ h hG hS (lv_sub hl [] rfl)
      · have h := g_it c192 h
        refine lv_iconst (v := 2) hx hb dX1_measure_195 (by decide) ?_
        refine lv_goto (tgt := 202) hx hb dX1_measure_196 (by decide) ?_
        exact J202 x3 2 qx25.2 _ _ _ h hG hS (lv_sub hl [] rfl)
    have h := g_if c29_5 h
    by_cases c29_6 : x2 = 6
    · have h := g_it c29_6 h
      refine lv_tableIn (off := 160) (tgt := 189) hx hb dX1_measure_29 (by rw [c29_6]; decide) (by rw [c29_6]; decide) (by rw [c29_6]; rfl) (by decide) ?_
      refine lv_aload_n hx hb dX1_measure_189 rfl (lv_at hl 1 rfl) ?_
      refine lv_iload_n hx hb dX1_measure_190 rfl (lv_at hl 0 rfl) ?_
      refine lv_iconst (v := 5) hx hb dX1_measure_191 (by decide) ?_
      refine lv_icmp_ne (tgt := 199) hx hb dX1_measure_192 (by decide) (fun c192 => ?_) (fun c192 => ?_)
      · have h := g_if c192 h
        refine lv_iload_n hx hb dX1_measure_199 rfl (lv_at hl 0 rfl) ?_
        refine lv_iconst (v := 3) hx hb dX1_measure_200 (by decide) ?_
        refine lv_isub hx hb dX1_measure_201 ?_
        exact J202 x3 (x2 - 3) qx25.2 _ _ _ h hG hS (lv_sub hl [] rfl)
      · have h := g_it c192 h
        refine lv_iconst (v := 2) hx hb dX1_measure_195 (by decide) ?_
        refine lv_goto (tgt := 202) hx hb dX1_measure_196 (by decide) ?_
        exact J202 x3 2 qx25.2 _ _ _ h hG hS (lv_sub hl [] rfl)
    have h := g_if c29_6 h
    by_cases c29_7 : x2 = 7
    · have h := g_it c29_7 h
      refine lv_tableIn (off := 160) (tgt := 189) hx hb dX1_measure_29 (by rw [c29_7]; decide) (by rw [c29_7]; decide) (by rw [c29_7]; rfl) (by decide) ?_
      refine lv_aload_n hx hb dX1_measure_189 rfl (lv_at hl 1 rfl) ?_
      refine lv_iload_n hx hb dX1_measure_190 rfl (lv_at hl 0 rfl) ?_
      refine lv_iconst (v := 5) hx hb dX1_measure_191 (by decide) ?_
      refine lv_icmp_ne (tgt := 199) hx hb dX1_measure_192 (by decide) (fun c192 => ?_) (fun c192 => ?_)
      · have h := g_if c192 h
        refine lv_iload_n hx hb dX1_measure_199 rfl (lv_at hl 0 rfl) ?_
        refine lv_iconst (v := 3) hx hb dX1_measure_200 (by decide) ?_
        refine lv_isub hx hb dX1_measure_201 ?_
        exact J202 x3 (x2 - 3) qx25.2 _ _ _ h hG hS (lv_sub hl [] rfl)
      · have h := g_it c192 h
        refine lv_iconst (v := 2) hx hb dX1_measure_195 (by decide) ?_
        refine lv_goto (tgt := 202) hx hb dX1_measure_196 (by decide) ?_
        exact J202 x3 2 qx25.2 _ _ _ h hG hS (lv_sub hl [] rfl)
    have h := g_if c29_7 h
    by_cases c29_8 : x2 = 8
    · have h := g_it c29_8 h
      refine lv_tableIn (off := 160) (tgt := 189) hx hb dX1_measure_29 (by rw [c29_8]; decide) (by rw [c29_8]; decide) (by rw [c29_8]; rfl) (by decide) ?_
      refine lv_aload_n hx hb dX1_measure_189 rfl (lv_at hl 1 rfl) ?_
      refine lv_iload_n hx hb dX1_measure_190 rfl (lv_at hl 0 rfl) ?_
      refine lv_iconst (v := 5) hx hb dX1_measure_191 (by decide) ?_
      refine lv_icmp_ne (tgt := 199) hx hb dX1_measure_192 (by decide) (fun c192 => ?_) (fun c192 => ?_)
      · have h := g_if c192 h
        refine lv_iload_n hx hb dX1_measure_199 rfl (lv_at hl 0 rfl) ?_
        refine lv_iconst (v := 3) hx hb dX1_measure_200 (by decide) ?_
        refine lv_isub hx hb dX1_measure_201 ?_
        exact J202 x3 (x2 - 3) qx25.2 _ _ _ h hG hS (lv_sub hl [] rfl)
      · have h := g_it c192 h
        refine lv_iconst (v := 2) hx hb dX1_measure_195 (by decide) ?_
        refine lv_goto (tgt := 202) hx hb dX1_measure_196 (by decide) ?_
        exact J202 x3 2 qx25.2 _ _ _ h hG hS (lv_sub hl [] rfl)
    have h := g_if c29_8 h
    by_cases c29_9 : x2 = 9
    · have h := g_it c29_9 h
      refine lv_tableIn (off := 160) (tgt := 189) hx hb dX1_measure_29 (by rw [c29_9]; decide) (by rw [c29_9]; decide) (by rw [c29_9]; rfl) (by decide) ?_
      refine lv_aload_n hx hb dX1_measure_189 rfl (lv_at hl 1 rfl) ?_
      refine lv_iload_n hx hb dX1_measure_190 rfl (lv_at hl 0 rfl) ?_
      refine lv_iconst (v := 5) hx hb dX1_measure_191 (by decide) ?_
      refine lv_icmp_ne (tgt := 199) hx hb dX1_measure_192 (by decide) (fun c192 => ?_) (fun c192 => ?_)
      · have h := g_if c192 h
        refine lv_iload_n hx hb dX1_measure_199 rfl (lv_at hl 0 rfl) ?_
        refine lv_iconst (v := 3) hx hb dX1_measure_200 (by decide) ?_
        refine lv_isub hx hb dX1_measure_201 ?_
        exact J202 x3 (x2 - 3) qx25.2 _ _ _ h hG hS (lv_sub hl [] rfl)
      · have h := g_it c192 h
        refine lv_iconst (v := 2) hx hb dX1_measure_195 (by decide) ?_
        refine lv_goto (tgt := 202) hx hb dX1_measure_196 (by decide) ?_
        exact J202 x3 2 qx25.2 _ _ _ h hG hS (lv_sub hl [] rfl)
    have h := g_if c29_9 h
    by_cases c29_10 : x2 = 10
    · have h := g_it c29_10 h
      refine lv_tableIn (off := 132) (tgt := 161) hx hb dX1_measure_29 (by rw [c29_10]; decide) (by rw [c29_10]; decide) (by rw [c29_10]; rfl) (by decide) ?_
      refine lv_aload_n hx hb dX1_measure_161 rfl (lv_at hl 1 rfl) ?_
      obtain ⟨v162, e162, h⟩ := g_bd h
      refine ci_X1_195 dX1_measure_162 S hE hG e162 ?_
      refine lv_if_eq (tgt := 187) hx hb dX1_measure_165 (by decide) (fun c165 => ?_) (fun c165 => ?_)
      · have h := g_it c165 h
        refine lv_iconst (v := 0) hx hb dX1_measure_187 (by decide) ?_
        cases h
        exact c_xret (v := some (.int 0)) (G1 := qx25.2) rfl (c_iretW dX1_measure_188 S hr hk hC0 hG hS rfl)
      · have h := g_if c165 h
        refine lv_aload_n hx hb dX1_measure_168 rfl (lv_at hl 1 rfl) ?_
        obtain ⟨u169, e169, h⟩ := g_bd h
        refine ck_X1_195 dX1_measure_169 S hE hG e169 ?_
        refine lv_astore (lv' := [(4, .ref x3), (2, .int x2), (3, .ref x3)]) hx hb dX1_measure_172 hl (by decide) rfl (fun ls hl => ?_)
        refine lv_aload hx hb dX1_measure_174 (lv_at hl 0 rfl) ?_
        obtain ⟨v176, e176, h⟩ := g_bd h
        refine wd_Seats_bench (rest := []) q1827 dX1_measure_176 S hE hG hS hC0 hl.1 e176 rfl (Nat.le_of_ble_eq_true rfl) (by decide) (fun H locs hG hS => ?_)
        obtain ⟨v181, e181, h⟩ := g_bd h
        refine cg_X1_431 dX1_measure_181 S hE hG e181 ?_
        refine lv_goto (tgt := 188) hx hb dX1_measure_184 (by decide) ?_
        cases h
        exact c_xret (v := some (.int v181)) (G1 := qx25.2) rfl (c_iretW dX1_measure_188 S hr hk hC0 hG hS rfl)
    have h := g_if c29_10 h
    refine lv_tableOut (tgt := 189) hx hb dX1_measure_29 (g_swOut 0 10 (by intro k hk; match k, hk with | 0, _ => exact c29_0 | 1, _ => exact c29_1 | 2, _ => exact c29_2 | 3, _ => exact c29_3 | 4, _ => exact c29_4 | 5, _ => exact c29_5 | 6, _ => exact c29_6 | 7, _ => exact c29_7 | 8, _ => exact c29_8 | 9, _ => exact c29_9 | 10, _ => exact c29_10 | k + 11, hk => exact absurd hk (by omega)) (by decide) (by decide)) (by decide) ?_
    refine lv_aload_n hx hb dX1_measure_189 rfl (lv_at hl 1 rfl) ?_
    refine lv_iload_n hx hb dX1_measure_190 rfl (lv_at hl 0 rfl) ?_
    refine lv_iconst (v := 5) hx hb dX1_measure_191 (by decide) ?_
    refine lv_icmp_ne (tgt := 199) hx hb dX1_measure_192 (by decide) (fun c192 => ?_) (fun c192 => ?_)
    · have h := g_if c192 h
      refine lv_iload_n hx hb dX1_measure_199 rfl (lv_at hl 0 rfl) ?_
      refine lv_iconst (v := 3) hx hb dX1_measure_200 (by decide) ?_
      refine lv_isub hx hb dX1_measure_201 ?_
      exact J202 x3 (x2 - 3) qx25.2 _ _ _ h hG hS (lv_sub hl [] rfl)
    · have h := g_it c192 h
      refine lv_iconst (v := 2) hx hb dX1_measure_195 (by decide) ?_
      refine lv_goto (tgt := 202) hx hb dX1_measure_196 (by decide) ?_
      exact J202 x3 2 qx25.2 _ _ _ h hG hS (lv_sub hl [] rfl)
  have J24 : ∀ (x2 : Int32) (x3 : Nat) (G : GH) (H : Heap) (locs : List Loc) (ls : Array Slot), cm_X1_measure_J24 x2 x3 G = some r → gC E G H → va_S (gx_C E) s.heap H locs → lv_has ls 5 [(2, .int x2), (3, .ref x3)] → WC E p l e (gRm 9 (cBx Gz) (cBs Gz)) s m args below meth c H locs (gXMQ E below (gRs (fun r => some (.int r)) r) args s Gz) (F0 m 24 ls []) := by
    intro x2 x3 G H locs ls h hG hS hl
    unfold cm_X1_measure_J24 at h
    refine lv_iconst (v := 0) hx hb dX1_measure_24 (by decide) ?_
    exact J25 x2 x3 0 G _ _ _ h hG hS (lv_sub hl [0, 1] rfl)
  unfold cm_X1_measure at h
  refine lv_aload_n hx hb dX1_measure_0 rfl (lv_at hl 0 rfl) ?_
  obtain ⟨u1, t1, h⟩ := g_bd h
  rcases gXb_e h with ⟨qx1, e1, h⟩ | ⟨xx1, e1, rfl⟩
  rotate_left
  · exact c_xV (r := .inr xx1) (y := yX1_isFair) (rest := []) dX1_measure_1 q1929 q1931 qs39 q119 q1932 hc_X1_isFair rfl S hE hG hS hC0 hl.1 rfl (c_recv hE hG (ci := 8) rfl (by decide) (c_castM t1)) (wm_X1_isFair E l hl9 x0 Gz _ e1) rfl (Nat.le_of_ble_eq_true rfl) ⟨Nat.le_of_ble_eq_true rfl, Nat.le_of_ble_eq_true rfl⟩ (fun hr9 => c_xthrew hC0 hr9 hS (fun H locs ce hG hS h1 h2 h3 => c_xout rfl hx9 hk hC0 hG hS h1 h2 h3))
  refine c_xV (r := .inl (none, qx1.2)) (y := yX1_isFair) (rest := []) dX1_measure_1 q1929 q1931 qs39 q119 q1932 hc_X1_isFair rfl S hE hG hS hC0 hl.1 rfl (c_recv hE hG (ci := 8) rfl (by decide) (c_castM t1)) (wm_X1_isFair E l hl9 x0 Gz _ e1) rfl (Nat.le_of_ble_eq_true rfl) ⟨Nat.le_of_ble_eq_true rfl, Nat.le_of_ble_eq_true rfl⟩ (fun hr9 => c_xback hC0 hr9 hS (fun H locs hG hS => ?_))
  refine lv_aload_n hx hb dX1_measure_4 rfl (lv_at hl 0 rfl) ?_
  refine lv_iload_n hx hb dX1_measure_5 rfl (lv_at hl 1 rfl) ?_
  obtain ⟨u6, t6, h⟩ := g_bd h
  rcases gXb_e h with ⟨qx6, e6, h⟩ | ⟨xx6, e6, rfl⟩
  rotate_left
  · exact c_xV (r := .inr xx6) (y := yX1_rideAt) (rest := []) dX1_measure_6 q1955 q1957 qs40 q119 q1958 hc_X1_rideAt rfl S hE hG hS hC0 hl.1 rfl (c_recv hE hG (ci := 8) rfl (by decide) (c_castM t6)) (wm_X1_rideAt E l hl9 x0 x1 qx1.2 _ e6) rfl (Nat.le_of_ble_eq_true rfl) ⟨Nat.le_of_ble_eq_true rfl, Nat.le_of_ble_eq_true rfl⟩ (fun hr9 => c_xthrew hC0 hr9 hS (fun H locs ce hG hS h1 h2 h3 => c_xout rfl hx9 hk hC0 hG hS h1 h2 h3))
  refine c_xV (r := .inl (some (.ref qx6.1), qx6.2)) (y := yX1_rideAt) (rest := []) dX1_measure_6 q1955 q1957 qs40 q119 q1958 hc_X1_rideAt rfl S hE hG hS hC0 hl.1 rfl (c_recv hE hG (ci := 8) rfl (by decide) (c_castM t6)) (wm_X1_rideAt E l hl9 x0 x1 qx1.2 _ e6) rfl (Nat.le_of_ble_eq_true rfl) ⟨Nat.le_of_ble_eq_true rfl, Nat.le_of_ble_eq_true rfl⟩ (fun hr9 => c_xback hC0 hr9 hS (fun H locs hG hS => ?_))
  refine lv_astore_n (lv' := [(3, .ref qx6.1), (0, .ref x0), (1, .int x1), (2, .int x2)]) hx hb dX1_measure_9 rfl hl (by decide) rfl (fun ls hl => ?_)
  refine lv_iload_n hx hb dX1_measure_10 rfl (lv_at hl 3 rfl) ?_
  refine lv_if_lt (tgt := 24) hx hb dX1_measure_11 (by decide) (fun c11 => ?_) (fun c11 => ?_)
  · have h := g_it c11 h
    exact J24 x2 qx6.1 qx6.2 _ _ _ h hG hS (lv_sub hl [3, 0] rfl)
  · have h := g_if c11 h
    refine lv_iload_n hx hb dX1_measure_14 rfl (lv_at hl 3 rfl) ?_
    refine lv_bipush (v := 10) hx hb dX1_measure_15 (by decide) ?_
    refine lv_icmp_gt (tgt := 24) hx hb dX1_measure_17 (by decide) (fun c17 => ?_) (fun c17 => ?_)
    · have h := g_it c17 h
      exact J24 x2 qx6.1 qx6.2 _ _ _ h hG hS (lv_sub hl [3, 0] rfl)
    · have h := g_if c17 h
      refine lv_iconst (v := 1) hx hb dX1_measure_20 (by decide) ?_
      refine lv_goto (tgt := 25) hx hb dX1_measure_21 (by decide) ?_
      exact J25 x2 qx6.1 1 qx6.2 _ _ _ h hG hS (lv_sub hl [3, 0] rfl)
theorem hc_X10_tire : cHd yX10_tire 1 := by decide +kernel
set_option maxHeartbeats 4000000 in
set_option maxRecDepth 100000 in
theorem wm_X10_tire (E : gX) (l : Launch) (x0 : Nat) (x1 : Int32) (Gz G' : GH) (r : Int32) (h : cm_X10_tire x0 x1 Gz = some (r, G')) : gMetC E l yX10_tire cX10_tire 3 (some Jvm.ClassFile.FieldType.int) 3 [.ref x0, .int x1] Gz G' (some (.int r)) := by
  refine gMetC.of (own := RX10) (by decide +kernel) (Nat.le_of_ble_eq_true rfl) rfl ?_
  intro p e s m args below meth c S hr hk hnm hE hC0 hG hS ls hl
  have hl : lv_has ls 3 [(0, .ref x0), (1, .int x1)] := hl
  have hx := S.1
  have hb := S.2.1
  have J44 : ∀ (x0 : Nat) (x2 : Int32) (G : GH) (H : Heap) (locs : List Loc) (ls : Array Slot), cm_X10_tire_J44 x0 x2 G = some (r, G') → gC E G H → va_S (gx_C E) s.heap H locs → lv_has ls 3 [(0, .ref x0), (2, .int x2)] → WC E p l e (gRm 3 (cBx Gz) (cBs Gz)) s m args below meth c H locs (MQ below (gQ (some (.int r)) (gC E G') (gx_C E)) args s (cBx Gz) (cBs Gz) (gx_C E)) (F0 m 44 ls []) := by
    intro x0 x2 G H locs ls h hG hS hl
    unfold cm_X10_tire_J44 at h
    refine lv_aload_n hx hb dX10_tire_44 rfl (lv_at hl 0 rfl) ?_
    refine lv_dup hx hb dX10_tire_45 rfl ?_
    obtain ⟨v46, e46, h⟩ := g_bd h
    refine cg_X10_31 dX10_tire_46 S hE hG e46 ?_
    refine lv_iload_n hx hb dX10_tire_49 rfl (lv_at hl 1 rfl) ?_
    refine lv_isub hx hb dX10_tire_50 ?_
    obtain ⟨G51, e51, h⟩ := g_bd h
    refine cp_X10_31 dX10_tire_51 S hE hG hS hC0 e51 (fun H locs hG hS => ?_)
    refine lv_iload_n hx hb dX10_tire_54 rfl (lv_at hl 1 rfl) ?_
    exact c_iretW dX10_tire_55 S hr hk hC0 hG hS h
  have L2 : ∀ (n : Nat) (x0 : Nat) (x1 : Int32) (x2 : Int32) (G : GH) (H : Heap) (locs : List Loc) (ls : Array Slot), cm_X10_tire_L2 n x0 x1 x2 G = some (r, G') → gC E G H → va_S (gx_C E) s.heap H locs → lv_has ls 3 [(0, .ref x0), (1, .int x1), (2, .int x2)] → WC E p l e (gRm 3 (cBx Gz) (cBs Gz)) s m args below meth c H locs (MQ below (gQ (some (.int r)) (gC E G') (gx_C E)) args s (cBx Gz) (cBs Gz) (gx_C E)) (F0 m 2 ls []) := by
    intro n2
    induction n2 with
    | zero =>
      intro x0 x1 x2 G H locs ls h
      cases h
    | succ n2 ih2 =>
      intro x0 x1 x2 G H locs ls h hG hS hl
      have h : cm_X10_tire_B2 (cm_X10_tire_L2 n2) x0 x1 x2 G = some (r, G') := h
      unfold cm_X10_tire_B2 at h
      refine lv_aload_n hx hb dX10_tire_2 rfl (lv_at hl 0 rfl) ?_
      obtain ⟨v3, e3, h⟩ := g_bd h
      refine cg_X10_28 dX10_tire_3 S hE hG e3 ?_
      refine lv_if_le (tgt := 44) hx hb dX10_tire_6 (by decide) (fun c6 => ?_) (fun c6 => ?_)
      · have h := g_it c6 h
        exact J44 x0 x2 G _ _ _ h hG hS (lv_sub hl [0, 2] rfl)
      · have h := g_if c6 h
        refine lv_iload_n hx hb dX10_tire_9 rfl (lv_at hl 1 rfl) ?_
        refine lv_aload_n hx hb dX10_tire_10 rfl (lv_at hl 0 rfl) ?_
        obtain ⟨v11, e11, h⟩ := g_bd h
        refine cg_X10_9 dX10_tire_11 S hE hG e11 ?_
        refine lv_aload_n hx hb dX10_tire_14 rfl (lv_at hl 0 rfl) ?_
        obtain ⟨v15, e15, h⟩ := g_bd h
        refine cg_X10_25 dX10_tire_15 S hE hG e15 ?_
        obtain ⟨v18, e18, h⟩ := g_bd h
        refine c_aldI dX10_tire_18 S hE hG e18 ?_
        refine lv_isub hx hb dX10_tire_19 ?_
        refine lv_bipush (v := 60) hx hb dX10_tire_20 (by decide) ?_
        refine lv_icmp_le (tgt := 44) hx hb dX10_tire_22 (by decide) (fun c22 => ?_) (fun c22 => ?_)
        · have h := g_it c22 h
          exact J44 x0 x2 G _ _ _ h hG hS (lv_sub hl [0, 2] rfl)
        · have h := g_if c22 h
          refine lv_iload_n hx hb dX10_tire_25 rfl (lv_at hl 2 rfl) ?_
          refine lv_aload_n hx hb dX10_tire_26 rfl (lv_at hl 0 rfl) ?_
          obtain ⟨v27, e27, h⟩ := g_bd h
          refine cg_X10_15 dX10_tire_27 S hE hG e27 ?_
          refine lv_aload_n hx hb dX10_tire_30 rfl (lv_at hl 0 rfl) ?_
          obtain ⟨v31, e31, h⟩ := g_bd h
          refine cg_X10_25 dX10_tire_31 S hE hG e31 ?_
          obtain ⟨v34, e34, h⟩ := g_bd h
          refine c_aldI dX10_tire_34 S hE hG e34 ?_
          refine lv_iadd hx hb dX10_tire_35 ?_
          refine lv_istore_n (lv' := [(2, .int (x2 + v34)), (0, .ref x0), (1, .int x1)]) hx hb dX10_tire_36 rfl hl (by decide) rfl (fun ls hl => ?_)
          refine lv_aload_n hx hb dX10_tire_37 rfl (lv_at hl 1 rfl) ?_
          obtain ⟨u38, t38, h⟩ := g_bd h
          obtain ⟨G38, e38, h⟩ := g_bd h
          refine c_cV (y := yX10_shift) (rest := []) dX10_tire_38 q1988 q1990 qs42 q152 q1991 hc_X10_shift rfl S hE hG hS hC0 hl.1 rfl (c_recv hE hG (ci := 16) rfl (by decide) (c_castM t38)) (wm_X10_shift E l x0 G _ e38) rfl (Nat.le_of_ble_eq_true rfl) ⟨Nat.le_of_ble_eq_true rfl, Nat.le_of_ble_eq_true rfl⟩ (fun H locs hG hS => ?_)
          refine lv_goto (tgt := 2) hx hb dX10_tire_41 (by decide) ?_
          exact ih2 x0 x1 (x2 + v34) G38 _ _ _ h hG hS (lv_sub hl [1, 2, 0] rfl)
  unfold cm_X10_tire at h
  refine lv_iconst (v := 0) hx hb dX10_tire_0 (by decide) ?_
  refine lv_istore_n (lv' := [(2, .int 0), (0, .ref x0), (1, .int x1)]) hx hb dX10_tire_1 rfl hl (by decide) rfl (fun ls hl => ?_)
  exact L2 gF x0 x1 0 Gz _ _ _ h hG hS (lv_sub hl [1, 2, 0] rfl)
theorem hc_X9_near : cHd yX9_near 1 := by decide +kernel
set_option maxHeartbeats 4000000 in
set_option maxRecDepth 100000 in
theorem wm_X9_near (E : gX) (l : Launch) (x0 : Nat) (x1 : Int32) (Gz G' : GH) (h : cm_X9_near x0 x1 Gz = some G') : gMetC E l yX9_near cX9_near 2 none 2 [.ref x0, .int x1] Gz G' none := by
  refine gMetC.of (own := RX9) (by decide +kernel) (Nat.le_of_ble_eq_true rfl) rfl ?_
  intro p e s m args below meth c S hr hk hnm hE hC0 hG hS ls hl
  have hl : lv_has ls 2 [(0, .ref x0), (1, .int x1)] := hl
  have hx := S.1
  have hb := S.2.1
  have J71 : ∀ (s0 : Nat) (s1 : Int32) (G : GH) (H : Heap) (locs : List Loc) (ls : Array Slot), cm_X9_near_J71 s0 s1 G = some G' → gC E G H → va_S (gx_C E) s.heap H locs → lv_has ls 2 [] → WC E p l e (gRm 2 (cBx Gz) (cBs Gz)) s m args below meth c H locs (MQ below (gQ none (gC E G') (gx_C E)) args s (cBx Gz) (cBs Gz) (gx_C E)) (F0 m 71 ls [.int s1, .ref s0]) := by
    intro s0 s1 G H locs ls h hG hS hl
    unfold cm_X9_near_J71 at h
    obtain ⟨G71, e71, h⟩ := g_bd h
    refine cp_X9_16 dX9_near_71 S hE hG hS hC0 e71 (fun H locs hG hS => ?_)
    exact c_vretW dX9_near_74 S hr hk hC0 hG hS h
  have J38 : ∀ (s0 : Nat) (s1 : Int32) (G : GH) (H : Heap) (locs : List Loc) (ls : Array Slot), cm_X9_near_J38 s0 s1 G = some G' → gC E G H → va_S (gx_C E) s.heap H locs → lv_has ls 2 [] → WC E p l e (gRm 2 (cBx Gz) (cBs Gz)) s m args below meth c H locs (MQ below (gQ none (gC E G') (gx_C E)) args s (cBx Gz) (cBs Gz) (gx_C E)) (F0 m 38 ls [.int s1, .ref s0]) := by
    intro s0 s1 G H locs ls h hG hS hl
    unfold cm_X9_near_J38 at h
    obtain ⟨G38, e38, h⟩ := g_bd h
    refine cp_X9_16 dX9_near_38 S hE hG hS hC0 e38 (fun H locs hG hS => ?_)
    refine lv_goto (tgt := 74) hx hb dX9_near_41 (by decide) ?_
    exact c_vretW dX9_near_74 S hr hk hC0 hG hS h
  unfold cm_X9_near at h
  refine lv_aload_n hx hb dX9_near_0 rfl (lv_at hl 0 rfl) ?_
  obtain ⟨v1, e1, h⟩ := g_bd h
  refine cg_X9_16 dX9_near_1 S hE hG e1 ?_
  refine lv_aload_n hx hb dX9_near_4 rfl (lv_at hl 0 rfl) ?_
  obtain ⟨v5, e5, h⟩ := g_bd h
  refine cg_X9_19 dX9_near_5 S hE hG e5 ?_
  refine lv_icmp_ge (tgt := 44) hx hb dX9_near_8 (by decide) (fun c8 => ?_) (fun c8 => ?_)
  · have h := g_it c8 h
    refine lv_aload_n hx hb dX9_near_44 rfl (lv_at hl 0 rfl) ?_
    refine lv_aload_n hx hb dX9_near_45 rfl (lv_at hl 0 rfl) ?_
    obtain ⟨v46, e46, h⟩ := g_bd h
    refine cg_X9_16 dX9_near_46 S hE hG e46 ?_
    refine lv_aload_n hx hb dX9_near_49 rfl (lv_at hl 0 rfl) ?_
    obtain ⟨v50, e50, h⟩ := g_bd h
    refine cg_X9_19 dX9_near_50 S hE hG e50 ?_
    refine lv_isub hx hb dX9_near_53 ?_
    refine lv_iload_n hx hb dX9_near_54 rfl (lv_at hl 1 rfl) ?_
    refine lv_icmp_ge (tgt := 65) hx hb dX9_near_55 (by decide) (fun c55 => ?_) (fun c55 => ?_)
    · have h := g_it c55 h
      refine lv_aload_n hx hb dX9_near_65 rfl (lv_at hl 0 rfl) ?_
      obtain ⟨v66, e66, h⟩ := g_bd h
      refine cg_X9_16 dX9_near_66 S hE hG e66 ?_
      refine lv_iload_n hx hb dX9_near_69 rfl (lv_at hl 1 rfl) ?_
      refine lv_isub hx hb dX9_near_70 ?_
      exact J71 x0 (v66 - x1) Gz _ _ _ h hG hS (lv_sub hl [] rfl)
    · have h := g_if c55 h
      refine lv_aload_n hx hb dX9_near_58 rfl (lv_at hl 0 rfl) ?_
      obtain ⟨v59, e59, h⟩ := g_bd h
      refine cg_X9_19 dX9_near_59 S hE hG e59 ?_
      refine lv_goto (tgt := 71) hx hb dX9_near_62 (by decide) ?_
      exact J71 x0 v59 Gz _ _ _ h hG hS (lv_sub hl [] rfl)
  · have h := g_if c8 h
    refine lv_aload_n hx hb dX9_near_11 rfl (lv_at hl 0 rfl) ?_
    refine lv_aload_n hx hb dX9_near_12 rfl (lv_at hl 0 rfl) ?_
    obtain ⟨v13, e13, h⟩ := g_bd h
    refine cg_X9_19 dX9_near_13 S hE hG e13 ?_
    refine lv_aload_n hx hb dX9_near_16 rfl (lv_at hl 0 rfl) ?_
    obtain ⟨v17, e17, h⟩ := g_bd h
    refine cg_X9_16 dX9_near_17 S hE hG e17 ?_
    refine lv_isub hx hb dX9_near_20 ?_
    refine lv_iload_n hx hb dX9_near_21 rfl (lv_at hl 1 rfl) ?_
    refine lv_icmp_ge (tgt := 32) hx hb dX9_near_22 (by decide) (fun c22 => ?_) (fun c22 => ?_)
    · have h := g_it c22 h
      refine lv_aload_n hx hb dX9_near_32 rfl (lv_at hl 0 rfl) ?_
      obtain ⟨v33, e33, h⟩ := g_bd h
      refine cg_X9_16 dX9_near_33 S hE hG e33 ?_
      refine lv_iload_n hx hb dX9_near_36 rfl (lv_at hl 1 rfl) ?_
      refine lv_iadd hx hb dX9_near_37 ?_
      exact J38 x0 (v33 + x1) Gz _ _ _ h hG hS (lv_sub hl [] rfl)
    · have h := g_if c22 h
      refine lv_aload_n hx hb dX9_near_25 rfl (lv_at hl 0 rfl) ?_
      obtain ⟨v26, e26, h⟩ := g_bd h
      refine cg_X9_19 dX9_near_26 S hE hG e26 ?_
      refine lv_goto (tgt := 38) hx hb dX9_near_29 (by decide) ?_
      exact J38 x0 v26 Gz _ _ _ h hG hS (lv_sub hl [] rfl)
theorem hc_X34_turn : cHd yX34_turn 0 := by decide +kernel
set_option maxHeartbeats 4000000 in
set_option maxRecDepth 100000 in
theorem wm_X34_turn (E : gX) (l : Launch) (x0 : Nat) (Gz G' : GH) (h : cm_X34_turn x0 Gz = some G') : gMetC E l yX34_turn cX34_turn 1 none 3 [.ref x0] Gz G' none := by
  refine gMetC.of (own := RX34) (by decide +kernel) (Nat.le_of_ble_eq_true rfl) rfl ?_
  intro p e s m args below meth c S hr hk hnm hE hC0 hG hS ls hl
  have hl : lv_has ls 1 [(0, .ref x0)] := hl
  have hx := S.1
  have hb := S.2.1
  unfold cm_X34_turn at h
  refine lv_aload_n hx hb dX34_turn_0 rfl (lv_at hl 0 rfl) ?_
  obtain ⟨v1, e1, h⟩ := g_bd h
  refine wd_Turns_spin (rest := []) q2131 dX34_turn_1 S hE hG hS hC0 hl.1 e1 rfl (Nat.le_of_ble_eq_true rfl) (by decide) (fun H locs hG hS => ?_)
  refine lv_aload_n hx hb dX34_turn_6 rfl (lv_at hl 0 rfl) ?_
  obtain ⟨v7, e7, h⟩ := g_bd h
  refine wd_Turns_spin (rest := [.ref v1]) q2131 dX34_turn_7 S hE hG hS hC0 hl.1 e7 rfl (Nat.le_of_ble_eq_true rfl) (by decide) (fun H locs hG hS => ?_)
  obtain ⟨v12, e12, h⟩ := g_bd h
  refine cg_X34_20 dX34_turn_12 S hE hG e12 ?_
  obtain ⟨u15, t15, h⟩ := g_bd h
  obtain ⟨G15, e15, h⟩ := g_bd h
  refine c_cV (y := yX9_near) (rest := []) dX34_turn_15 q2272 q2273 q2274 q151 q2275 hc_X9_near rfl S hE hG hS hC0 hl.1 rfl (c_recv hE hG (ci := 15) rfl (by decide) (c_castM t15)) (wm_X9_near E l v1 v12 Gz _ e15) rfl (Nat.le_of_ble_eq_true rfl) ⟨Nat.le_of_ble_eq_true rfl, Nat.le_of_ble_eq_true rfl⟩ (fun H locs hG hS => ?_)
  exact c_vretW dX34_turn_18 S hr hk hC0 hG hS h
section DSP
variable {p : Program} {l : Launch} {e : Env} {R : Room} {s : State} {m : MethodId} {args : Array Value} {below : List Frame} {meth : Method} {c : Code} {H : Heap} {locs : List Loc} {cells slots : Nat} {Q : State → Prop}
variable {cc : ByteArray} {pc nL lev0 : Nat} {ls : Array Slot} {rest st : List Value} {E : gX} {G Gz G1 : GH}
theorem hx_Turns_turn : cHd ⟨"FairHouse$Turns", "turn", "()V"⟩ 0 := by decide +kernel
set_option maxHeartbeats 4000000 in
set_option maxRecDepth 100000 in
theorem wd_Turns_turn {own : String} {a idx count : Nat} (w1 : Cond.methodLink own idx ⟨"FairHouse$Turns", "turn", "()V"⟩ ∈ lw_all) (hdg : decode cc pc = .ok (.invokeinterface idx count, 5)) (S : CallFix p m c cc nL s args lw_all own) (hE : gEnv E s) (hG : gC E G H) (hS : va_S (gx_C E) s.heap H locs) (hC0 : gC E Gz s.heap) (hls : ls.size = nL) (h : cd_Turns_turn a G = some G1) (hst : st = [] ++ .ref a :: rest) (hW : (rest.map fun v => v.category).sum ≤ 8) (hroom : 3 + 1 ≤ lev0)
    (kk : ∀ (H1 : Heap) (locs1 : List Loc), gC E G1 H1 → va_S (gx_C E) s.heap H1 locs1 → WC E p l e (gRm lev0 (cBx Gz) (cBs Gz)) s m args below meth c H1 locs1 Q (F0 m (pc + 5) ls (rest))) : WC E p l e (gRm lev0 (cBx Gz) (cBs Gz)) s m args below meth c H locs Q (F0 m pc ls st) := by
  unfold cd_Turns_turn at h
  by_cases c14 : cT G a = 14
  · have h := g_it c14 h
    exact c_cD (y := yX34_turn) (As := []) 83 rfl hdg w1 q2269 q3388 q2271 hx_Turns_turn S hE hG hS hC0 hls rfl (hE.K.1 13 _ rfl).2 (c_recv hE hG (ci := 13) rfl (by decide) c14) (wm_X34_turn E l a G G1 h) hst hW ⟨by omega, by omega⟩ (fun H1 locs1 h1 h2 => kk H1 locs1 h1 h2)
  have h := g_if c14 h
  by_cases c20 : cT G a = 20
  · have h := g_it c20 h
    exact c_cD (y := yX34_turn) (As := []) 84 rfl hdg w1 q2269 q3388 q2271 hx_Turns_turn S hE hG hS hC0 hls rfl (hE.K.1 19 _ rfl).2 (c_recv hE hG (ci := 19) rfl (by decide) c20) (wm_X34_turn E l a G G1 h) hst hW ⟨by omega, by omega⟩ (fun H1 locs1 h1 h2 => kk H1 locs1 h1 h2)
  have h := g_if c20 h
  by_cases c21 : cT G a = 21
  · have h := g_it c21 h
    exact c_cD (y := yX34_turn) (As := []) 85 rfl hdg w1 q2269 q3388 q2271 hx_Turns_turn S hE hG hS hC0 hls rfl (hE.K.1 20 _ rfl).2 (c_recv hE hG (ci := 20) rfl (by decide) c21) (wm_X34_turn E l a G G1 h) hst hW ⟨by omega, by omega⟩ (fun H1 locs1 h1 h2 => kk H1 locs1 h1 h2)
  have h := g_if c21 h
  by_cases c27 : cT G a = 27
  · have h := g_it c27 h
    exact c_cD (y := yX34_turn) (As := []) 86 rfl hdg w1 q2269 q3388 q2271 hx_Turns_turn S hE hG hS hC0 hls rfl (hE.K.1 26 _ rfl).2 (c_recv hE hG (ci := 26) rfl (by decide) c27) (wm_X34_turn E l a G G1 h) hst hW ⟨by omega, by omega⟩ (fun H1 locs1 h1 h2 => kk H1 locs1 h1 h2)
  have h := g_if c27 h
  by_cases c28 : cT G a = 28
  · have h := g_it c28 h
    exact c_cD (y := yX34_turn) (As := []) 87 rfl hdg w1 q2269 q3388 q2271 hx_Turns_turn S hE hG hS hC0 hls rfl (hE.K.1 27 _ rfl).2 (c_recv hE hG (ci := 27) rfl (by decide) c28) (wm_X34_turn E l a G G1 h) hst hW ⟨by omega, by omega⟩ (fun H1 locs1 h1 h2 => kk H1 locs1 h1 h2)
  have h := g_if c28 h
  cases h
end DSP
theorem hc_X34_ease : cHd yX34_ease 0 := by decide +kernel
set_option maxHeartbeats 4000000 in
set_option maxRecDepth 100000 in
theorem wm_X34_ease (E : gX) (l : Launch) (x0 : Nat) (Gz G' : GH) (h : cm_X34_ease x0 Gz = some G') : gMetC E l yX34_ease cX34_ease 1 none 4 [.ref x0] Gz G' none := by
  refine gMetC.of (own := RX34) (by decide +kernel) (Nat.le_of_ble_eq_true rfl) rfl ?_
  intro p e s m args below meth c S hr hk hnm hE hC0 hG hS ls hl
  have hl : lv_has ls 1 [(0, .ref x0)] := hl
  have hx := S.1
  have hb := S.2.1
  unfold cm_X34_ease at h
  refine lv_aload_n hx hb dX34_ease_0 rfl (lv_at hl 0 rfl) ?_
  obtain ⟨G1, e1, h⟩ := g_bd h
  refine wd_Turns_turn (rest := []) q2343 dX34_ease_1 S hE hG hS hC0 hl.1 e1 rfl (Nat.le_of_ble_eq_true rfl) (by decide) (fun H locs hG hS => ?_)
  exact c_vretW dX34_ease_6 S hr hk hC0 hG hS h
theorem hc_X12_near : cHd yX12_near 2 := by decide +kernel
set_option maxHeartbeats 4000000 in
set_option maxRecDepth 100000 in
theorem wm_X12_near (E : gX) (l : Launch) (x0 : Nat) (x1 : Int32) (x2 : Int32) (Gz G' : GH) (h : cm_X12_near x0 x1 x2 Gz = some G') : gMetC E l yX12_near cX12_near 4 none 2 [.ref x0, .int x1, .int x2] Gz G' none := by
  refine gMetC.of (own := RX12) (by decide +kernel) (Nat.le_of_ble_eq_true rfl) rfl ?_
  intro p e s m args below meth c S hr hk hnm hE hC0 hG hS ls hl
  have hl : lv_has ls 4 [(0, .ref x0), (1, .int x1), (2, .int x2)] := hl
  have hx := S.1
  have hb := S.2.1
  have J79 : ∀ (x0 : Nat) (x3 : Int32) (G : GH) (H : Heap) (locs : List Loc) (ls : Array Slot), cm_X12_near_J79 x0 x3 G = some G' → gC E G H → va_S (gx_C E) s.heap H locs → lv_has ls 4 [(0, .ref x0), (3, .int x3)] → WC E p l e (gRm 2 (cBx Gz) (cBs Gz)) s m args below meth c H locs (MQ below (gQ none (gC E G') (gx_C E)) args s (cBx Gz) (cBs Gz) (gx_C E)) (F0 m 79 ls []) := by
    intro x0 x3 G H locs ls h hG hS hl
    unfold cm_X12_near_J79 at h
    refine lv_aload_n hx hb dX12_near_79 rfl (lv_at hl 0 rfl) ?_
    refine lv_aload_n hx hb dX12_near_80 rfl (lv_at hl 0 rfl) ?_
    obtain ⟨v81, e81, h⟩ := g_bd h
    refine cg_X12_16 dX12_near_81 S hE hG e81 ?_
    refine lv_iload_n hx hb dX12_near_84 rfl (lv_at hl 1 rfl) ?_
    refine lv_isub hx hb dX12_near_85 ?_
    obtain ⟨G86, e86, h⟩ := g_bd h
    refine cp_X12_22 dX12_near_86 S hE hG hS hC0 e86 (fun H locs hG hS => ?_)
    exact c_vretW dX12_near_89 S hr hk hC0 hG hS h
  have J76 : ∀ (x0 : Nat) (x3 : Int32) (s0 : Nat) (s1 : Int32) (G : GH) (H : Heap) (locs : List Loc) (ls : Array Slot), cm_X12_near_J76 x0 x3 s0 s1 G = some G' → gC E G H → va_S (gx_C E) s.heap H locs → lv_has ls 4 [(0, .ref x0), (3, .int x3)] → WC E p l e (gRm 2 (cBx Gz) (cBs Gz)) s m args below meth c H locs (MQ below (gQ none (gC E G') (gx_C E)) args s (cBx Gz) (cBs Gz) (gx_C E)) (F0 m 76 ls [.int s1, .ref s0]) := by
    intro x0 x3 s0 s1 G H locs ls h hG hS hl
    unfold cm_X12_near_J76 at h
    obtain ⟨G76, e76, h⟩ := g_bd h
    refine cp_X12_16 dX12_near_76 S hE hG hS hC0 e76 (fun H locs hG hS => ?_)
    exact J79 x0 x3 G76 _ _ _ h hG hS (lv_sub hl [0, 1] rfl)
  have J43 : ∀ (x0 : Nat) (x3 : Int32) (s0 : Nat) (s1 : Int32) (G : GH) (H : Heap) (locs : List Loc) (ls : Array Slot), cm_X12_near_J43 x0 x3 s0 s1 G = some G' → gC E G H → va_S (gx_C E) s.heap H locs → lv_has ls 4 [(0, .ref x0), (3, .int x3)] → WC E p l e (gRm 2 (cBx Gz) (cBs Gz)) s m args below meth c H locs (MQ below (gQ none (gC E G') (gx_C E)) args s (cBx Gz) (cBs Gz) (gx_C E)) (F0 m 43 ls [.int s1, .ref s0]) := by
    intro x0 x3 s0 s1 G H locs ls h hG hS hl
    unfold cm_X12_near_J43 at h
    obtain ⟨G43, e43, h⟩ := g_bd h
    refine cp_X12_16 dX12_near_43 S hE hG hS hC0 e43 (fun H locs hG hS => ?_)
    refine lv_goto (tgt := 79) hx hb dX12_near_46 (by decide) ?_
    exact J79 x0 x3 G43 _ _ _ h hG hS (lv_sub hl [0, 1] rfl)
  unfold cm_X12_near at h
  refine lv_aload_n hx hb dX12_near_0 rfl (lv_at hl 0 rfl) ?_
  obtain ⟨v1, e1, h⟩ := g_bd h
  refine cg_X12_16 dX12_near_1 S hE hG e1 ?_
  refine lv_istore_n (lv' := [(3, .int v1), (0, .ref x0), (1, .int x1), (2, .int x2)]) hx hb dX12_near_4 rfl hl (by decide) rfl (fun ls hl => ?_)
  refine lv_aload_n hx hb dX12_near_5 rfl (lv_at hl 1 rfl) ?_
  obtain ⟨v6, e6, h⟩ := g_bd h
  refine cg_X12_16 dX12_near_6 S hE hG e6 ?_
  refine lv_aload_n hx hb dX12_near_9 rfl (lv_at hl 1 rfl) ?_
  obtain ⟨v10, e10, h⟩ := g_bd h
  refine cg_X12_19 dX12_near_10 S hE hG e10 ?_
  refine lv_icmp_ge (tgt := 49) hx hb dX12_near_13 (by decide) (fun c13 => ?_) (fun c13 => ?_)
  · have h := g_it c13 h
    refine lv_aload_n hx hb dX12_near_49 rfl (lv_at hl 1 rfl) ?_
    refine lv_aload_n hx hb dX12_near_50 rfl (lv_at hl 1 rfl) ?_
    obtain ⟨v51, e51, h⟩ := g_bd h
    refine cg_X12_16 dX12_near_51 S hE hG e51 ?_
    refine lv_aload_n hx hb dX12_near_54 rfl (lv_at hl 1 rfl) ?_
    obtain ⟨v55, e55, h⟩ := g_bd h
    refine cg_X12_19 dX12_near_55 S hE hG e55 ?_
    refine lv_isub hx hb dX12_near_58 ?_
    refine lv_iload_n hx hb dX12_near_59 rfl (lv_at hl 3 rfl) ?_
    refine lv_icmp_ge (tgt := 70) hx hb dX12_near_60 (by decide) (fun c60 => ?_) (fun c60 => ?_)
    · have h := g_it c60 h
      refine lv_aload_n hx hb dX12_near_70 rfl (lv_at hl 1 rfl) ?_
      obtain ⟨v71, e71, h⟩ := g_bd h
      refine cg_X12_16 dX12_near_71 S hE hG e71 ?_
      refine lv_iload_n hx hb dX12_near_74 rfl (lv_at hl 3 rfl) ?_
      refine lv_isub hx hb dX12_near_75 ?_
      exact J76 x0 v1 x0 (v71 - x2) Gz _ _ _ h hG hS (lv_sub hl [1, 0] rfl)
    · have h := g_if c60 h
      refine lv_aload_n hx hb dX12_near_63 rfl (lv_at hl 1 rfl) ?_
      obtain ⟨v64, e64, h⟩ := g_bd h
      refine cg_X12_19 dX12_near_64 S hE hG e64 ?_
      refine lv_goto (tgt := 76) hx hb dX12_near_67 (by decide) ?_
      exact J76 x0 v1 x0 v64 Gz _ _ _ h hG hS (lv_sub hl [1, 0] rfl)
  · have h := g_if c13 h
    refine lv_aload_n hx hb dX12_near_16 rfl (lv_at hl 1 rfl) ?_
    refine lv_aload_n hx hb dX12_near_17 rfl (lv_at hl 1 rfl) ?_
    obtain ⟨v18, e18, h⟩ := g_bd h
    refine cg_X12_19 dX12_near_18 S hE hG e18 ?_
    refine lv_aload_n hx hb dX12_near_21 rfl (lv_at hl 1 rfl) ?_
    obtain ⟨v22, e22, h⟩ := g_bd h
    refine cg_X12_16 dX12_near_22 S hE hG e22 ?_
    refine lv_isub hx hb dX12_near_25 ?_
    refine lv_iload_n hx hb dX12_near_26 rfl (lv_at hl 2 rfl) ?_
    refine lv_icmp_ge (tgt := 37) hx hb dX12_near_27 (by decide) (fun c27 => ?_) (fun c27 => ?_)
    · have h := g_it c27 h
      refine lv_aload_n hx hb dX12_near_37 rfl (lv_at hl 1 rfl) ?_
      obtain ⟨v38, e38, h⟩ := g_bd h
      refine cg_X12_16 dX12_near_38 S hE hG e38 ?_
      refine lv_iload_n hx hb dX12_near_41 rfl (lv_at hl 2 rfl) ?_
      refine lv_iadd hx hb dX12_near_42 ?_
      exact J43 x0 v1 x0 (v38 + x1) Gz _ _ _ h hG hS (lv_sub hl [1, 0] rfl)
    · have h := g_if c27 h
      refine lv_aload_n hx hb dX12_near_30 rfl (lv_at hl 1 rfl) ?_
      obtain ⟨v31, e31, h⟩ := g_bd h
      refine cg_X12_19 dX12_near_31 S hE hG e31 ?_
      refine lv_goto (tgt := 43) hx hb dX12_near_34 (by decide) ?_
      exact J43 x0 v1 x0 v31 Gz _ _ _ h hG hS (lv_sub hl [1, 0] rfl)
theorem hc_X36_rise : cHd yX36_rise 0 := by decide +kernel
set_option maxHeartbeats 4000000 in
set_option maxRecDepth 100000 in
theorem wm_X36_rise (E : gX) (l : Launch) (x0 : Nat) (Gz G' : GH) (h : cm_X36_rise x0 Gz = some G') : gMetC E l yX36_rise cX36_rise 1 none 3 [.ref x0] Gz G' none := by
  refine gMetC.of (own := RX36) (by decide +kernel) (Nat.le_of_ble_eq_true rfl) rfl ?_
  intro p e s m args below meth c S hr hk hnm hE hC0 hG hS ls hl
  have hl : lv_has ls 1 [(0, .ref x0)] := hl
  have hx := S.1
  have hb := S.2.1
  unfold cm_X36_rise at h
  refine lv_aload_n hx hb dX36_rise_0 rfl (lv_at hl 0 rfl) ?_
  obtain ⟨v1, e1, h⟩ := g_bd h
  refine wd_Lifts_hoist (rest := []) q2087 dX36_rise_1 S hE hG hS hC0 hl.1 e1 rfl (Nat.le_of_ble_eq_true rfl) (by decide) (fun H locs hG hS => ?_)
  refine lv_aload_n hx hb dX36_rise_6 rfl (lv_at hl 0 rfl) ?_
  obtain ⟨v7, e7, h⟩ := g_bd h
  refine wd_Lifts_hoist (rest := [.ref v1]) q2087 dX36_rise_7 S hE hG hS hC0 hl.1 e7 rfl (Nat.le_of_ble_eq_true rfl) (by decide) (fun H locs hG hS => ?_)
  obtain ⟨v12, e12, h⟩ := g_bd h
  refine cg_X36_19 dX36_rise_12 S hE hG e12 ?_
  refine lv_aload_n hx hb dX36_rise_15 rfl (lv_at hl 0 rfl) ?_
  obtain ⟨v16, e16, h⟩ := g_bd h
  refine wd_Lifts_hoist (rest := [.int v12, .ref v1]) q2087 dX36_rise_16 S hE hG hS hC0 hl.1 e16 rfl (Nat.le_of_ble_eq_true rfl) (by decide) (fun H locs hG hS => ?_)
  obtain ⟨v21, e21, h⟩ := g_bd h
  refine cg_X36_19 dX36_rise_21 S hE hG e21 ?_
  obtain ⟨u24, t24, h⟩ := g_bd h
  obtain ⟨G24, e24, h⟩ := g_bd h
  refine c_cV (y := yX12_near) (rest := []) dX36_rise_24 q2300 q2255 q2256 q154 q2257 hc_X12_near rfl S hE hG hS hC0 hl.1 rfl (c_recv hE hG (ci := 18) rfl (by decide) (c_castM t24)) (wm_X12_near E l v1 v12 v21 Gz _ e24) rfl (Nat.le_of_ble_eq_true rfl) ⟨Nat.le_of_ble_eq_true rfl, Nat.le_of_ble_eq_true rfl⟩ (fun H locs hG hS => ?_)
  exact c_vretW dX36_rise_27 S hr hk hC0 hG hS h
section DSP
variable {p : Program} {l : Launch} {e : Env} {R : Room} {s : State} {m : MethodId} {args : Array Value} {below : List Frame} {meth : Method} {c : Code} {H : Heap} {locs : List Loc} {cells slots : Nat} {Q : State → Prop}
variable {cc : ByteArray} {pc nL lev0 : Nat} {ls : Array Slot} {rest st : List Value} {E : gX} {G Gz G1 : GH}
theorem hx_Lifts_rise : cHd ⟨"FairHouse$Lifts", "rise", "()V"⟩ 0 := by decide +kernel
set_option maxHeartbeats 4000000 in
set_option maxRecDepth 100000 in
theorem wd_Lifts_rise {own : String} {a idx count : Nat} (w1 : Cond.methodLink own idx ⟨"FairHouse$Lifts", "rise", "()V"⟩ ∈ lw_all) (hdg : decode cc pc = .ok (.invokeinterface idx count, 5)) (S : CallFix p m c cc nL s args lw_all own) (hE : gEnv E s) (hG : gC E G H) (hS : va_S (gx_C E) s.heap H locs) (hC0 : gC E Gz s.heap) (hls : ls.size = nL) (h : cd_Lifts_rise a G = some G1) (hst : st = [] ++ .ref a :: rest) (hW : (rest.map fun v => v.category).sum ≤ 8) (hroom : 3 + 1 ≤ lev0)
    (kk : ∀ (H1 : Heap) (locs1 : List Loc), gC E G1 H1 → va_S (gx_C E) s.heap H1 locs1 → WC E p l e (gRm lev0 (cBx Gz) (cBs Gz)) s m args below meth c H1 locs1 Q (F0 m (pc + 5) ls (rest))) : WC E p l e (gRm lev0 (cBx Gz) (cBs Gz)) s m args below meth c H locs Q (F0 m pc ls st) := by
  unfold cd_Lifts_rise at h
  by_cases c18 : cT G a = 18
  · have h := g_it c18 h
    exact c_cD (y := yX36_rise) (As := []) 16 rfl hdg w1 q2297 q3386 q2299 hx_Lifts_rise S hE hG hS hC0 hls rfl (hE.K.1 17 _ rfl).2 (c_recv hE hG (ci := 17) rfl (by decide) c18) (wm_X36_rise E l a G G1 h) hst hW ⟨by omega, by omega⟩ (fun H1 locs1 h1 h2 => kk H1 locs1 h1 h2)
  have h := g_if c18 h
  by_cases c20 : cT G a = 20
  · have h := g_it c20 h
    exact c_cD (y := yX36_rise) (As := []) 17 rfl hdg w1 q2297 q3386 q2299 hx_Lifts_rise S hE hG hS hC0 hls rfl (hE.K.1 19 _ rfl).2 (c_recv hE hG (ci := 19) rfl (by decide) c20) (wm_X36_rise E l a G G1 h) hst hW ⟨by omega, by omega⟩ (fun H1 locs1 h1 h2 => kk H1 locs1 h1 h2)
  have h := g_if c20 h
  by_cases c25 : cT G a = 25
  · have h := g_it c25 h
    exact c_cD (y := yX36_rise) (As := []) 18 rfl hdg w1 q2297 q3386 q2299 hx_Lifts_rise S hE hG hS hC0 hls rfl (hE.K.1 24 _ rfl).2 (c_recv hE hG (ci := 24) rfl (by decide) c25) (wm_X36_rise E l a G G1 h) hst hW ⟨by omega, by omega⟩ (fun H1 locs1 h1 h2 => kk H1 locs1 h1 h2)
  have h := g_if c25 h
  by_cases c27 : cT G a = 27
  · have h := g_it c27 h
    exact c_cD (y := yX36_rise) (As := []) 19 rfl hdg w1 q2297 q3386 q2299 hx_Lifts_rise S hE hG hS hC0 hls rfl (hE.K.1 26 _ rfl).2 (c_recv hE hG (ci := 26) rfl (by decide) c27) (wm_X36_rise E l a G G1 h) hst hW ⟨by omega, by omega⟩ (fun H1 locs1 h1 h2 => kk H1 locs1 h1 h2)
  have h := g_if c27 h
  cases h
end DSP
theorem hc_X36_ease : cHd yX36_ease 0 := by decide +kernel
set_option maxHeartbeats 4000000 in
set_option maxRecDepth 100000 in
theorem wm_X36_ease (E : gX) (l : Launch) (x0 : Nat) (Gz G' : GH) (h : cm_X36_ease x0 Gz = some G') : gMetC E l yX36_ease cX36_ease 1 none 4 [.ref x0] Gz G' none := by
  refine gMetC.of (own := RX36) (by decide +kernel) (Nat.le_of_ble_eq_true rfl) rfl ?_
  intro p e s m args below meth c S hr hk hnm hE hC0 hG hS ls hl
  have hl : lv_has ls 1 [(0, .ref x0)] := hl
  have hx := S.1
  have hb := S.2.1
  unfold cm_X36_ease at h
  refine lv_aload_n hx hb dX36_ease_0 rfl (lv_at hl 0 rfl) ?_
  obtain ⟨G1, e1, h⟩ := g_bd h
  refine wd_Lifts_rise (rest := []) q2336 dX36_ease_1 S hE hG hS hC0 hl.1 e1 rfl (Nat.le_of_ble_eq_true rfl) (by decide) (fun H locs hG hS => ?_)
  exact c_vretW dX36_ease_6 S hr hk hC0 hG hS h
theorem hc_X9_size : cHd yX9_size 0 := by decide +kernel
set_option maxHeartbeats 4000000 in
set_option maxRecDepth 100000 in
theorem wm_X9_size (E : gX) (l : Launch) (x0 : Nat) (Gz : GH) (r : Int32) (h : cm_X9_size x0 Gz = some r) : gMetC E l yX9_size cX9_size 1 (some Jvm.ClassFile.FieldType.int) 2 [.ref x0] Gz Gz (some (.int r)) := by
  refine gMetC.of (own := RX9) (by decide +kernel) (Nat.le_of_ble_eq_true rfl) rfl ?_
  intro p e s m args below meth c S hr hk hnm hE hC0 hG hS ls hl
  have hl : lv_has ls 1 [(0, .ref x0)] := hl
  have hx := S.1
  have hb := S.2.1
  unfold cm_X9_size at h
  refine lv_aload_n hx hb dX9_size_0 rfl (lv_at hl 0 rfl) ?_
  obtain ⟨v1, e1, h⟩ := g_bd h
  refine cg_X9_16 dX9_size_1 S hE hG e1 ?_
  refine lv_if_ge (tgt := 15) hx hb dX9_size_4 (by decide) (fun c4 => ?_) (fun c4 => ?_)
  · have h := g_it c4 h
    refine lv_aload_n hx hb dX9_size_15 rfl (lv_at hl 0 rfl) ?_
    obtain ⟨v16, e16, h⟩ := g_bd h
    refine cg_X9_16 dX9_size_16 S hE hG e16 ?_
    exact c_iretR dX9_size_19 S hr hk hC0 hG hS h
  · have h := g_if c4 h
    refine lv_aload_n hx hb dX9_size_7 rfl (lv_at hl 0 rfl) ?_
    obtain ⟨v8, e8, h⟩ := g_bd h
    refine cg_X9_16 dX9_size_8 S hE hG e8 ?_
    refine lv_ineg hx hb dX9_size_11 ?_
    refine lv_goto (tgt := 19) hx hb dX9_size_12 (by decide) ?_
    exact c_iretR dX9_size_19 S hr hk hC0 hG hS h
theorem hc_X13_ease : cHd yX13_ease 0 := by decide +kernel
set_option maxHeartbeats 4000000 in
set_option maxRecDepth 100000 in
theorem wm_X13_ease (E : gX) (l : Launch) (x0 : Nat) (Gz G' : GH) (h : cm_X13_ease x0 Gz = some G') : gMetC E l yX13_ease cX13_ease 2 none 4 [.ref x0] Gz G' none := by
  refine gMetC.of (own := RX13) (by decide +kernel) (Nat.le_of_ble_eq_true rfl) rfl ?_
  intro p e s m args below meth c S hr hk hnm hE hC0 hG hS ls hl
  have hl : lv_has ls 2 [(0, .ref x0)] := hl
  have hx := S.1
  have hb := S.2.1
  have J42 : ∀ (s0 : Nat) (s1 : Int32) (s2 : Int32) (G : GH) (H : Heap) (locs : List Loc) (ls : Array Slot), cm_X13_ease_J42 s0 s1 s2 G = some G' → gC E G H → va_S (gx_C E) s.heap H locs → lv_has ls 2 [] → WC E p l e (gRm 4 (cBx Gz) (cBs Gz)) s m args below meth c H locs (MQ below (gQ none (gC E G') (gx_C E)) args s (cBx Gz) (cBs Gz) (gx_C E)) (F0 m 42 ls [.int s2, .int s1, .ref s0]) := by
    intro s0 s1 s2 G H locs ls h hG hS hl
    unfold cm_X13_ease_J42 at h
    obtain ⟨u42, t42, h⟩ := g_bd h
    obtain ⟨G42, e42, h⟩ := g_bd h
    refine c_cV (y := yX12_near) (rest := []) dX13_ease_42 q2312 q2255 q2256 q154 q2257 hc_X12_near rfl S hE hG hS hC0 hl.1 rfl (c_recv hE hG (ci := 18) rfl (by decide) (c_castM t42)) (wm_X12_near E l s0 s1 s2 G _ e42) rfl (Nat.le_of_ble_eq_true rfl) ⟨Nat.le_of_ble_eq_true rfl, Nat.le_of_ble_eq_true rfl⟩ (fun H locs hG hS => ?_)
    exact c_vretW dX13_ease_45 S hr hk hC0 hG hS h
  unfold cm_X13_ease at h
  refine lv_aload_n hx hb dX13_ease_0 rfl (lv_at hl 0 rfl) ?_
  refine lv_astore_n (lv' := [(1, .ref x0), (0, .ref x0)]) hx hb dX13_ease_1 rfl hl (by decide) rfl (fun ls hl => ?_)
  refine lv_aload_n hx hb dX13_ease_2 rfl (lv_at hl 0 rfl) ?_
  obtain ⟨G3, e3, h⟩ := g_bd h
  refine wd_Turns_turn (rest := []) q2310 dX13_ease_3 S hE hG hS hC0 hl.1 e3 rfl (Nat.le_of_ble_eq_true rfl) (by decide) (fun H locs hG hS => ?_)
  refine lv_aload_n hx hb dX13_ease_8 rfl (lv_at hl 1 rfl) ?_
  obtain ⟨v9, e9, h⟩ := g_bd h
  refine cg_X13_21 dX13_ease_9 S hE hG e9 ?_
  refine lv_aload_n hx hb dX13_ease_12 rfl (lv_at hl 1 rfl) ?_
  obtain ⟨v13, e13, h⟩ := g_bd h
  refine cg_X13_21 dX13_ease_13 S hE hG e13 ?_
  obtain ⟨v16, e16, h⟩ := g_bd h
  refine cg_X13_72 dX13_ease_16 S hE hG e16 ?_
  refine lv_aload_n hx hb dX13_ease_19 rfl (lv_at hl 1 rfl) ?_
  obtain ⟨v20, e20, h⟩ := g_bd h
  refine cg_X13_12 dX13_ease_20 S hE hG e20 ?_
  obtain ⟨u23, t23, h⟩ := g_bd h
  obtain ⟨v23, e23, h⟩ := g_bd h
  refine c_cV (y := yX9_size) (rest := [.int v16, .ref v9]) dX13_ease_23 q2311 q2281 q2282 q151 q2283 hc_X9_size rfl S hE hG hS hC0 hl.1 rfl (c_recv hE hG (ci := 15) rfl (by decide) (c_castM t23)) (wm_X9_size E l v20 G3 _ e23) rfl (Nat.le_of_ble_eq_true rfl) ⟨Nat.le_of_ble_eq_true rfl, Nat.le_of_ble_eq_true rfl⟩ (fun H locs hG hS => ?_)
  refine lv_bipush (v := 30) hx hb dX13_ease_26 (by decide) ?_
  refine lv_icmp_le (tgt := 35) hx hb dX13_ease_28 (by decide) (fun c28 => ?_) (fun c28 => ?_)
  · have h := g_it c28 h
    refine lv_aload_n hx hb dX13_ease_35 rfl (lv_at hl 1 rfl) ?_
    obtain ⟨v36, e36, h⟩ := g_bd h
    refine cg_X13_21 dX13_ease_36 S hE hG e36 ?_
    obtain ⟨v39, e39, h⟩ := g_bd h
    refine cg_X13_72 dX13_ease_39 S hE hG e39 ?_
    exact J42 v9 v16 v39 G3 _ _ _ h hG hS (lv_sub hl [] rfl)
  · have h := g_if c28 h
    refine lv_iconst (v := 0) hx hb dX13_ease_31 (by decide) ?_
    refine lv_goto (tgt := 42) hx hb dX13_ease_32 (by decide) ?_
    exact J42 v9 v16 0 G3 _ _ _ h hG hS (lv_sub hl [] rfl)
theorem hc_X14_ease : cHd yX14_ease 0 := by decide +kernel
set_option maxHeartbeats 4000000 in
set_option maxRecDepth 100000 in
theorem wm_X14_ease (E : gX) (l : Launch) (x0 : Nat) (Gz G' : GH) (h : cm_X14_ease x0 Gz = some G') : gMetC E l yX14_ease cX14_ease 2 none 4 [.ref x0] Gz G' none := by
  refine gMetC.of (own := RX14) (by decide +kernel) (Nat.le_of_ble_eq_true rfl) rfl ?_
  intro p e s m args below meth c S hr hk hnm hE hC0 hG hS ls hl
  have hl : lv_has ls 2 [(0, .ref x0)] := hl
  have hx := S.1
  have hb := S.2.1
  unfold cm_X14_ease at h
  refine lv_aload_n hx hb dX14_ease_0 rfl (lv_at hl 0 rfl) ?_
  refine lv_astore_n (lv' := [(1, .ref x0), (0, .ref x0)]) hx hb dX14_ease_1 rfl hl (by decide) rfl (fun ls hl => ?_)
  refine lv_aload_n hx hb dX14_ease_2 rfl (lv_at hl 0 rfl) ?_
  obtain ⟨G3, e3, h⟩ := g_bd h
  refine wd_Turns_turn (rest := []) q2265 dX14_ease_3 S hE hG hS hC0 hl.1 e3 rfl (Nat.le_of_ble_eq_true rfl) (by decide) (fun H locs hG hS => ?_)
  refine lv_aload_n hx hb dX14_ease_8 rfl (lv_at hl 1 rfl) ?_
  obtain ⟨v9, e9, h⟩ := g_bd h
  refine cg_X14_12 dX14_ease_9 S hE hG e9 ?_
  refine lv_aload_n hx hb dX14_ease_12 rfl (lv_at hl 1 rfl) ?_
  obtain ⟨v13, e13, h⟩ := g_bd h
  refine cg_X14_12 dX14_ease_13 S hE hG e13 ?_
  obtain ⟨v16, e16, h⟩ := g_bd h
  refine cg_X14_42 dX14_ease_16 S hE hG e16 ?_
  refine lv_aload_n hx hb dX14_ease_19 rfl (lv_at hl 1 rfl) ?_
  obtain ⟨v20, e20, h⟩ := g_bd h
  refine cg_X14_23 dX14_ease_20 S hE hG e20 ?_
  obtain ⟨u23, t23, h⟩ := g_bd h
  obtain ⟨v23, e23, h⟩ := g_bd h
  refine c_cV (y := yX9_size) (rest := [.int v16, .ref v9]) dX14_ease_23 q2280 q2281 q2282 q151 q2283 hc_X9_size rfl S hE hG hS hC0 hl.1 rfl (c_recv hE hG (ci := 15) rfl (by decide) (c_castM t23)) (wm_X9_size E l v20 G3 _ e23) rfl (Nat.le_of_ble_eq_true rfl) ⟨Nat.le_of_ble_eq_true rfl, Nat.le_of_ble_eq_true rfl⟩ (fun H locs hG hS => ?_)
  refine c_math_min q2284 dX14_ease_26 S hl.1 hC0 hG hS (by decide) (Nat.le_of_ble_eq_true rfl) ?_
  obtain ⟨G29, e29, h⟩ := g_bd h
  refine cp_X14_42 dX14_ease_29 S hE hG hS hC0 e29 (fun H locs hG hS => ?_)
  exact c_vretW dX14_ease_32 S hr hk hC0 hG hS h
theorem hc_X40_ease : cHd yX40_ease 0 := by decide +kernel
set_option maxHeartbeats 4000000 in
set_option maxRecDepth 100000 in
theorem wm_X40_ease (E : gX) (l : Launch) (x0 : Nat) (Gz G' : GH) (h : cm_X40_ease x0 Gz = some G') : gMetC E l yX40_ease cX40_ease 1 none 2 [.ref x0] Gz G' none := by
  refine gMetC.of (own := RX40) (by decide +kernel) (Nat.le_of_ble_eq_true rfl) rfl ?_
  intro p e s m args below meth c S hr hk hnm hE hC0 hG hS ls hl
  have hl : lv_has ls 1 [(0, .ref x0)] := hl
  have hx := S.1
  have hb := S.2.1
  unfold cm_X40_ease at h
  exact c_vretW dX40_ease_0 S hr hk hC0 hG hS h
theorem hc_X18_ease : cHd yX18_ease 0 := by decide +kernel
set_option maxHeartbeats 4000000 in
set_option maxRecDepth 100000 in
theorem wm_X18_ease (E : gX) (l : Launch) (x0 : Nat) (Gz G' : GH) (h : cm_X18_ease x0 Gz = some G') : gMetC E l yX18_ease cX18_ease 1 none 3 [.ref x0] Gz G' none := by
  refine gMetC.of (own := RX18) (by decide +kernel) (Nat.le_of_ble_eq_true rfl) rfl ?_
  intro p e s m args below meth c S hr hk hnm hE hC0 hG hS ls hl
  have hl : lv_has ls 1 [(0, .ref x0)] := hl
  have hx := S.1
  have hb := S.2.1
  unfold cm_X18_ease at h
  refine lv_aload_n hx hb dX18_ease_0 rfl (lv_at hl 0 rfl) ?_
  obtain ⟨v1, e1, h⟩ := g_bd h
  refine cg_X18_23 dX18_ease_1 S hE hG e1 ?_
  refine lv_aload_n hx hb dX18_ease_4 rfl (lv_at hl 0 rfl) ?_
  obtain ⟨v5, e5, h⟩ := g_bd h
  refine cg_X18_23 dX18_ease_5 S hE hG e5 ?_
  obtain ⟨v8, e8, h⟩ := g_bd h
  refine cg_X18_70 dX18_ease_8 S hE hG e8 ?_
  refine lv_iconst (v := 2) hx hb dX18_ease_11 (by decide) ?_
  refine lv_aload_n hx hb dX18_ease_12 rfl (lv_at hl 0 rfl) ?_
  obtain ⟨v13, e13, h⟩ := g_bd h
  refine cg_X18_23 dX18_ease_13 S hE hG e13 ?_
  obtain ⟨v16, e16, h⟩ := g_bd h
  refine cg_X18_70 dX18_ease_16 S hE hG e16 ?_
  refine lv_imul hx hb dX18_ease_19 ?_
  obtain ⟨u20, t20, h⟩ := g_bd h
  obtain ⟨G20, e20, h⟩ := g_bd h
  refine c_cV (y := yX12_near) (rest := []) dX18_ease_20 q2254 q2255 q2256 q154 q2257 hc_X12_near rfl S hE hG hS hC0 hl.1 rfl (c_recv hE hG (ci := 18) rfl (by decide) (c_castM t20)) (wm_X12_near E l v1 v8 (2 * v16) Gz _ e20) rfl (Nat.le_of_ble_eq_true rfl) ⟨Nat.le_of_ble_eq_true rfl, Nat.le_of_ble_eq_true rfl⟩ (fun H locs hG hS => ?_)
  exact c_vretW dX18_ease_23 S hr hk hC0 hG hS h
theorem hc_X20_ease : cHd yX20_ease 0 := by decide +kernel
set_option maxHeartbeats 4000000 in
set_option maxRecDepth 100000 in
theorem wm_X20_ease (E : gX) (l : Launch) (x0 : Nat) (Gz G' : GH) (h : cm_X20_ease x0 Gz = some G') : gMetC E l yX20_ease cX20_ease 2 none 4 [.ref x0] Gz G' none := by
  refine gMetC.of (own := RX20) (by decide +kernel) (Nat.le_of_ble_eq_true rfl) rfl ?_
  intro p e s m args below meth c S hr hk hnm hE hC0 hG hS ls hl
  have hl : lv_has ls 2 [(0, .ref x0)] := hl
  have hx := S.1
  have hb := S.2.1
  have J39 : ∀ (x1 : Nat) (s0 : Nat) (s1 : Int32) (G : GH) (H : Heap) (locs : List Loc) (ls : Array Slot), cm_X20_ease_J39 x1 s0 s1 G = some G' → gC E G H → va_S (gx_C E) s.heap H locs → lv_has ls 2 [(1, .ref x1)] → WC E p l e (gRm 4 (cBx Gz) (cBs Gz)) s m args below meth c H locs (MQ below (gQ none (gC E G') (gx_C E)) args s (cBx Gz) (cBs Gz) (gx_C E)) (F0 m 39 ls [.int s1, .ref s0]) := by
    intro x1 s0 s1 G H locs ls h hG hS hl
    unfold cm_X20_ease_J39 at h
    obtain ⟨u39, t39, h⟩ := g_bd h
    obtain ⟨G39, e39, h⟩ := g_bd h
    refine c_cV (y := yX9_near) (rest := []) dX20_ease_39 q2291 q2273 q2274 q151 q2275 hc_X9_near rfl S hE hG hS hC0 hl.1 rfl (c_recv hE hG (ci := 15) rfl (by decide) (c_castM t39)) (wm_X9_near E l s0 s1 G _ e39) rfl (Nat.le_of_ble_eq_true rfl) ⟨Nat.le_of_ble_eq_true rfl, Nat.le_of_ble_eq_true rfl⟩ (fun H locs hG hS => ?_)
    refine lv_aload_n hx hb dX20_ease_42 rfl (lv_at hl 0 rfl) ?_
    obtain ⟨G43, e43, h⟩ := g_bd h
    refine wd_Lifts_rise (rest := []) q2293 dX20_ease_43 S hE hG hS hC0 hl.1 e43 rfl (Nat.le_of_ble_eq_true rfl) (by decide) (fun H locs hG hS => ?_)
    exact c_vretW dX20_ease_48 S hr hk hC0 hG hS h
  unfold cm_X20_ease at h
  refine lv_aload_n hx hb dX20_ease_0 rfl (lv_at hl 0 rfl) ?_
  refine lv_astore_n (lv' := [(1, .ref x0), (0, .ref x0)]) hx hb dX20_ease_1 rfl hl (by decide) rfl (fun ls hl => ?_)
  refine lv_aload_n hx hb dX20_ease_2 rfl (lv_at hl 1 rfl) ?_
  obtain ⟨v3, e3, h⟩ := g_bd h
  refine cg_X20_23 dX20_ease_3 S hE hG e3 ?_
  refine lv_aload_n hx hb dX20_ease_6 rfl (lv_at hl 1 rfl) ?_
  obtain ⟨v7, e7, h⟩ := g_bd h
  refine cg_X20_30 dX20_ease_7 S hE hG e7 ?_
  obtain ⟨v10, e10, h⟩ := g_bd h
  refine cg_X20_104 dX20_ease_10 S hE hG e10 ?_
  refine lv_if_le (tgt := 32) hx hb dX20_ease_13 (by decide) (fun c13 => ?_) (fun c13 => ?_)
  · have h := g_it c13 h
    refine lv_aload_n hx hb dX20_ease_32 rfl (lv_at hl 1 rfl) ?_
    obtain ⟨v33, e33, h⟩ := g_bd h
    refine cg_X20_23 dX20_ease_33 S hE hG e33 ?_
    obtain ⟨v36, e36, h⟩ := g_bd h
    refine cg_X20_107 dX20_ease_36 S hE hG e36 ?_
    exact J39 x0 v3 v36 Gz _ _ _ h hG hS (lv_sub hl [0] rfl)
  · have h := g_if c13 h
    refine lv_iconst (v := 1) hx hb dX20_ease_16 (by decide) ?_
    refine lv_aload_n hx hb dX20_ease_17 rfl (lv_at hl 1 rfl) ?_
    obtain ⟨v18, e18, h⟩ := g_bd h
    refine cg_X20_23 dX20_ease_18 S hE hG e18 ?_
    obtain ⟨v21, e21, h⟩ := g_bd h
    refine cg_X20_107 dX20_ease_21 S hE hG e21 ?_
    refine lv_iconst (v := 2) hx hb dX20_ease_24 (by decide) ?_
    refine lv_idiv hx hb dX20_ease_25 (by decide) ?_
    refine c_math_max q2290 dX20_ease_26 S hl.1 hC0 hG hS (by decide) (Nat.le_of_ble_eq_true rfl) ?_
    refine lv_goto (tgt := 39) hx hb dX20_ease_29 (by decide) ?_
    exact J39 x0 v3 (if 1 < (v21 / 2) then (v21 / 2) else 1) Gz _ _ _ h hG hS (lv_sub hl [0] rfl)
theorem hc_X21_leader : cHd yX21_leader 0 := by decide +kernel
set_option maxHeartbeats 4000000 in
set_option maxRecDepth 100000 in
theorem wm_X21_leader (E : gX) (l : Launch) (x0 : Nat) (Gz : GH) (r : Nat) (h : cm_X21_leader x0 Gz = some r) : gMetC E l yX21_leader cX21_leader 1 (some (Jvm.ClassFile.FieldType.object "FairHouse$Spin")) 2 [.ref x0] Gz Gz (some (.ref r)) := by
  refine gMetC.of (own := RX21) (by decide +kernel) (Nat.le_of_ble_eq_true rfl) rfl ?_
  intro p e s m args below meth c S hr hk hnm hE hC0 hG hS ls hl
  have hl : lv_has ls 1 [(0, .ref x0)] := hl
  have hx := S.1
  have hb := S.2.1
  unfold cm_X21_leader at h
  refine lv_aload_n hx hb dX21_leader_0 rfl (lv_at hl 0 rfl) ?_
  obtain ⟨v1, e1, h⟩ := g_bd h
  refine cg_X21_25 dX21_leader_1 S hE hG e1 ?_
  exact c_aretR dX21_leader_4 (Or.inl ⟨_, rfl⟩) S hr hk hC0 hG hS h
section DSP
variable {p : Program} {l : Launch} {e : Env} {R : Room} {s : State} {m : MethodId} {args : Array Value} {below : List Frame} {meth : Method} {c : Code} {H : Heap} {locs : List Loc} {cells slots : Nat} {Q : State → Prop}
variable {cc : ByteArray} {pc nL lev0 : Nat} {ls : Array Slot} {rest st : List Value} {E : gX} {G Gz G1 : GH}
theorem hx_Hitched_leader : cHd ⟨"FairHouse$Hitched", "leade\x72", "()LFairHouse$Spin;"⟩ 0 := by decide +kernel
set_option maxHeartbeats 4000000 in
set_option maxRecDepth 100000 in
theorem wd_Hitched_leader {own : String} {a idx count : Nat} {r : Nat} (w1 : Cond.methodLink own idx ⟨"FairHouse$Hitched", "leade\x72", "()LFairHouse$Spin;"⟩ ∈ lw_all) (hdg : decode cc pc = .ok (.invokeinterface idx count, 5)) (S : CallFix p m c cc nL s args lw_all own) (hE : gEnv E s) (hG : gC E G H) (hS : va_S (gx_C E) s.heap H locs) (hC0 : gC E Gz s.heap) (hls : ls.size = nL) (h : cd_Hitched_leader a G = some r) (hst : st = [] ++ .ref a :: rest) (hW : (rest.map fun v => v.category).sum ≤ 8) (hroom : 2 + 1 ≤ lev0)
    (kk : ∀ (H1 : Heap) (locs1 : List Loc), gC E G H1 → va_S (gx_C E) s.heap H1 locs1 → WC E p l e (gRm lev0 (cBx Gz) (cBs Gz)) s m args below meth c H1 locs1 Q (F0 m (pc + 5) ls (.ref r :: rest))) : WC E p l e (gRm lev0 (cBx Gz) (cBs Gz)) s m args below meth c H locs Q (F0 m pc ls st) := by
  unfold cd_Hitched_leader at h
  by_cases c28 : cT G a = 28
  · have h := g_it c28 h
    exact c_cF (y := yX21_leader) (As := []) 0 rfl hdg w1 q2327 q2325 q163 q2329 hx_Hitched_leader S hE hG hS hC0 hls rfl (hE.K.1 27 _ rfl).2 (c_recv hE hG (ci := 27) rfl (by decide) c28) (wm_X21_leader E l a G _ h) hst hW ⟨by omega, by omega⟩ (fun H1 locs1 h1 h2 => kk H1 locs1 h1 h2)
  have h := g_if c28 h
  cases h
end DSP
section X35F
variable {p : Program} {l : Launch} {e : Env} {R : Room} {s : State} {m : MethodId} {args : Array Value} {below : List Frame} {meth : Method} {c : Code} {H : Heap} {locs : List Loc} {cells slots : Nat} {Q : State → Prop}
variable {cc : ByteArray} {pc nL lev0 : Nat} {ls : Array Slot} {rest st : List Value} {E : gX} {G Gz G1 : GH}
theorem cg_X35_14 {a : Nat} {v : Int32} (hdg : decode cc pc = .ok (.getfield 14, 3)) (S : CallFix p m c cc nL s args lw_all RX35) (hE : gEnv E s) (hG : gC E G H) (hv : cGetI G [16] a 2 = some v) (kk : W p l e R s m args below meth c H locs cells slots Q (F0 m (pc + 3) ls (.int v :: rest))) : W p l e R s m args below meth c H locs cells slots Q (F0 m pc ls (.ref a :: rest)) := by
  unfold cGetI at hv
  split at hv
  · next ht =>
    cases hv
    have ht := List.mem_singleton.mp ht
    exact c_getv (ci := 15) (k := 2) hdg (Or.inr ⟨_, lw_nw q1083 rfl⟩) rfl in_X9 (by decide) (by decide) (Or.inl rfl) rfl S hE hG ht kk
  · cases hv
theorem cp_X35_14 {a : Nat} {v : Int32} (hdg : decode cc pc = .ok (.putfield 14, 3)) (S : CallFix p m c cc nL s args lw_all RX35) (hE : gEnv E s) (hG : gC E G H) (hS : va_S (gx_C E) s.heap H locs) (hC0 : gC E Gz s.heap) (hv : cPutI G [16] a 2 v = some G1) (kk : ∀ (H1 : Heap) (locs1 : List Loc), gC E G1 H1 → va_S (gx_C E) s.heap H1 locs1 → WC E p l e R s m args below meth c H1 locs1 Q (F0 m (pc + 3) ls rest)) : WC E p l e R s m args below meth c H locs Q (F0 m pc ls (.int v :: .ref a :: rest)) := by
  unfold cPutI at hv
  split at hv
  · next ht =>
    cases hv
    have ht := List.mem_singleton.mp ht
    exact c_putv (ci := 15) (k := 2) (v := .int v) (G' := cSetI G a 2 v) hdg (Or.inr ⟨_, lw_nw q1083 rfl⟩) rfl in_X9 tyX9_ok nmX9 (by decide) (Or.inl rfl) (by decide) (Or.inl rfl) (tyX9_ok 2 (by decide)) rfl rfl S hE hG hS ht (by decide) rfl rfl rfl rfl rfl rfl c_othI (c_hvI (fun _ _ _ => rfl)) hC0.2.2.2.2.2 kk
  · cases hv
end X35F
theorem hc_X35_ease : cHd yX35_ease 0 := by decide +kernel
set_option maxHeartbeats 4000000 in
set_option maxRecDepth 100000 in
theorem wm_X35_ease (E : gX) (l : Launch) (x0 : Nat) (Gz G' : GH) (h : cm_X35_ease x0 Gz = some G') : gMetC E l yX35_ease cX35_ease 1 none 3 [.ref x0] Gz G' none := by
  refine gMetC.of (own := RX35) (by decide +kernel) (Nat.le_of_ble_eq_true rfl) rfl ?_
  intro p e s m args below meth c S hr hk hnm hE hC0 hG hS ls hl
  have hl : lv_has ls 1 [(0, .ref x0)] := hl
  have hx := S.1
  have hb := S.2.1
  unfold cm_X35_ease at h
  by_cases t28 : cT Gz x0 = 28
  · have h := g_it t28 h
    refine lv_aload_n hx hb dX35_ease_0 rfl (lv_at hl 0 rfl) ?_
    obtain ⟨v1, e1, h⟩ := g_bd h
    have e1' : cm_X21_spin x0 Gz = some v1 := by
      unfold cd_Turns_spin at e1
      rw [if_neg (by omega), if_neg (by omega), if_neg (by omega), if_neg (by omega), if_pos t28] at e1
      exact e1
    refine c_cU (y := yX21_spin) (As := []) (rest := []) 0 rfl dX35_ease_1 (lw_nw q2320 rfl) q1418 q163 q1420 (by decide +kernel) S hE (gSel.ofF hE 47 rfl (S.2.2.2.2 _ q1416)) hG hS hC0 hl.1 rfl (c_recv hE hG (ci := 27) rfl (by decide) t28) (wm_X21_spin E l x0 Gz _ e1') rfl (Nat.le_of_ble_eq_true rfl) ⟨Nat.le_of_ble_eq_true rfl, Nat.le_of_ble_eq_true rfl⟩ (fun H locs hG hS => ?_)
    refine lv_aload_n hx hb dX35_ease_6 rfl (lv_at hl 0 rfl) ?_
    obtain ⟨v7, e7, h⟩ := g_bd h
    refine wd_Hitched_leader (rest := [.ref v1]) q2322 dX35_ease_7 S hE hG hS hC0 hl.1 e7 rfl (Nat.le_of_ble_eq_true rfl) (by decide) (fun H locs hG hS => ?_)
    obtain ⟨v12, e12, h⟩ := g_bd h
    refine cg_X35_14 dX35_ease_12 S hE hG e12 ?_
    obtain ⟨G15, e15, h⟩ := g_bd h
    refine cp_X35_14 dX35_ease_15 S hE hG hS hC0 e15 (fun H locs hG hS => ?_)
    exact c_vretW dX35_ease_18 S hr hk hC0 hG hS h
  · have h := g_if t28 h
    cases h
section DSP
variable {p : Program} {l : Launch} {e : Env} {R : Room} {s : State} {m : MethodId} {args : Array Value} {below : List Frame} {meth : Method} {c : Code} {H : Heap} {locs : List Loc} {cells slots : Nat} {Q : State → Prop}
variable {cc : ByteArray} {pc nL lev0 : Nat} {ls : Array Slot} {rest st : List Value} {E : gX} {G Gz G1 : GH}
theorem hx_Machine_ease : cHd ⟨"FairHouse$Machine", "ease", "()V"⟩ 0 := by decide +kernel
set_option maxHeartbeats 4000000 in
set_option maxRecDepth 100000 in
theorem wd_Machine_ease {own : String} {a idx count : Nat} (w1 : Cond.methodLink own idx ⟨"FairHouse$Machine", "ease", "()V"⟩ ∈ lw_all) (hdg : decode cc pc = .ok (.invokeinterface idx count, 5)) (S : CallFix p m c cc nL s args lw_all own) (hE : gEnv E s) (hG : gC E G H) (hS : va_S (gx_C E) s.heap H locs) (hC0 : gC E Gz s.heap) (hls : ls.size = nL) (h : cd_Machine_ease a G = some G1) (hst : st = [] ++ .ref a :: rest) (hW : (rest.map fun v => v.category).sum ≤ 8) (hroom : 4 + 1 ≤ lev0)
    (kk : ∀ (H1 : Heap) (locs1 : List Loc), gC E G1 H1 → va_S (gx_C E) s.heap H1 locs1 → WC E p l e (gRm lev0 (cBx Gz) (cBs Gz)) s m args below meth c H1 locs1 Q (F0 m (pc + 5) ls (rest))) : WC E p l e (gRm lev0 (cBx Gz) (cBs Gz)) s m args below meth c H locs Q (F0 m pc ls st) := by
  unfold cd_Machine_ease at h
  by_cases c14 : cT G a = 14
  · have h := g_it c14 h
    exact c_cD (y := yX34_ease) (As := []) 28 rfl hdg w1 q2339 q3388 q2341 hx_Machine_ease S hE hG hS hC0 hls rfl (hE.K.1 13 _ rfl).2 (c_recv hE hG (ci := 13) rfl (by decide) c14) (wm_X34_ease E l a G G1 h) hst hW ⟨by omega, by omega⟩ (fun H1 locs1 h1 h2 => kk H1 locs1 h1 h2)
  have h := g_if c14 h
  by_cases c18 : cT G a = 18
  · have h := g_it c18 h
    exact c_cD (y := yX36_ease) (As := []) 29 rfl hdg w1 q2332 q3386 q2334 hx_Machine_ease S hE hG hS hC0 hls rfl (hE.K.1 17 _ rfl).2 (c_recv hE hG (ci := 17) rfl (by decide) c18) (wm_X36_ease E l a G G1 h) hst hW ⟨by omega, by omega⟩ (fun H1 locs1 h1 h2 => kk H1 locs1 h1 h2)
  have h := g_if c18 h
  by_cases c20 : cT G a = 20
  · have h := g_it c20 h
    exact c_cF (y := yX13_ease) (As := []) 14 rfl hdg w1 q2306 q2304 q155 q2308 hx_Machine_ease S hE hG hS hC0 hls rfl (hE.K.1 19 _ rfl).2 (c_recv hE hG (ci := 19) rfl (by decide) c20) (wm_X13_ease E l a G G1 h) hst hW ⟨by omega, by omega⟩ (fun H1 locs1 h1 h2 => kk H1 locs1 h1 h2)
  have h := g_if c20 h
  by_cases c21 : cT G a = 21
  · have h := g_it c21 h
    exact c_cF (y := yX14_ease) (As := []) 15 rfl hdg w1 q2261 q2259 q156 q2263 hx_Machine_ease S hE hG hS hC0 hls rfl (hE.K.1 20 _ rfl).2 (c_recv hE hG (ci := 20) rfl (by decide) c21) (wm_X14_ease E l a G G1 h) hst hW ⟨by omega, by omega⟩ (fun H1 locs1 h1 h2 => kk H1 locs1 h1 h2)
  have h := g_if c21 h
  by_cases c23 : cT G a = 23
  · have h := g_it c23 h
    exact c_cD (y := yX40_ease) (As := []) 30 rfl hdg w1 q2246 q3385 q2248 hx_Machine_ease S hE hG hS hC0 hls rfl (hE.K.1 22 _ rfl).2 (c_recv hE hG (ci := 22) rfl (by decide) c23) (wm_X40_ease E l a G G1 h) hst hW ⟨by omega, by omega⟩ (fun H1 locs1 h1 h2 => kk H1 locs1 h1 h2)
  have h := g_if c23 h
  by_cases c25 : cT G a = 25
  · have h := g_it c25 h
    exact c_cF (y := yX18_ease) (As := []) 16 rfl hdg w1 q2251 q2249 q160 q2253 hx_Machine_ease S hE hG hS hC0 hls rfl (hE.K.1 24 _ rfl).2 (c_recv hE hG (ci := 24) rfl (by decide) c25) (wm_X18_ease E l a G G1 h) hst hW ⟨by omega, by omega⟩ (fun H1 locs1 h1 h2 => kk H1 locs1 h1 h2)
  have h := g_if c25 h
  by_cases c26 : cT G a = 26
  · have h := g_it c26 h
    exact c_cD (y := yX40_ease) (As := []) 31 rfl hdg w1 q2246 q3385 q2248 hx_Machine_ease S hE hG hS hC0 hls rfl (hE.K.1 25 _ rfl).2 (c_recv hE hG (ci := 25) rfl (by decide) c26) (wm_X40_ease E l a G G1 h) hst hW ⟨by omega, by omega⟩ (fun H1 locs1 h1 h2 => kk H1 locs1 h1 h2)
  have h := g_if c26 h
  by_cases c27 : cT G a = 27
  · have h := g_it c27 h
    exact c_cF (y := yX20_ease) (As := []) 17 rfl hdg w1 q2287 q2285 q162 q2289 hx_Machine_ease S hE hG hS hC0 hls rfl (hE.K.1 26 _ rfl).2 (c_recv hE hG (ci := 26) rfl (by decide) c27) (wm_X20_ease E l a G G1 h) hst hW ⟨by omega, by omega⟩ (fun H1 locs1 h1 h2 => kk H1 locs1 h1 h2)
  have h := g_if c27 h
  by_cases c28 : cT G a = 28
  · have h := g_it c28 h
    exact c_cD (y := yX35_ease) (As := []) 32 rfl hdg w1 q2315 q3390 q2317 hx_Machine_ease S hE hG hS hC0 hls rfl (hE.K.1 27 _ rfl).2 (c_recv hE hG (ci := 27) rfl (by decide) c28) (wm_X35_ease E l a G G1 h) hst hW ⟨by omega, by omega⟩ (fun H1 locs1 h1 h2 => kk H1 locs1 h1 h2)
  have h := g_if c28 h
  cases h
end DSP
theorem hc_X34_pull : cHd yX34_pull 0 := by decide +kernel
set_option maxHeartbeats 4000000 in
set_option maxRecDepth 100000 in
theorem wm_X34_pull (E : gX) (l : Launch) (x0 : Nat) (Gz : GH) (r : Int32) (h : cm_X34_pull x0 Gz = some r) : gMetC E l yX34_pull cX34_pull 1 (some Jvm.ClassFile.FieldType.int) 3 [.ref x0] Gz Gz (some (.int r)) := by
  refine gMetC.of (own := RX34) (by decide +kernel) (Nat.le_of_ble_eq_true rfl) rfl ?_
  intro p e s m args below meth c S hr hk hnm hE hC0 hG hS ls hl
  have hl : lv_has ls 1 [(0, .ref x0)] := hl
  have hx := S.1
  have hb := S.2.1
  unfold cm_X34_pull at h
  refine lv_aload_n hx hb dX34_pull_0 rfl (lv_at hl 0 rfl) ?_
  obtain ⟨v1, e1, h⟩ := g_bd h
  refine wd_Turns_spin (rest := []) q2131 dX34_pull_1 S hE hG hS hC0 hl.1 e1 rfl (Nat.le_of_ble_eq_true rfl) (by decide) (fun H locs hG hS => ?_)
  obtain ⟨u6, t6, h⟩ := g_bd h
  obtain ⟨v6, e6, h⟩ := g_bd h
  refine c_cV (y := yX9_size) (rest := []) dX34_pull_6 q2421 q2281 q2282 q151 q2283 hc_X9_size rfl S hE hG hS hC0 hl.1 rfl (c_recv hE hG (ci := 15) rfl (by decide) (c_castM t6)) (wm_X9_size E l v1 Gz _ e6) rfl (Nat.le_of_ble_eq_true rfl) ⟨Nat.le_of_ble_eq_true rfl, Nat.le_of_ble_eq_true rfl⟩ (fun H locs hG hS => ?_)
  refine lv_aload_n hx hb dX34_pull_9 rfl (lv_at hl 0 rfl) ?_
  obtain ⟨v10, e10, h⟩ := g_bd h
  refine wd_Turns_spin (rest := [.int v6]) q2131 dX34_pull_10 S hE hG hS hC0 hl.1 e10 rfl (Nat.le_of_ble_eq_true rfl) (by decide) (fun H locs hG hS => ?_)
  obtain ⟨v15, e15, h⟩ := g_bd h
  refine cg_X34_13 dX34_pull_15 S hE hG e15 ?_
  refine lv_imul hx hb dX34_pull_18 ?_
  refine lv_bipush (v := 100) hx hb dX34_pull_19 (by decide) ?_
  refine lv_idiv hx hb dX34_pull_21 (by decide) ?_
  exact c_iretR dX34_pull_22 S hr hk hC0 hG hS h
section DSP
variable {p : Program} {l : Launch} {e : Env} {R : Room} {s : State} {m : MethodId} {args : Array Value} {below : List Frame} {meth : Method} {c : Code} {H : Heap} {locs : List Loc} {cells slots : Nat} {Q : State → Prop}
variable {cc : ByteArray} {pc nL lev0 : Nat} {ls : Array Slot} {rest st : List Value} {E : gX} {G Gz G1 : GH}
theorem hx_Turns_pull : cHd ⟨"FairHouse$Turns", "pull", "()I"⟩ 0 := by decide +kernel
set_option maxHeartbeats 4000000 in
set_option maxRecDepth 100000 in
theorem wd_Turns_pull {own : String} {a idx count : Nat} {r : Int32} (w1 : Cond.methodLink own idx ⟨"FairHouse$Turns", "pull", "()I"⟩ ∈ lw_all) (hdg : decode cc pc = .ok (.invokeinterface idx count, 5)) (S : CallFix p m c cc nL s args lw_all own) (hE : gEnv E s) (hG : gC E G H) (hS : va_S (gx_C E) s.heap H locs) (hC0 : gC E Gz s.heap) (hls : ls.size = nL) (h : cd_Turns_pull a G = some r) (hst : st = [] ++ .ref a :: rest) (hW : (rest.map fun v => v.category).sum ≤ 8) (hroom : 3 + 1 ≤ lev0)
    (kk : ∀ (H1 : Heap) (locs1 : List Loc), gC E G H1 → va_S (gx_C E) s.heap H1 locs1 → WC E p l e (gRm lev0 (cBx Gz) (cBs Gz)) s m args below meth c H1 locs1 Q (F0 m (pc + 5) ls (.int r :: rest))) : WC E p l e (gRm lev0 (cBx Gz) (cBs Gz)) s m args below meth c H locs Q (F0 m pc ls st) := by
  unfold cd_Turns_pull at h
  by_cases c14 : cT G a = 14
  · have h := g_it c14 h
    exact c_cD (y := yX34_pull) (As := []) 78 rfl hdg w1 q2418 q3388 q2420 hx_Turns_pull S hE hG hS hC0 hls rfl (hE.K.1 13 _ rfl).2 (c_recv hE hG (ci := 13) rfl (by decide) c14) (wm_X34_pull E l a G _ h) hst hW ⟨by omega, by omega⟩ (fun H1 locs1 h1 h2 => kk H1 locs1 h1 h2)
  have h := g_if c14 h
  by_cases c20 : cT G a = 20
  · have h := g_it c20 h
    exact c_cD (y := yX34_pull) (As := []) 79 rfl hdg w1 q2418 q3388 q2420 hx_Turns_pull S hE hG hS hC0 hls rfl (hE.K.1 19 _ rfl).2 (c_recv hE hG (ci := 19) rfl (by decide) c20) (wm_X34_pull E l a G _ h) hst hW ⟨by omega, by omega⟩ (fun H1 locs1 h1 h2 => kk H1 locs1 h1 h2)
  have h := g_if c20 h
  by_cases c21 : cT G a = 21
  · have h := g_it c21 h
    exact c_cD (y := yX34_pull) (As := []) 80 rfl hdg w1 q2418 q3388 q2420 hx_Turns_pull S hE hG hS hC0 hls rfl (hE.K.1 20 _ rfl).2 (c_recv hE hG (ci := 20) rfl (by decide) c21) (wm_X34_pull E l a G _ h) hst hW ⟨by omega, by omega⟩ (fun H1 locs1 h1 h2 => kk H1 locs1 h1 h2)
  have h := g_if c21 h
  by_cases c27 : cT G a = 27
  · have h := g_it c27 h
    exact c_cD (y := yX34_pull) (As := []) 81 rfl hdg w1 q2418 q3388 q2420 hx_Turns_pull S hE hG hS hC0 hls rfl (hE.K.1 26 _ rfl).2 (c_recv hE hG (ci := 26) rfl (by decide) c27) (wm_X34_pull E l a G _ h) hst hW ⟨by omega, by omega⟩ (fun H1 locs1 h1 h2 => kk H1 locs1 h1 h2)
  have h := g_if c27 h
  by_cases c28 : cT G a = 28
  · have h := g_it c28 h
    exact c_cD (y := yX34_pull) (As := []) 82 rfl hdg w1 q2418 q3388 q2420 hx_Turns_pull S hE hG hS hC0 hls rfl (hE.K.1 27 _ rfl).2 (c_recv hE hG (ci := 27) rfl (by decide) c28) (wm_X34_pull E l a G _ h) hst hW ⟨by omega, by omega⟩ (fun H1 locs1 h1 h2 => kk H1 locs1 h1 h2)
  have h := g_if c28 h
  cases h
end DSP
theorem hc_X34_draw : cHd yX34_draw 0 := by decide +kernel
set_option maxHeartbeats 4000000 in
set_option maxRecDepth 100000 in
theorem wm_X34_draw (E : gX) (l : Launch) (x0 : Nat) (Gz : GH) (r : Int32) (h : cm_X34_draw x0 Gz = some r) : gMetC E l yX34_draw cX34_draw 1 (some Jvm.ClassFile.FieldType.int) 4 [.ref x0] Gz Gz (some (.int r)) := by
  refine gMetC.of (own := RX34) (by decide +kernel) (Nat.le_of_ble_eq_true rfl) rfl ?_
  intro p e s m args below meth c S hr hk hnm hE hC0 hG hS ls hl
  have hl : lv_has ls 1 [(0, .ref x0)] := hl
  have hx := S.1
  have hb := S.2.1
  unfold cm_X34_draw at h
  refine lv_aload_n hx hb dX34_draw_0 rfl (lv_at hl 0 rfl) ?_
  obtain ⟨v1, e1, h⟩ := g_bd h
  refine wd_Turns_pull (rest := []) q2470 dX34_draw_1 S hE hG hS hC0 hl.1 e1 rfl (Nat.le_of_ble_eq_true rfl) (by decide) (fun H locs hG hS => ?_)
  exact c_iretR dX34_draw_6 S hr hk hC0 hG hS h
