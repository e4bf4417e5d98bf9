/-! walks of the component's methods: printed by cgen.py -/
set_option maxRecDepth 100000
theorem hc_X39_board : cHd yX39_board 1 := by decide +kernel
set_option maxHeartbeats 4000000 in
set_option maxRecDepth 100000 in
theorem wm_X39_board (E : gX) (l : Launch) (x0 : Nat) (x1 : Int32) (Gz G' : GH) (r : Int32) (h : cm_X39_board x0 x1 Gz = some (r, G')) : gMetC E l yX39_board cX39_board 2 (some Jvm.ClassFile.FieldType.int) 4 [.ref x0, .int x1] Gz G' (some (.int r)) := by
  refine gMetC.of (own := RX39) (by decide +kernel) (Nat.le_of_ble_eq_true rfl) rfl ?_
  intro p e s m args below meth c S hr hk hnm hE hC0 hG hS ls hl
  have hl : lv_has ls 2 [(0, .ref x0), (1, .int x1)] := hl
  have hx := S.1
  have hb := S.2.1
  unfold cm_X39_board at h
  refine lv_aload_n hx hb dX39_board_0 rfl (lv_at hl 0 rfl) ?_
  obtain ⟨v1, e1, h⟩ := g_bd h
  refine wd_Seats_bench (rest := []) q2178 dX39_board_1 S hE hG hS hC0 hl.1 e1 rfl (Nat.le_of_ble_eq_true rfl) (by decide) (fun H locs hG hS => ?_)
  refine lv_iload_n hx hb dX39_board_6 rfl (lv_at hl 1 rfl) ?_
  obtain ⟨u7, t7, h⟩ := g_bd h
  obtain ⟨qx7, e7, h⟩ := g_bd h
  refine c_cV (y := yX10_board) (rest := []) dX39_board_7 q2179 q2180 q2181 q152 q2182 hc_X10_board rfl S hE hG hS hC0 hl.1 rfl (c_recv hE hG (ci := 16) rfl (by decide) (c_castM t7)) (wm_X10_board E l v1 x1 Gz _ _ e7) rfl (Nat.le_of_ble_eq_true rfl) ⟨Nat.le_of_ble_eq_true rfl, Nat.le_of_ble_eq_true rfl⟩ (fun H locs hG hS => ?_)
  exact c_iretW dX39_board_10 S hr hk hC0 hG hS h
section DSP
variable {p : Program} {l : Launch} {e : Env} {R : Room} {s : State} {m : MethodId} {args : Array Value} {below : List Frame} {meth : Method} {c : Code} {H : Heap} {locs : List Loc} {cells slots : Nat} {Q : State → Prop}
variable {cc : ByteArray} {pc nL lev0 : Nat} {ls : Array Slot} {rest st : List Value} {E : gX} {G Gz G1 : GH}
theorem hx_Seats_board : cHd ⟨"FairHouse$Seats", "board", "(I)I"⟩ 1 := by decide +kernel
set_option maxHeartbeats 4000000 in
set_option maxRecDepth 100000 in
theorem wd_Seats_board {own : String} {a idx count : Nat} {y0 : Int32} {r : Int32} (w1 : Cond.methodLink own idx ⟨"FairHouse$Seats", "board", "(I)I"⟩ ∈ lw_all) (hdg : decode cc pc = .ok (.invokeinterface idx count, 5)) (S : CallFix p m c cc nL s args lw_all own) (hE : gEnv E s) (hG : gC E G H) (hS : va_S (gx_C E) s.heap H locs) (hC0 : gC E Gz s.heap) (hls : ls.size = nL) (h : cd_Seats_board a y0 G = some (r, G1)) (hst : st = [.int y0] ++ .ref a :: rest) (hW : (rest.map fun v => v.category).sum ≤ 8) (hroom : 4 + 1 ≤ lev0)
    (kk : ∀ (H1 : Heap) (locs1 : List Loc), gC E G1 H1 → va_S (gx_C E) s.heap H1 locs1 → WC E p l e (gRm lev0 (cBx Gz) (cBs Gz)) s m args below meth c H1 locs1 Q (F0 m (pc + 5) ls (.int r :: rest))) : WC E p l e (gRm lev0 (cBx Gz) (cBs Gz)) s m args below meth c H locs Q (F0 m pc ls st) := by
  unfold cd_Seats_board at h
  by_cases c14 : cT G a = 14
  · have h := g_it c14 h
    exact c_cD (y := yX39_board) (As := [.int y0]) 54 rfl hdg w1 q2174 q3389 q2176 hx_Seats_board S hE hG hS hC0 hls rfl (hE.K.1 13 _ rfl).2 (c_recv hE hG (ci := 13) rfl (by decide) c14) (wm_X39_board E l a y0 G G1 _ h) hst hW ⟨by omega, by omega⟩ (fun H1 locs1 h1 h2 => kk H1 locs1 h1 h2)
  have h := g_if c14 h
  by_cases c18 : cT G a = 18
  · have h := g_it c18 h
    exact c_cD (y := yX39_board) (As := [.int y0]) 55 rfl hdg w1 q2174 q3389 q2176 hx_Seats_board S hE hG hS hC0 hls rfl (hE.K.1 17 _ rfl).2 (c_recv hE hG (ci := 17) rfl (by decide) c18) (wm_X39_board E l a y0 G G1 _ h) hst hW ⟨by omega, by omega⟩ (fun H1 locs1 h1 h2 => kk H1 locs1 h1 h2)
  have h := g_if c18 h
  by_cases c20 : cT G a = 20
  · have h := g_it c20 h
    exact c_cD (y := yX39_board) (As := [.int y0]) 56 rfl hdg w1 q2174 q3389 q2176 hx_Seats_board S hE hG hS hC0 hls rfl (hE.K.1 19 _ rfl).2 (c_recv hE hG (ci := 19) rfl (by decide) c20) (wm_X39_board E l a y0 G G1 _ h) hst hW ⟨by omega, by omega⟩ (fun H1 locs1 h1 h2 => kk H1 locs1 h1 h2)
  have h := g_if c20 h
  by_cases c26 : cT G a = 26
  · have h := g_it c26 h
    exact c_cD (y := yX39_board) (As := [.int y0]) 57 rfl hdg w1 q2174 q3389 q2176 hx_Seats_board S hE hG hS hC0 hls rfl (hE.K.1 25 _ rfl).2 (c_recv hE hG (ci := 25) rfl (by decide) c26) (wm_X39_board E l a y0 G G1 _ h) hst hW ⟨by omega, by omega⟩ (fun H1 locs1 h1 h2 => kk H1 locs1 h1 h2)
  have h := g_if c26 h
  by_cases c27 : cT G a = 27
  · have h := g_it c27 h
    exact c_cD (y := yX39_board) (As := [.int y0]) 58 rfl hdg w1 q2174 q3389 q2176 hx_Seats_board S hE hG hS hC0 hls rfl (hE.K.1 26 _ rfl).2 (c_recv hE hG (ci := 26) rfl (by decide) c27) (wm_X39_board E l a y0 G G1 _ h) hst hW ⟨by omega, by omega⟩ (fun H1 locs1 h1 h2 => kk H1 locs1 h1 h2)
  have h := g_if c27 h
  by_cases c28 : cT G a = 28
  · have h := g_it c28 h
    exact c_cD (y := yX39_board) (As := [.int y0]) 59 rfl hdg w1 q2174 q3389 q2176 hx_Seats_board S hE hG hS hC0 hls rfl (hE.K.1 27 _ rfl).2 (c_recv hE hG (ci := 27) rfl (by decide) c28) (wm_X39_board E l a y0 G G1 _ h) hst hW ⟨by omega, by omega⟩ (fun H1 locs1 h1 h2 => kk H1 locs1 h1 h2)
  have h := g_if c28 h
  cases h
end DSP
theorem hc_X1_lasts : cHd yX1_lasts 5 := by decide +kernel
set_option maxHeartbeats 4000000 in
set_option maxRecDepth 100000 in
theorem wm_X1_lasts (E : gX) (l : Launch) (x0 : Nat) (x1 : Int32) (x2 : Nat) (x3 : Nat) (x4 : Int32) (x5 : Int32) (Gz G' : GH) (r : Int32) (h : cm_X1_lasts x0 x1 x2 x3 x4 x5 Gz = some (r, G')) : gMetC E l yX1_lasts cX1_lasts 8 (some Jvm.ClassFile.FieldType.boolean) 9 [.ref x0, .int x1, .ref x2, .ref x3, .int x4, .int x5] Gz G' (some (.int r)) := by
  refine gMetC.of (own := RX1) (by decide +kernel) (Nat.le_of_ble_eq_true rfl) rfl ?_
  intro p e s m args below meth c S hr hk hnm hE hC0 hG hS ls hl
  have hl : lv_has ls 8 [(0, .ref x0), (1, .int x1), (2, .ref x2), (3, .ref x3), (4, .int x4), (5, .int x5)] := hl
  have hx := S.1
  have hb := S.2.1
  have J114 : ∀ (x0 : Nat) (x1 : Int32) (x3 : Nat) (G : GH) (H : Heap) (locs : List Loc) (ls : Array Slot), cm_X1_lasts_J114 x0 x1 x3 G = some (r, G') → gC E G H → va_S (gx_C E) s.heap H locs → lv_has ls 8 [(0, .ref x0), (1, .int x1), (3, .ref x3)] → WC E p l e (gRm 9 (cBx Gz) (cBs Gz)) s m args below meth c H locs (MQ below (gQ (some (.int r)) (gC E G') (gx_C E)) args s (cBx Gz) (cBs Gz) (gx_C E)) (F0 m 114 ls []) := by
    intro x0 x1 x3 G H locs ls h hG hS hl
    unfold cm_X1_lasts_J114 at h
    refine lv_aload_n hx hb dX1_lasts_114 rfl (lv_at hl 2 rfl) ?_
    refine lv_dup hx hb dX1_lasts_115 rfl ?_
    obtain ⟨v116, e116, h⟩ := g_bd h
    refine cg_X1_409 dX1_lasts_116 S hE hG e116 ?_
    refine lv_iconst (v := 1) hx hb dX1_lasts_119 (by decide) ?_
    refine lv_isub hx hb dX1_lasts_120 ?_
    obtain ⟨G121, e121, h⟩ := g_bd h
    refine cp_X1_409 dX1_lasts_121 S hE hG hS hC0 e121 (fun H locs hG hS => ?_)
    refine lv_aload_n hx hb dX1_lasts_124 rfl (lv_at hl 2 rfl) ?_
    obtain ⟨v125, e125, h⟩ := g_bd h
    refine cg_X1_409 dX1_lasts_125 S hE hG e125 ?_
    refine lv_if_ne (tgt := 138) hx hb dX1_lasts_128 (by decide) (fun c128 => ?_) (fun c128 => ?_)
    · have h := g_if c128 h
      refine lv_iconst (v := 0) hx hb dX1_lasts_138 (by decide) ?_
      exact c_zretW dX1_lasts_139 S hr hk hC0 hG hS h
    · have h := g_it c128 h
      refine lv_aload_n hx hb dX1_lasts_131 rfl (lv_at hl 0 rfl) ?_
      refine lv_iload_n hx hb dX1_lasts_132 rfl (lv_at hl 1 rfl) ?_
      refine lv_aload_n hx hb dX1_lasts_133 rfl (lv_at hl 2 rfl) ?_
      obtain ⟨u134, t134, h⟩ := g_bd h
      obtain ⟨qx134, e134, h⟩ := g_bd h
      refine c_cV (y := yX1_done) (rest := []) dX1_lasts_134 q2051 q2053 qs48 q119 q2054 hc_X1_done rfl S hE hG hS hC0 hl.1 rfl (c_recv hE hG (ci := 8) rfl (by decide) (c_castM t134)) (wm_X1_done E l x0 x1 x3 G121 _ _ e134) rfl (Nat.le_of_ble_eq_true rfl) ⟨Nat.le_of_ble_eq_true rfl, Nat.le_of_ble_eq_true rfl⟩ (fun H locs hG hS => ?_)
      refine lv_pop hx hb dX1_lasts_137 rfl ?_
      refine lv_iconst (v := 0) hx hb dX1_lasts_138 (by decide) ?_
      exact c_zretW dX1_lasts_139 S hr hk hC0 hG hS h
  have J65 : ∀ (x0 : Nat) (x1 : Int32) (x2 : Nat) (x3 : Nat) (x4 : Int32) (G : GH) (H : Heap) (locs : List Loc) (ls : Array Slot), cm_X1_lasts_J65 x0 x1 x2 x3 x4 G = some (r, G') → gC E G H → va_S (gx_C E) s.heap H locs → lv_has ls 8 [(0, .ref x0), (1, .int x1), (2, .ref x2), (3, .ref x3), (4, .int x4)] → WC E p l e (gRm 9 (cBx Gz) (cBs Gz)) s m args below meth c H locs (MQ below (gQ (some (.int r)) (gC E G') (gx_C E)) args s (cBx Gz) (cBs Gz) (gx_C E)) (F0 m 65 ls []) := by
    intro x0 x1 x2 x3 x4 G H locs ls h hG hS hl
    unfold cm_X1_lasts_J65 at h
    refine lv_iload hx hb dX1_lasts_65 (lv_at hl 4 rfl) ?_
    refine lv_bipush (v := 6) hx hb dX1_lasts_67 (by decide) ?_
    refine lv_icmp_ne (tgt := 90) hx hb dX1_lasts_69 (by decide) (fun c69 => ?_) (fun c69 => ?_)
    · have h := g_if c69 h
      refine lv_iload hx hb dX1_lasts_90 (lv_at hl 4 rfl) ?_
      refine lv_iconst (v := 4) hx hb dX1_lasts_92 (by decide) ?_
      refine lv_icmp_ne (tgt := 114) hx hb dX1_lasts_93 (by decide) (fun c93 => ?_) (fun c93 => ?_)
      · have h := g_if c93 h
        exact J114 x0 x1 x3 G _ _ _ h hG hS (lv_sub hl [0, 1, 3] rfl)
      · have h := g_it c93 h
        refine lv_aload_n hx hb dX1_lasts_96 rfl (lv_at hl 2 rfl) ?_
        obtain ⟨u97, e97, h⟩ := g_bd h
        refine ck_X1_195 dX1_lasts_97 S hE hG e97 ?_
        refine lv_astore (lv' := [(7, .ref x2), (0, .ref x0), (1, .int x1), (2, .ref x2), (3, .ref x3), (4, .int x4)]) hx hb dX1_lasts_100 hl (by decide) rfl (fun ls hl => ?_)
        refine lv_aload hx hb dX1_lasts_102 (lv_at hl 0 rfl) ?_
        refine lv_aload_n hx hb dX1_lasts_104 rfl (lv_at hl 1 rfl) ?_
        obtain ⟨v105, e105, h⟩ := g_bd h
        refine cg_X1_133 dX1_lasts_105 S hE hG e105 ?_
        obtain ⟨qx108, e108, h⟩ := g_bd h
        refine wd_Seats_board (rest := []) q2170 dX1_lasts_108 S hE hG hS hC0 hl.1 e108 rfl (Nat.le_of_ble_eq_true rfl) (by decide) (fun H locs hG hS => ?_)
        refine lv_pop hx hb dX1_lasts_113 rfl ?_
        exact J114 x0 x1 x3 qx108.2 _ _ _ h hG hS (lv_sub hl [1, 2, 4] rfl)
    · have h := g_it c69 h
      refine lv_aload_n hx hb dX1_lasts_72 rfl (lv_at hl 2 rfl) ?_
      refine lv_iconst (v := 0) hx hb dX1_lasts_73 (by decide) ?_
      refine lv_aload_n hx hb dX1_lasts_74 rfl (lv_at hl 2 rfl) ?_
      obtain ⟨v75, e75, h⟩ := g_bd h
      refine cg_X1_151 dX1_lasts_75 S hE hG e75 ?_
      refine lv_bipush (v := 50) hx hb dX1_lasts_78 (by decide) ?_
      refine lv_isub hx hb dX1_lasts_80 ?_
      refine c_math_max q2168 dX1_lasts_81 S hl.1 hC0 hG hS (by decide) (Nat.le_of_ble_eq_true rfl) ?_
      obtain ⟨G84, e84, h⟩ := g_bd h
      refine cp_X1_151 dX1_lasts_84 S hE hG hS hC0 e84 (fun H locs hG hS => ?_)
      refine lv_goto (tgt := 114) hx hb dX1_lasts_87 (by decide) ?_
      exact J114 x0 x1 x3 G84 _ _ _ h hG hS (lv_sub hl [0, 1, 3] rfl)
  have J47 : ∀ (x0 : Nat) (x1 : Int32) (x2 : Nat) (x3 : Nat) (x4 : Int32) (x5 : Int32) (G : GH) (H : Heap) (locs : List Loc) (ls : Array Slot), cm_X1_lasts_J47 x0 x1 x2 x3 x4 x5 G = some (r, G') → gC E G H → va_S (gx_C E) s.heap H locs → lv_has ls 8 [(0, .ref x0), (1, .int x1), (2, .ref x2), (3, .ref x3), (4, .int x4), (5, .int x5)] → WC E p l e (gRm 9 (cBx Gz) (cBs Gz)) s m args below meth c H locs (MQ below (gQ (some (.int r)) (gC E G') (gx_C E)) args s (cBx Gz) (cBs Gz) (gx_C E)) (F0 m 47 ls []) := by
    intro x0 x1 x2 x3 x4 x5 G H locs ls h hG hS hl
    unfold cm_X1_lasts_J47 at h
    refine lv_aload_n hx hb dX1_lasts_47 rfl (lv_at hl 3 rfl) ?_
    obtain ⟨v48, e48, h⟩ := g_bd h
    refine cg_X1_294 dX1_lasts_48 S hE hG e48 ?_
    refine lv_if_ne (tgt := 65) hx hb dX1_lasts_51 (by decide) (fun c51 => ?_) (fun c51 => ?_)
    · have h := g_if c51 h
      exact J65 x0 x1 x2 x3 x4 G _ _ _ h hG hS (lv_sub hl [0, 1, 2, 3, 4] rfl)
    · have h := g_it c51 h
      refine lv_aload_n hx hb dX1_lasts_54 rfl (lv_at hl 3 rfl) ?_
      refine lv_iconst (v := 1) hx hb dX1_lasts_55 (by decide) ?_
      obtain ⟨G56, e56, h⟩ := g_bd h
      refine cp_X1_294 dX1_lasts_56 S hE hG hS hC0 e56 (fun H locs hG hS => ?_)
      refine lv_aload_n hx hb dX1_lasts_59 rfl (lv_at hl 3 rfl) ?_
      refine lv_iload hx hb dX1_lasts_60 (lv_at hl 5 rfl) ?_
      obtain ⟨G62, e62, h⟩ := g_bd h
      refine cp_X1_409 dX1_lasts_62 S hE hG hS hC0 e62 (fun H locs hG hS => ?_)
      exact J65 x0 x1 x2 x3 x4 G62 _ _ _ h hG hS (lv_sub hl [0, 1, 2, 3, 4] rfl)
  have J20 : ∀ (x0 : Nat) (x1 : Int32) (x2 : Nat) (x3 : Nat) (x4 : Int32) (x5 : Int32) (G : GH) (H : Heap) (locs : List Loc) (ls : Array Slot), cm_X1_lasts_J20 x0 x1 x2 x3 x4 x5 G = some (r, G') → gC E G H → va_S (gx_C E) s.heap H locs → lv_has ls 8 [(0, .ref x0), (1, .int x1), (2, .ref x2), (3, .ref x3), (4, .int x4), (5, .int x5)] → WC E p l e (gRm 9 (cBx Gz) (cBs Gz)) s m args below meth c H locs (MQ below (gQ (some (.int r)) (gC E G') (gx_C E)) args s (cBx Gz) (cBs Gz) (gx_C E)) (F0 m 20 ls []) := by
    intro x0 x1 x2 x3 x4 x5 G H locs ls h hG hS hl
    unfold cm_X1_lasts_J20 at h
    refine lv_aload_n hx hb dX1_lasts_20 rfl (lv_at hl 2 rfl) ?_
    refine lv_astore (lv' := [(6, .ref x2), (0, .ref x0), (1, .int x1), (2, .ref x2), (3, .ref x3), (4, .int x4), (5, .int x5)]) hx hb dX1_lasts_21 hl (by decide) rfl (fun ls hl => ?_)
    refine lv_iload hx hb dX1_lasts_23 (lv_at hl 5 rfl) ?_
    refine lv_bipush (v := 7) hx hb dX1_lasts_25 (by decide) ?_
    refine lv_icmp_eq (tgt := 47) hx hb dX1_lasts_27 (by decide) (fun c27 => ?_) (fun c27 => ?_)
    · have h := g_it c27 h
      exact J47 x0 x1 x2 x3 x4 x5 G _ _ _ h hG hS (lv_sub hl [1, 2, 3, 4, 5, 6] rfl)
    · have h := g_if c27 h
      refine lv_aload hx hb dX1_lasts_30 (lv_at hl 0 rfl) ?_
      obtain ⟨v32, e32, h⟩ := g_bd h
      refine wd_Machine_isCalm (rest := []) q2064 dX1_lasts_32 S hE hG hS hC0 hl.1 e32 rfl (Nat.le_of_ble_eq_true rfl) (by decide) (fun H locs hG hS => ?_)
      refine lv_if_ne (tgt := 47) hx hb dX1_lasts_37 (by decide) (fun c37 => ?_) (fun c37 => ?_)
      · have h := g_if c37 h
        exact J47 x0 x1 x2 x3 x4 x5 G _ _ _ h hG hS (lv_sub hl [1, 2, 3, 4, 5, 6] rfl)
      · have h := g_it c37 h
        refine lv_aload_n hx hb dX1_lasts_40 rfl (lv_at hl 1 rfl) ?_
        refine lv_iconst (v := 1) hx hb dX1_lasts_41 (by decide) ?_
        obtain ⟨G42, e42, h⟩ := g_bd h
        refine cp_X1_327 dX1_lasts_42 S hE hG hS hC0 e42 (fun H locs hG hS => ?_)
        refine lv_iconst (v := 1) hx hb dX1_lasts_45 (by decide) ?_
        exact c_zretW dX1_lasts_46 S hr hk hC0 hG hS h
  unfold cm_X1_lasts at h
  refine lv_aload_n hx hb dX1_lasts_0 rfl (lv_at hl 3 rfl) ?_
  obtain ⟨v1, e1, h⟩ := g_bd h
  refine cg_X1_294 dX1_lasts_1 S hE hG e1 ?_
  refine lv_if_ne (tgt := 20) hx hb dX1_lasts_4 (by decide) (fun c4 => ?_) (fun c4 => ?_)
  · have h := g_if c4 h
    exact J20 x0 x1 x2 x3 x4 x5 Gz _ _ _ h hG hS (lv_sub hl [0, 1, 2, 3, 4, 5] rfl)
  · have h := g_it c4 h
    refine lv_iload hx hb dX1_lasts_7 (lv_at hl 5 rfl) ?_
    refine lv_iconst (v := 1) hx hb dX1_lasts_9 (by decide) ?_
    refine lv_icmp_ge (tgt := 20) hx hb dX1_lasts_10 (by decide) (fun c10 => ?_) (fun c10 => ?_)
    · have h := g_it c10 h
      exact J20 x0 x1 x2 x3 x4 x5 Gz _ _ _ h hG hS (lv_sub hl [0, 1, 2, 3, 4, 5] rfl)
    · have h := g_if c10 h
      refine lv_aload_n hx hb dX1_lasts_13 rfl (lv_at hl 0 rfl) ?_
      refine lv_iload_n hx hb dX1_lasts_14 rfl (lv_at hl 1 rfl) ?_
      refine lv_aload_n hx hb dX1_lasts_15 rfl (lv_at hl 3 rfl) ?_
      obtain ⟨u16, t16, h⟩ := g_bd h
      obtain ⟨qx16, e16, h⟩ := g_bd h
      refine c_cV (y := yX1_done) (rest := []) dX1_lasts_16 q2051 q2053 qs48 q119 q2054 hc_X1_done rfl S hE hG hS hC0 hl.1 rfl (c_recv hE hG (ci := 8) rfl (by decide) (c_castM t16)) (wm_X1_done E l x0 x1 x3 Gz _ _ e16) rfl (Nat.le_of_ble_eq_true rfl) ⟨Nat.le_of_ble_eq_true rfl, Nat.le_of_ble_eq_true rfl⟩ (fun H locs hG hS => ?_)
      exact c_zretW dX1_lasts_19 S hr hk hC0 hG hS h
theorem hc_X1_unloads : cHd yX1_unloads 3 := by decide +kernel
set_option maxHeartbeats 4000000 in
set_option maxRecDepth 100000 in
theorem wm_X1_unloads (E : gX) (l : Launch) (x0 : Nat) (x1 : Int32) (x2 : Nat) (x3 : Nat) (Gz G' : GH) (r : Int32) (h : cm_X1_unloads x0 x1 x2 x3 Gz = some (r, G')) : gMetC E l yX1_unloads cX1_unloads 7 (some Jvm.ClassFile.FieldType.boolean) 9 [.ref x0, .int x1, .ref x2, .ref x3] Gz G' (some (.int r)) := by
  refine gMetC.of (own := RX1) (by decide +kernel) (Nat.le_of_ble_eq_true rfl) rfl ?_
  intro p e s m args below meth c S hr hk hnm hE hC0 hG hS ls hl
  have hl : lv_has ls 7 [(0, .ref x0), (1, .int x1), (2, .ref x2), (3, .ref x3)] := hl
  have hx := S.1
  have hb := S.2.1
  have J73 : ∀ (x0 : Nat) (x1 : Int32) (x3 : Nat) (G : GH) (H : Heap) (locs : List Loc) (ls : Array Slot), cm_X1_unloads_J73 x0 x1 x3 G = some (r, G') → gC E G H → va_S (gx_C E) s.heap H locs → lv_has ls 7 [(0, .ref x0), (1, .int x1), (3, .ref x3)] → WC E p l e (gRm 9 (cBx Gz) (cBs Gz)) s m args below meth c H locs (MQ below (gQ (some (.int r)) (gC E G') (gx_C E)) args s (cBx Gz) (cBs Gz) (gx_C E)) (F0 m 73 ls []) := by
    intro x0 x1 x3 G H locs ls h hG hS hl
    unfold cm_X1_unloads_J73 at h
    refine lv_aload_n hx hb dX1_unloads_73 rfl (lv_at hl 0 rfl) ?_
    refine lv_iload_n hx hb dX1_unloads_74 rfl (lv_at hl 1 rfl) ?_
    refine lv_aload_n hx hb dX1_unloads_75 rfl (lv_at hl 2 rfl) ?_
    obtain ⟨u76, t76, h⟩ := g_bd h
    obtain ⟨qx76, e76, h⟩ := g_bd h
    refine c_cV (y := yX1_done) (rest := []) dX1_unloads_76 q2051 q2053 qs48 q119 q2054 hc_X1_done rfl S hE hG hS hC0 hl.1 rfl (c_recv hE hG (ci := 8) rfl (by decide) (c_castM t76)) (wm_X1_done E l x0 x1 x3 G _ _ e76) rfl (Nat.le_of_ble_eq_true rfl) ⟨Nat.le_of_ble_eq_true rfl, Nat.le_of_ble_eq_true rfl⟩ (fun H locs hG hS => ?_)
    exact c_zretW dX1_unloads_79 S hr hk hC0 hG hS h
  unfold cm_X1_unloads at h
  refine lv_aload_n hx hb dX1_unloads_0 rfl (lv_at hl 2 rfl) ?_
  refine lv_astore (lv' := [(4, .ref x2), (0, .ref x0), (1, .int x1), (2, .ref x2), (3, .ref x3)]) hx hb dX1_unloads_1 hl (by decide) rfl (fun ls hl => ?_)
  refine lv_aload hx hb dX1_unloads_3 (lv_at hl 0 rfl) ?_
  obtain ⟨v5, e5, h⟩ := g_bd h
  refine wd_Machine_isCalm (rest := []) q2064 dX1_unloads_5 S hE hG hS hC0 hl.1 e5 rfl (Nat.le_of_ble_eq_true rfl) (by decide) (fun H locs hG hS => ?_)
  refine lv_if_ne (tgt := 20) hx hb dX1_unloads_10 (by decide) (fun c10 => ?_) (fun c10 => ?_)
  · have h := g_if c10 h
    refine lv_aload_n hx hb dX1_unloads_20 rfl (lv_at hl 3 rfl) ?_
    obtain ⟨u21, e21, h⟩ := g_bd h
    refine ck_X1_195 dX1_unloads_21 S hE hG e21 ?_
    refine lv_astore (lv' := [(5, .ref x2), (4, .ref x2), (0, .ref x0), (1, .int x1), (2, .ref x2), (3, .ref x3)]) hx hb dX1_unloads_24 hl (by decide) rfl (fun ls hl => ?_)
    refine lv_aload hx hb dX1_unloads_26 (lv_at hl 0 rfl) ?_
    obtain ⟨v28, e28, h⟩ := g_bd h
    refine wd_Seats_bench (rest := []) q1827 dX1_unloads_28 S hE hG hS hC0 hl.1 e28 rfl (Nat.le_of_ble_eq_true rfl) (by decide) (fun H locs hG hS => ?_)
    obtain ⟨v33, e33, h⟩ := g_bd h
    refine cg_X1_230 dX1_unloads_33 S hE hG e33 ?_
    refine lv_istore (lv' := [(6, .int v33), (5, .ref x2), (4, .ref x2), (0, .ref x0), (1, .int x1), (2, .ref x2), (3, .ref x3)]) hx hb dX1_unloads_36 hl (by decide) rfl (fun ls hl => ?_)
    refine lv_aload hx hb dX1_unloads_38 (lv_at hl 1 rfl) ?_
    obtain ⟨v40, e40, h⟩ := g_bd h
    refine wd_Seats_bench (rest := []) q1827 dX1_unloads_40 S hE hG hS hC0 hl.1 e40 rfl (Nat.le_of_ble_eq_true rfl) (by decide) (fun H locs hG hS => ?_)
    refine lv_iconst (v := 0) hx hb dX1_unloads_45 (by decide) ?_
    obtain ⟨G46, e46, h⟩ := g_bd h
    refine cp_X1_230 dX1_unloads_46 S hE hG hS hC0 e46 (fun H locs hG hS => ?_)
    refine lv_aload_n hx hb dX1_unloads_49 rfl (lv_at hl 3 rfl) ?_
    refine lv_dup hx hb dX1_unloads_50 rfl ?_
    obtain ⟨v51, e51, h⟩ := g_bd h
    refine cg_X1_139 dX1_unloads_51 S hE hG e51 ?_
    refine lv_iload hx hb dX1_unloads_54 (lv_at hl 0 rfl) ?_
    refine lv_iadd hx hb dX1_unloads_56 ?_
    obtain ⟨G57, e57, h⟩ := g_bd h
    refine cp_X1_139 dX1_unloads_57 S hE hG hS hC0 e57 (fun H locs hG hS => ?_)
    refine lv_iload hx hb dX1_unloads_60 (lv_at hl 0 rfl) ?_
    refine lv_if_le (tgt := 73) hx hb dX1_unloads_62 (by decide) (fun c62 => ?_) (fun c62 => ?_)
    · have h := g_it c62 h
      exact J73 x0 x1 x3 G57 _ _ _ h hG hS (lv_sub hl [3, 4, 6] rfl)
    · have h := g_if c62 h
      refine lv_aload_n hx hb dX1_unloads_65 rfl (lv_at hl 3 rfl) ?_
      refine lv_iconst (v := 5) hx hb dX1_unloads_66 (by decide) ?_
      refine lv_iload_n hx hb dX1_unloads_67 rfl (lv_at hl 4 rfl) ?_
      refine lv_iload hx hb dX1_unloads_68 (lv_at hl 0 rfl) ?_
      obtain ⟨u70, t70, h⟩ := g_bd h
      obtain ⟨G70, e70, h⟩ := g_bd h
      refine c_cV (y := yX1_tell) (rest := []) dX1_unloads_70 q1992 q1994 qs43 q119 q1995 hc_X1_tell rfl S hE hG hS hC0 hl.1 rfl (c_recv hE hG (ci := 8) rfl (by decide) (c_castM t70)) (wm_X1_tell E l x0 5 x1 v33 G57 _ e70) rfl (Nat.le_of_ble_eq_true rfl) ⟨Nat.le_of_ble_eq_true rfl, Nat.le_of_ble_eq_true rfl⟩ (fun H locs hG hS => ?_)
      exact J73 x0 x1 x3 G70 _ _ _ h hG hS (lv_sub hl [3, 4, 6] rfl)
  · have h := g_it c10 h
    refine lv_aload_n hx hb dX1_unloads_13 rfl (lv_at hl 1 rfl) ?_
    refine lv_iconst (v := 1) hx hb dX1_unloads_14 (by decide) ?_
    obtain ⟨G15, e15, h⟩ := g_bd h
    refine cp_X1_327 dX1_unloads_15 S hE hG hS hC0 e15 (fun H locs hG hS => ?_)
    refine lv_iconst (v := 1) hx hb dX1_unloads_18 (by decide) ?_
    exact c_zretW dX1_unloads_19 S hr hk hC0 hG hS h
theorem hc_X31_holds : cHd yX31_holds 2 := by decide +kernel
set_option maxHeartbeats 4000000 in
set_option maxRecDepth 100000 in
theorem wm_X31_holds (E : gX) (l : Launch) (x0 : Nat) (x1 : Nat) (x2 : Nat) (Gz : GH) (r : Int32) (h : cm_X31_holds x0 x1 x2 Gz = some r) : gMetC E l yX31_holds cX31_holds 3 (some Jvm.ClassFile.FieldType.boolean) 2 [.ref x0, .ref x1, .ref x2] Gz Gz (some (.int r)) := by
  refine gMetC.of (own := RX31) (by decide +kernel) (Nat.le_of_ble_eq_true rfl) rfl ?_
  intro p e s m args below meth c S hr hk hnm hE hC0 hG hS ls hl
  have hl : lv_has ls 3 [(0, .ref x0), (1, .ref x1), (2, .ref x2)] := hl
  have hx := S.1
  have hb := S.2.1
  unfold cm_X31_holds at h
  refine lv_aload_n hx hb dX31_holds_0 rfl (lv_at hl 1 rfl) ?_
  obtain ⟨v1, e1, h⟩ := g_bd h
  refine cg_X31_17 dX31_holds_1 S hE hG e1 ?_
  refine lv_aload_n hx hb dX31_holds_4 rfl (lv_at hl 0 rfl) ?_
  obtain ⟨v5, e5, h⟩ := g_bd h
  refine cg_X31_7 dX31_holds_5 S hE hG e5 ?_
  obtain ⟨v8, e8, h⟩ := g_bd h
  refine c_aldB dX31_holds_8 S hE hG e8 ?_
  refine lv_aload_n hx hb dX31_holds_9 rfl (lv_at hl 0 rfl) ?_
  obtain ⟨v10, e10, h⟩ := g_bd h
  refine cg_X31_13 dX31_holds_10 S hE hG e10 ?_
  refine lv_icmp_eq (tgt := 20) hx hb dX31_holds_13 (by decide) (fun c13 => ?_) (fun c13 => ?_)
  · have h := g_it c13 h
    refine lv_iconst (v := 0) hx hb dX31_holds_20 (by decide) ?_
    exact c_zretR dX31_holds_21 S hr hk hC0 hG hS h
  · have h := g_if c13 h
    refine lv_iconst (v := 1) hx hb dX31_holds_16 (by decide) ?_
    refine lv_goto (tgt := 21) hx hb dX31_holds_17 (by decide) ?_
    exact c_zretR dX31_holds_21 S hr hk hC0 hG hS h
theorem hc_X32_holds : cHd yX32_holds 2 := by decide +kernel
set_option maxHeartbeats 4000000 in
set_option maxRecDepth 100000 in
theorem wm_X32_holds (E : gX) (l : Launch) (x0 : Nat) (x1 : Nat) (x2 : Nat) (Gz G' : GH) (r : Int32) (h : cm_X32_holds x0 x1 x2 Gz = some (r, G')) : gMetC E l yX32_holds cX32_holds 6 (some Jvm.ClassFile.FieldType.boolean) 66 [.ref x0, .ref x1, .ref x2] Gz G' (some (.int r)) := by
  refine gMetC.of (own := RX32) (by decide +kernel) (Nat.le_of_ble_eq_true rfl) rfl ?_
  intro p e s m args below meth c S hr hk hnm hE hC0 hG hS ls hl
  have hl : lv_has ls 6 [(0, .ref x0), (1, .ref x1), (2, .ref x2)] := hl
  have hx := S.1
  have hb := S.2.1
  have J159 : ∀ (x0 : Nat) (s0 : Int32) (G : GH) (H : Heap) (locs : List Loc) (ls : Array Slot), cm_X32_holds_J159 x0 s0 G = some (r, G') → gC E G H → va_S (gx_C E) s.heap H locs → lv_has ls 6 [(0, .ref x0)] → WC E p l e (gRm 66 (cBx Gz) (cBs Gz)) s m args below meth c H locs (MQ below (gQ (some (.int r)) (gC E G') (gx_C E)) args s (cBx Gz) (cBs Gz) (gx_C E)) (F0 m 159 ls [.int s0]) := by
    intro x0 s0 G H locs ls h hG hS hl
    unfold cm_X32_holds_J159 at h
    refine lv_istore (lv' := [(5, .int s0), (0, .ref x0)]) hx hb dX32_holds_159 hl (by decide) rfl (fun ls hl => ?_)
    refine lv_iload hx hb dX32_holds_161 (lv_at hl 0 rfl) ?_
    refine lv_aload_n hx hb dX32_holds_163 rfl (lv_at hl 1 rfl) ?_
    obtain ⟨v164, e164, h⟩ := g_bd h
    refine cg_X32_22 dX32_holds_164 S hE hG e164 ?_
    refine lv_icmp_eq (tgt := 174) hx hb dX32_holds_167 (by decide) (fun c167 => ?_) (fun c167 => ?_)
    · have h := g_it c167 h
      refine lv_iconst (v := 0) hx hb dX32_holds_174 (by decide) ?_
      exact c_zretW dX32_holds_175 S hr hk hC0 hG hS h
    · have h := g_if c167 h
      refine lv_iconst (v := 1) hx hb dX32_holds_170 (by decide) ?_
      refine lv_goto (tgt := 175) hx hb dX32_holds_171 (by decide) ?_
      exact c_zretW dX32_holds_175 S hr hk hC0 hG hS h
  unfold cm_X32_holds at h
  refine lv_aload_n hx hb dX32_holds_0 rfl (lv_at hl 0 rfl) ?_
  obtain ⟨v1, e1, h⟩ := g_bd h
  refine cg_X32_15 dX32_holds_1 S hE hG e1 ?_
  refine lv_aload_n hx hb dX32_holds_4 rfl (lv_at hl 1 rfl) ?_
  refine lv_aload_n hx hb dX32_holds_5 rfl (lv_at hl 2 rfl) ?_
  obtain ⟨qx6, e6, h⟩ := g_bd h
  refine wd_Expr_of 60 (wm_S60 E l 60) (rest := []) q2198 dX32_holds_6 S hE hG hS hC0 hl.1 e6 rfl (Nat.le_of_ble_eq_true rfl) (by decide) (fun H locs hG hS => ?_)
  refine lv_istore_n (lv' := [(3, .int qx6.1), (0, .ref x0), (1, .ref x1), (2, .ref x2)]) hx hb dX32_holds_9 rfl hl (by decide) rfl (fun ls hl => ?_)
  refine lv_aload_n hx hb dX32_holds_10 rfl (lv_at hl 2 rfl) ?_
  obtain ⟨v11, e11, h⟩ := g_bd h
  refine cg_X32_32 dX32_holds_11 S hE hG e11 ?_
  refine lv_if_eq (tgt := 19) hx hb dX32_holds_14 (by decide) (fun c14 => ?_) (fun c14 => ?_)
  · have h := g_it c14 h
    refine lv_aload_n hx hb dX32_holds_19 rfl (lv_at hl 1 rfl) ?_
    obtain ⟨v20, e20, h⟩ := g_bd h
    refine cg_X32_19 dX32_holds_20 S hE hG e20 ?_
    refine lv_aload_n hx hb dX32_holds_23 rfl (lv_at hl 2 rfl) ?_
    refine lv_aload_n hx hb dX32_holds_24 rfl (lv_at hl 3 rfl) ?_
    obtain ⟨qx25, e25, h⟩ := g_bd h
    refine wd_Expr_of 60 (wm_S60 E l 60) (rest := []) q2198 dX32_holds_25 S hE hG hS hC0 hl.1 e25 rfl (Nat.le_of_ble_eq_true rfl) (by decide) (fun H locs hG hS => ?_)
    refine lv_istore (lv' := [(4, .int qx25.1), (3, .int qx6.1), (0, .ref x0), (1, .ref x1), (2, .ref x2)]) hx hb dX32_holds_28 hl (by decide) rfl (fun ls hl => ?_)
    refine lv_aload_n hx hb dX32_holds_30 rfl (lv_at hl 2 rfl) ?_
    obtain ⟨v31, e31, h⟩ := g_bd h
    refine cg_X32_9 dX32_holds_31 S hE hG e31 ?_
    refine lv_bipush (v := 60) hx hb dX32_holds_34 (by decide) ?_
    refine lv_icmp_ne (tgt := 53) hx hb dX32_holds_36 (by decide) (fun c36 => ?_) (fun c36 => ?_)
    · have h := g_if c36 h
      refine lv_aload_n hx hb dX32_holds_53 rfl (lv_at hl 2 rfl) ?_
      obtain ⟨v54, e54, h⟩ := g_bd h
      refine cg_X32_9 dX32_holds_54 S hE hG e54 ?_
      refine lv_bipush (v := 62) hx hb dX32_holds_57 (by decide) ?_
      refine lv_icmp_ne (tgt := 76) hx hb dX32_holds_59 (by decide) (fun c59 => ?_) (fun c59 => ?_)
      · have h := g_if c59 h
        refine lv_aload_n hx hb dX32_holds_76 rfl (lv_at hl 2 rfl) ?_
        obtain ⟨v77, e77, h⟩ := g_bd h
        refine cg_X32_9 dX32_holds_77 S hE hG e77 ?_
        refine lv_sipush (v := 256) hx hb dX32_holds_80 (by decide) ?_
        refine lv_icmp_ne (tgt := 100) hx hb dX32_holds_83 (by decide) (fun c83 => ?_) (fun c83 => ?_)
        · have h := g_if c83 h
          refine lv_aload_n hx hb dX32_holds_100 rfl (lv_at hl 2 rfl) ?_
          obtain ⟨v101, e101, h⟩ := g_bd h
          refine cg_X32_9 dX32_holds_101 S hE hG e101 ?_
          refine lv_sipush (v := 257) hx hb dX32_holds_104 (by decide) ?_
          refine lv_icmp_ne (tgt := 124) hx hb dX32_holds_107 (by decide) (fun c107 => ?_) (fun c107 => ?_)
          · have h := g_if c107 h
            refine lv_aload_n hx hb dX32_holds_124 rfl (lv_at hl 2 rfl) ?_
            obtain ⟨v125, e125, h⟩ := g_bd h
            refine cg_X32_9 dX32_holds_125 S hE hG e125 ?_
            refine lv_sipush (v := 258) hx hb dX32_holds_128 (by decide) ?_
            refine lv_icmp_ne (tgt := 148) hx hb dX32_holds_131 (by decide) (fun c131 => ?_) (fun c131 => ?_)
            · have h := g_if c131 h
              refine lv_iload_n hx hb dX32_holds_148 rfl (lv_at hl 1 rfl) ?_
              refine lv_iload hx hb dX32_holds_149 (lv_at hl 0 rfl) ?_
              refine lv_icmp_eq (tgt := 158) hx hb dX32_holds_151 (by decide) (fun c151 => ?_) (fun c151 => ?_)
              · have h := g_it c151 h
                refine lv_iconst (v := 0) hx hb dX32_holds_158 (by decide) ?_
                exact J159 x0 0 qx25.2 _ _ _ h hG hS (lv_sub hl [2] rfl)
              · have h := g_if c151 h
                refine lv_iconst (v := 1) hx hb dX32_holds_154 (by decide) ?_
                refine lv_goto (tgt := 159) hx hb dX32_holds_155 (by decide) ?_
                exact J159 x0 1 qx25.2 _ _ _ h hG hS (lv_sub hl [2] rfl)
            · have h := g_it c131 h
              refine lv_iload_n hx hb dX32_holds_134 rfl (lv_at hl 1 rfl) ?_
              refine lv_iload hx hb dX32_holds_135 (lv_at hl 0 rfl) ?_
              refine lv_icmp_ne (tgt := 144) hx hb dX32_holds_137 (by decide) (fun c137 => ?_) (fun c137 => ?_)
              · have h := g_if c137 h
                refine lv_iconst (v := 0) hx hb dX32_holds_144 (by decide) ?_
                refine lv_goto (tgt := 159) hx hb dX32_holds_145 (by decide) ?_
                exact J159 x0 0 qx25.2 _ _ _ h hG hS (lv_sub hl [2] rfl)
              · have h := g_it c137 h
                refine lv_iconst (v := 1) hx hb dX32_holds_140 (by decide) ?_
                refine lv_goto (tgt := 159) hx hb dX32_holds_141 (by decide) ?_
                exact J159 x0 1 qx25.2 _ _ _ h hG hS (lv_sub hl [2] rfl)
          · have h := g_it c107 h
            refine lv_iload_n hx hb dX32_holds_110 rfl (lv_at hl 1 rfl) ?_
            refine lv_iload hx hb dX32_holds_111 (lv_at hl 0 rfl) ?_
            refine lv_icmp_lt (tgt := 120) hx hb dX32_holds_113 (by decide) (fun c113 => ?_) (fun c113 => ?_)
            · have h := g_it c113 h
              refine lv_iconst (v := 0) hx hb dX32_holds_120 (by decide) ?_
              refine lv_goto (tgt := 159) hx hb dX32_holds_121 (by decide) ?_
              exact J159 x0 0 qx25.2 _ _ _ h hG hS (lv_sub hl [2] rfl)
            · have h := g_if c113 h
              refine lv_iconst (v := 1) hx hb dX32_holds_116 (by decide) ?_
              refine lv_goto (tgt := 159) hx hb dX32_holds_117 (by decide) ?_
              exact J159 x0 1 qx25.2 _ _ _ h hG hS (lv_sub hl [2] rfl)
        · have h := g_it c83 h
          refine lv_iload_n hx hb dX32_holds_86 rfl (lv_at hl 1 rfl) ?_
          refine lv_iload hx hb dX32_holds_87 (lv_at hl 0 rfl) ?_
          refine lv_icmp_gt (tgt := 96) hx hb dX32_holds_89 (by decide) (fun c89 => ?_) (fun c89 => ?_)
          · have h := g_it c89 h
            refine lv_iconst (v := 0) hx hb dX32_holds_96 (by decide) ?_
            refine lv_goto (tgt := 159) hx hb dX32_holds_97 (by decide) ?_
            exact J159 x0 0 qx25.2 _ _ _ h hG hS (lv_sub hl [2] rfl)
          · have h := g_if c89 h
            refine lv_iconst (v := 1) hx hb dX32_holds_92 (by decide) ?_
            refine lv_goto (tgt := 159) hx hb dX32_holds_93 (by decide) ?_
            exact J159 x0 1 qx25.2 _ _ _ h hG hS (lv_sub hl [2] rfl)
      · have h := g_it c59 h
        refine lv_iload_n hx hb dX32_holds_62 rfl (lv_at hl 1 rfl) ?_
        refine lv_iload hx hb dX32_holds_63 (lv_at hl 0 rfl) ?_
        refine lv_icmp_le (tgt := 72) hx hb dX32_holds_65 (by decide) (fun c65 => ?_) (fun c65 => ?_)
        · have h := g_it c65 h
          refine lv_iconst (v := 0) hx hb dX32_holds_72 (by decide) ?_
          refine lv_goto (tgt := 159) hx hb dX32_holds_73 (by decide) ?_
          exact J159 x0 0 qx25.2 _ _ _ h hG hS (lv_sub hl [2] rfl)
        · have h := g_if c65 h
          refine lv_iconst (v := 1) hx hb dX32_holds_68 (by decide) ?_
          refine lv_goto (tgt := 159) hx hb dX32_holds_69 (by decide) ?_
          exact J159 x0 1 qx25.2 _ _ _ h hG hS (lv_sub hl [2] rfl)
    · have h := g_it c36 h
      refine lv_iload_n hx hb dX32_holds_39 rfl (lv_at hl 1 rfl) ?_
      refine lv_iload hx hb dX32_holds_40 (lv_at hl 0 rfl) ?_
      refine lv_icmp_ge (tgt := 49) hx hb dX32_holds_42 (by decide) (fun c42 => ?_) (fun c42 => ?_)
      · have h := g_it c42 h
        refine lv_iconst (v := 0) hx hb dX32_holds_49 (by decide) ?_
        refine lv_goto (tgt := 159) hx hb dX32_holds_50 (by decide) ?_
        exact J159 x0 0 qx25.2 _ _ _ h hG hS (lv_sub hl [2] rfl)
      · have h := g_if c42 h
        refine lv_iconst (v := 1) hx hb dX32_holds_45 (by decide) ?_
        refine lv_goto (tgt := 159) hx hb dX32_holds_46 (by decide) ?_
        exact J159 x0 1 qx25.2 _ _ _ h hG hS (lv_sub hl [2] rfl)
  · have h := g_if c14 h
    refine lv_iconst (v := 0) hx hb dX32_holds_17 (by decide) ?_
    exact c_zretW dX32_holds_18 S hr hk hC0 hG hS h
section DSP
variable {p : Program} {l : Launch} {e : Env} {R : Room} {s : State} {m : MethodId} {args : Array Value} {below : List Frame} {meth : Method} {c : Code} {H : Heap} {locs : List Loc} {cells slots : Nat} {Q : State → Prop}
variable {cc : ByteArray} {pc nL lev0 : Nat} {ls : Array Slot} {rest st : List Value} {E : gX} {G Gz G1 : GH}
theorem hx_Cond_holds : cHd ⟨"FairHouse$Cond", "holds", "(LFairHouse;LFairHouse$Ride;)Z"⟩ 2 := by decide +kernel
set_option maxHeartbeats 4000000 in
set_option maxRecDepth 100000 in
theorem wd_Cond_holds (d : Nat) (ihd : (∀ (x0 : Nat) (x1 : Nat) (x2 : Nat) (Gz G' : GH) (r : Int32), (cm_S80 d) x0 x1 x2 Gz = some (r, G') → gMetC E l yX33_holds cX33_holds 5 (some Jvm.ClassFile.FieldType.boolean) (67 + d) [.ref x0, .ref x1, .ref x2] Gz G' (some (.int r)))) {own : String} {a idx : Nat} {y0 : Nat} {y1 : Nat} {r : Int32} (w1 : Cond.methodLink own idx ⟨"FairHouse$Cond", "holds", "(LFairHouse;LFairHouse$Ride;)Z"⟩ ∈ lw_all) (hdg : decode cc pc = .ok (.invokevirtual idx, 3)) (S : CallFix p m c cc nL s args lw_all own) (hE : gEnv E s) (hG : gC E G H) (hS : va_S (gx_C E) s.heap H locs) (hC0 : gC E Gz s.heap) (hls : ls.size = nL) (h : cd_Cond_holds (cm_S80 d) a y0 y1 G = some (r, G1)) (hst : st = [.ref y1, .ref y0] ++ .ref a :: rest) (hW : (rest.map fun v => v.category).sum ≤ 8) (hroom : (67 + d) + 1 ≤ lev0)
    (kk : ∀ (H1 : Heap) (locs1 : List Loc), gC E G1 H1 → va_S (gx_C E) s.heap H1 locs1 → WC E p l e (gRm lev0 (cBx Gz) (cBs Gz)) s m args below meth c H1 locs1 Q (F0 m (pc + 3) ls (.int r :: rest))) : WC E p l e (gRm lev0 (cBx Gz) (cBs Gz)) s m args below meth c H locs Q (F0 m pc ls st) := by
  unfold cd_Cond_holds at h
  by_cases c36 : cT G a = 36
  · have h := g_it c36 h
    obtain ⟨r9, h9, e9⟩ := Option.map_eq_some_iff.mp h
    cases e9
    exact c_cA (y := yX31_holds) (x := ⟨"FairHouse$Cond", "holds", "(LFairHouse;LFairHouse$Ride;)Z"⟩) (owner := "FairHouse$Cond") (As := [.ref y0, .ref y1]) hdg (lw_app (by intro w hw; simp only [List.mem_cons, List.not_mem_nil, or_false] at hw; rcases hw with e | e | e | e | e <;> rw [e] <;> first | exact w1 | exact q2194 | exact q2208 | exact q2206 | exact q173) (lw_meth q2207)) (lw_nw q2193 rfl) hx_Cond_holds S hE hG hS hC0 hls rfl (c_recv hE hG (ci := 35) rfl (by decide) c36) (wm_X31_holds E l a y0 y1 G _ h9) hst hW ⟨by omega, by omega⟩ (fun H1 locs1 h1 h2 => kk H1 locs1 h1 h2)
  have h := g_if c36 h
  by_cases c37 : cT G a = 37
  · have h := g_it c37 h
    exact c_cA (y := yX32_holds) (x := ⟨"FairHouse$Cond", "holds", "(LFairHouse;LFairHouse$Ride;)Z"⟩) (owner := "FairHouse$Cond") (As := [.ref y0, .ref y1]) hdg (lw_app (by intro w hw; simp only [List.mem_cons, List.not_mem_nil, or_false] at hw; rcases hw with e | e | e | e | e <;> rw [e] <;> first | exact w1 | exact q2194 | exact q2195 | exact q2196 | exact q174) (lw_meth q2197)) (lw_nw q2193 rfl) hx_Cond_holds S hE hG hS hC0 hls rfl (c_recv hE hG (ci := 36) rfl (by decide) c37) (wm_X32_holds E l a y0 y1 G G1 _ h) hst hW ⟨by omega, by omega⟩ (fun H1 locs1 h1 h2 => kk H1 locs1 h1 h2)
  have h := g_if c37 h
  by_cases c38 : cT G a = 38
  · have h := g_it c38 h
    exact c_cA (y := yX33_holds) (x := ⟨"FairHouse$Cond", "holds", "(LFairHouse;LFairHouse$Ride;)Z"⟩) (owner := "FairHouse$Cond") (As := [.ref y0, .ref y1]) hdg (lw_app (by intro w hw; simp only [List.mem_cons, List.not_mem_nil, or_false] at hw; rcases hw with e | e | e | e | e <;> rw [e] <;> first | exact w1 | exact q2194 | exact q2199 | exact q2200 | exact q175) (lw_meth q2201)) (lw_nw q2193 rfl) hx_Cond_holds S hE hG hS hC0 hls rfl (c_recv hE hG (ci := 37) rfl (by decide) c38) (ihd a y0 y1 G G1 _ h) hst hW ⟨by omega, by omega⟩ (fun H1 locs1 h1 h2 => kk H1 locs1 h1 h2)
  have h := g_if c38 h
  cases h
end DSP
theorem hc_X33_holds : cHd yX33_holds 2 := by decide +kernel
set_option maxHeartbeats 4000000 in
set_option maxRecDepth 100000 in
theorem wm_S80 (E : gX) (l : Launch) : ∀ d : Nat, (∀ (x0 : Nat) (x1 : Nat) (x2 : Nat) (Gz G' : GH) (r : Int32), (cm_S80 d) x0 x1 x2 Gz = some (r, G') → gMetC E l yX33_holds cX33_holds 5 (some Jvm.ClassFile.FieldType.boolean) (67 + d) [.ref x0, .ref x1, .ref x2] Gz G' (some (.int r))) := by
  intro d
  induction d with
  | zero =>
    exact fun _ _ _ _ _ _ h => (nomatch (show (none : Option (Int32 × GH)) = some _ from h))
  | succ d ihd =>
    · intro x0 x1 x2 Gz G' r h
      refine gMetC.of (own := RX33) (by decide +kernel) (Nat.le_of_ble_eq_true rfl) rfl ?_
      intro p e s m args below meth c S hr hk hnm hE hC0 hG hS ls hl
      have hl : lv_has ls 5 [(0, .ref x0), (1, .ref x1), (2, .ref x2)] := hl
      have hx := S.1
      have hb := S.2.1
      have L2 : ∀ (n : Nat) (x0 : Nat) (x1 : Nat) (x2 : Nat) (x3 : Int32) (G : GH) (H : Heap) (locs : List Loc) (ls : Array Slot), cm_X33_holds_L2 (cm_S80 d) n x0 x1 x2 x3 G = some (r, G') → gC E G H → va_S (gx_C E) s.heap H locs → lv_has ls 5 [(0, .ref x0), (1, .ref x1), (2, .ref x2), (3, .int x3)] → WC E p l e (gRm (67 + (d + 1)) (cBx Gz) (cBs Gz)) s m args below meth c H locs (MQ below (gQ (some (.int r)) (gC E G') (gx_C E)) args s (cBx Gz) (cBs Gz) (gx_C E)) (F0 m 2 ls []) := by
        intro n2
        induction n2 with
        | zero =>
          intro x0 x1 x2 x3 G H locs ls h
          cases h
        | succ n2 ih2 =>
          intro x0 x1 x2 x3 G H locs ls h hG hS hl
          have h : cm_X33_holds_B2 (cm_S80 d) (cm_X33_holds_L2 (cm_S80 d) n2) x0 x1 x2 x3 G = some (r, G') := h
          unfold cm_X33_holds_B2 at h
          refine lv_iload_n hx hb dX33_holds_2 rfl (lv_at hl 3 rfl) ?_
          refine lv_aload_n hx hb dX33_holds_3 rfl (lv_at hl 0 rfl) ?_
          obtain ⟨v4, e4, h⟩ := g_bd h
          refine cg_X33_12 dX33_holds_4 S hE hG e4 ?_
          obtain ⟨u7, t7, h⟩ := g_bd h
          obtain ⟨v7, e7, h⟩ := g_bd h
          refine c_cV (y := yJ6_size) (rest := [.int x3]) dX33_holds_7 q2202 q882 q883 q128 q884 hc_J6_size rfl S hE hG hS hC0 hl.1 rfl (c_recv hE hG (ci := 2) rfl (by decide) (c_castM t7)) (wm_J6_size E l v4 G _ e7) rfl (Nat.le_of_ble_eq_true rfl) ⟨by omega, by omega⟩ (fun H locs hG hS => ?_)
          refine lv_icmp_ge (tgt := 58) hx hb dX33_holds_10 (by decide) (fun c10 => ?_) (fun c10 => ?_)
          · have h := g_it c10 h
            refine lv_aload_n hx hb dX33_holds_58 rfl (lv_at hl 0 rfl) ?_
            obtain ⟨v59, e59, h⟩ := g_bd h
            refine cg_X33_18 dX33_holds_59 S hE hG e59 ?_
            exact c_zretW dX33_holds_62 S hr hk hC0 hG hS h
          · have h := g_if c10 h
            refine lv_aload_n hx hb dX33_holds_13 rfl (lv_at hl 0 rfl) ?_
            obtain ⟨v14, e14, h⟩ := g_bd h
            refine cg_X33_12 dX33_holds_14 S hE hG e14 ?_
            refine lv_iload_n hx hb dX33_holds_17 rfl (lv_at hl 3 rfl) ?_
            obtain ⟨u18, t18, h⟩ := g_bd h
            obtain ⟨v18, e18, h⟩ := g_bd h
            refine c_cV (y := yJ6_get) (rest := []) dX33_holds_18 q2203 q886 q887 q128 q888 hc_J6_get rfl S hE hG hS hC0 hl.1 rfl (c_recv hE hG (ci := 2) rfl (by decide) (c_castM t18)) (wm_J6_get E l v14 x3 G _ e18) rfl (Nat.le_of_ble_eq_true rfl) ⟨by omega, by omega⟩ (fun H locs hG hS => ?_)
            obtain ⟨b21, eb21, h⟩ := g_bd h
            have rb21 : va_rf v18 = .ref b21 := by rw [eb21]; rfl
            (try rw [rb21] at hl)
            (try rw [rb21])
            obtain ⟨u21, e21, h⟩ := g_bd h
            refine ck_X33_2 dX33_holds_21 S hE hG e21 ?_
            refine lv_aload_n hx hb dX33_holds_24 rfl (lv_at hl 1 rfl) ?_
            refine lv_aload_n hx hb dX33_holds_25 rfl (lv_at hl 2 rfl) ?_
            obtain ⟨qx26, e26, h⟩ := g_bd h
            refine wd_Cond_holds d ihd (rest := []) q2205 dX33_holds_26 S hE hG hS hC0 hl.1 e26 rfl (Nat.le_of_ble_eq_true rfl) (by omega) (fun H locs hG hS => ?_)
            refine lv_istore (lv' := [(4, .int qx26.1), (0, .ref x0), (1, .ref x1), (2, .ref x2), (3, .int x3)]) hx hb dX33_holds_29 hl (by decide) rfl (fun ls hl => ?_)
            refine lv_aload_n hx hb dX33_holds_31 rfl (lv_at hl 2 rfl) ?_
            obtain ⟨v32, e32, h⟩ := g_bd h
            refine cg_X33_34 dX33_holds_32 S hE hG e32 ?_
            refine lv_if_eq (tgt := 40) hx hb dX33_holds_35 (by decide) (fun c35 => ?_) (fun c35 => ?_)
            · have h := g_it c35 h
              refine lv_iload hx hb dX33_holds_40 (lv_at hl 0 rfl) ?_
              refine lv_aload_n hx hb dX33_holds_42 rfl (lv_at hl 1 rfl) ?_
              obtain ⟨v43, e43, h⟩ := g_bd h
              refine cg_X33_18 dX33_holds_43 S hE hG e43 ?_
              refine lv_icmp_eq (tgt := 52) hx hb dX33_holds_46 (by decide) (fun c46 => ?_) (fun c46 => ?_)
              · have h := g_it c46 h
                refine lv_iinc (k := 4) (v := (x3 + 1)) (lv' := [(3, .int (x3 + 1)), (4, .int qx26.1), (0, .ref x0), (1, .ref x1), (2, .ref x2)]) hx hb dX33_holds_52 hl rfl rfl (by decide) rfl (fun ls hl => ?_)
                refine lv_goto (tgt := 2) hx hb dX33_holds_55 (by decide) ?_
                exact ih2 x0 x1 x2 (x3 + 1) qx26.2 _ _ _ h hG hS (lv_sub hl [2, 3, 4, 0] rfl)
              · have h := g_if c46 h
                refine lv_iload hx hb dX33_holds_49 (lv_at hl 0 rfl) ?_
                exact c_zretW dX33_holds_51 S hr hk hC0 hG hS h
            · have h := g_if c35 h
              refine lv_iconst (v := 0) hx hb dX33_holds_38 (by decide) ?_
              exact c_zretW dX33_holds_39 S hr hk hC0 hG hS h
      have h : cm_X33_holds_B (cm_S80 d) x0 x1 x2 Gz = some (r, G') := h
      unfold cm_X33_holds_B at h
      refine lv_iconst (v := 0) hx hb dX33_holds_0 (by decide) ?_
      refine lv_istore_n (lv' := [(3, .int 0), (0, .ref x0), (1, .ref x1), (2, .ref x2)]) hx hb dX33_holds_1 rfl hl (by decide) rfl (fun ls hl => ?_)
      exact L2 gF x0 x1 x2 0 Gz _ _ _ h hG hS (lv_sub hl [1, 2, 3, 0] rfl)
theorem wm_X33_holds (E : gX) (l : Launch) (d : Nat) (x0 : Nat) (x1 : Nat) (x2 : Nat) (Gz G' : GH) (r : Int32) (h : cm_X33_holds d x0 x1 x2 Gz = some (r, G')) : gMetC E l yX33_holds cX33_holds 5 (some Jvm.ClassFile.FieldType.boolean) (67 + d) [.ref x0, .ref x1, .ref x2] Gz G' (some (.int r)) := (wm_S80 E l d) x0 x1 x2 Gz G' r h
theorem hc_X8_enter : cHd yX8_enter 3 := by decide +kernel
set_option maxHeartbeats 4000000 in
set_option maxRecDepth 100000 in
theorem wm_X8_enter (E : gX) (l : Launch) (x0 : Nat) (x1 : Int32) (x2 : Int32) (x3 : Int32) (Gz G' : GH) (h : cm_X8_enter x0 x1 x2 x3 Gz = some G') : gMetC E l yX8_enter cX8_enter 4 none 2 [.ref x0, .int x1, .int x2, .int x3] Gz G' none := by
  refine gMetC.of (own := RX8) (by decide +kernel) (Nat.le_of_ble_eq_true rfl) rfl ?_
  intro p e s m args below meth c S hr hk hnm hE hC0 hG hS ls hl
  have hl : lv_has ls 4 [(0, .ref x0), (1, .int x1), (2, .int x2), (3, .int x3)] := hl
  have hx := S.1
  have hb := S.2.1
  unfold cm_X8_enter at h
  refine lv_aload_n hx hb dX8_enter_0 rfl (lv_at hl 0 rfl) ?_
  obtain ⟨v1, e1, h⟩ := g_bd h
  refine cg_X8_31 dX8_enter_1 S hE hG e1 ?_
  refine lv_aload_n hx hb dX8_enter_4 rfl (lv_at hl 0 rfl) ?_
  obtain ⟨v5, e5, h⟩ := g_bd h
  refine cg_X8_53 dX8_enter_5 S hE hG e5 ?_
  refine lv_iload_n hx hb dX8_enter_8 rfl (lv_at hl 1 rfl) ?_
  obtain ⟨G9, e9, h⟩ := g_bd h
  refine c_astB dX8_enter_9 S hE hG hS hC0 e9 (fun H locs hG hS => ?_)
  refine lv_aload_n hx hb dX8_enter_10 rfl (lv_at hl 0 rfl) ?_
  obtain ⟨v11, e11, h⟩ := g_bd h
  refine cg_X8_25 dX8_enter_11 S hE hG e11 ?_
  refine lv_aload_n hx hb dX8_enter_14 rfl (lv_at hl 0 rfl) ?_
  obtain ⟨v15, e15, h⟩ := g_bd h
  refine cg_X8_53 dX8_enter_15 S hE hG e15 ?_
  refine lv_iload_n hx hb dX8_enter_18 rfl (lv_at hl 2 rfl) ?_
  obtain ⟨G19, e19, h⟩ := g_bd h
  refine c_astI dX8_enter_19 S hE hG hS hC0 e19 (fun H locs hG hS => ?_)
  refine lv_aload_n hx hb dX8_enter_20 rfl (lv_at hl 0 rfl) ?_
  obtain ⟨v21, e21, h⟩ := g_bd h
  refine cg_X8_28 dX8_enter_21 S hE hG e21 ?_
  refine lv_aload_n hx hb dX8_enter_24 rfl (lv_at hl 0 rfl) ?_
  obtain ⟨v25, e25, h⟩ := g_bd h
  refine cg_X8_53 dX8_enter_25 S hE hG e25 ?_
  refine lv_iload_n hx hb dX8_enter_28 rfl (lv_at hl 3 rfl) ?_
  obtain ⟨G29, e29, h⟩ := g_bd h
  refine c_astI dX8_enter_29 S hE hG hS hC0 e29 (fun H locs hG hS => ?_)
  refine lv_aload_n hx hb dX8_enter_30 rfl (lv_at hl 0 rfl) ?_
  refine lv_dup hx hb dX8_enter_31 rfl ?_
  obtain ⟨v32, e32, h⟩ := g_bd h
  refine cg_X8_53 dX8_enter_32 S hE hG e32 ?_
  refine lv_iconst (v := 1) hx hb dX8_enter_35 (by decide) ?_
  refine lv_iadd hx hb dX8_enter_36 ?_
  obtain ⟨G37, e37, h⟩ := g_bd h
  refine cp_X8_53 dX8_enter_37 S hE hG hS hC0 e37 (fun H locs hG hS => ?_)
  exact c_vretW dX8_enter_40 S hr hk hC0 hG hS h
theorem hc_X1_enter : cHd yX1_enter 4 := by decide +kernel
set_option maxHeartbeats 4000000 in
set_option maxRecDepth 100000 in
theorem wm_X1_enter (E : gX) (l : Launch) (x0 : Nat) (x1 : Int32) (x2 : Int32) (x3 : Int32) (Gz G' : GH) (h : cm_X1_enter x0 x1 x2 x3 Gz = some G') : gMetC E l yX1_enter cX1_enter 4 none 3 [.ref x0, .int x1, .int x2, .int x3] Gz G' none := by
  refine gMetC.of (own := RX1) (by decide +kernel) (Nat.le_of_ble_eq_true rfl) rfl ?_
  intro p e s m args below meth c S hr hk hnm hE hC0 hG hS ls hl
  have hl : lv_has ls 4 [(0, .ref x0), (1, .int x1), (2, .int x2), (3, .int x3)] := hl
  have hx := S.1
  have hb := S.2.1
  unfold cm_X1_enter at h
  refine lv_aload_n hx hb dX1_enter_0 rfl (lv_at hl 0 rfl) ?_
  refine lv_iload_n hx hb dX1_enter_1 rfl (lv_at hl 1 rfl) ?_
  refine lv_iload_n hx hb dX1_enter_2 rfl (lv_at hl 2 rfl) ?_
  refine lv_iload_n hx hb dX1_enter_3 rfl (lv_at hl 3 rfl) ?_
  obtain ⟨u4, t4, h⟩ := g_bd h
  obtain ⟨G4, e4, h⟩ := g_bd h
  refine c_cV (y := yX8_enter) (rest := []) dX1_enter_4 q2220 q2221 q2222 q150 q2223 hc_X8_enter rfl S hE hG hS hC0 hl.1 rfl (c_recv hE hG (ci := 14) rfl (by decide) (c_castM t4)) (wm_X8_enter E l x0 x1 x2 x3 Gz _ e4) rfl (Nat.le_of_ble_eq_true rfl) ⟨Nat.le_of_ble_eq_true rfl, Nat.le_of_ble_eq_true rfl⟩ (fun H locs hG hS => ?_)
  refine lv_aload_n hx hb dX1_enter_7 rfl (lv_at hl 0 rfl) ?_
  refine lv_dup hx hb dX1_enter_8 rfl ?_
  obtain ⟨v9, e9, h⟩ := g_bd h
  refine cg_X1_334 dX1_enter_9 S hE hG e9 ?_
  refine lv_iconst (v := 1) hx hb dX1_enter_12 (by decide) ?_
  refine lv_iadd hx hb dX1_enter_13 ?_
  obtain ⟨G14, e14, h⟩ := g_bd h
  refine cp_X1_334 dX1_enter_14 S hE hG hS hC0 e14 (fun H locs hG hS => ?_)
  exact c_vretW dX1_enter_17 S hr hk hC0 hG hS h
theorem hc_X8_leave : cHd yX8_leave 0 := by decide +kernel
set_option maxHeartbeats 4000000 in
set_option maxRecDepth 100000 in
theorem wm_X8_leave (E : gX) (l : Launch) (x0 : Nat) (Gz G' : GH) (h : cm_X8_leave x0 Gz = some G') : gMetC E l yX8_leave cX8_leave 1 none 2 [.ref x0] Gz G' none := by
  refine gMetC.of (own := RX8) (by decide +kernel) (Nat.le_of_ble_eq_true rfl) rfl ?_
  intro p e s m args below meth c S hr hk hnm hE hC0 hG hS ls hl
  have hl : lv_has ls 1 [(0, .ref x0)] := hl
  have hx := S.1
  have hb := S.2.1
  have L0 : ∀ (n : Nat) (x0 : Nat) (G : GH) (H : Heap) (locs : List Loc) (ls : Array Slot), cm_X8_leave_L0 n x0 G = some G' → gC E G H → va_S (gx_C E) s.heap H locs → lv_has ls 1 [(0, .ref x0)] → WC E p l e (gRm 2 (cBx Gz) (cBs Gz)) s m args below meth c H locs (MQ below (gQ none (gC E G') (gx_C E)) args s (cBx Gz) (cBs Gz) (gx_C E)) (F0 m 0 ls []) := by
    intro n0
    induction n0 with
    | zero =>
      intro x0 G H locs ls h
      cases h
    | succ n0 ih0 =>
      intro x0 G H locs ls h hG hS hl
      have h : cm_X8_leave_B0 (cm_X8_leave_L0 n0) x0 G = some G' := h
      unfold cm_X8_leave_B0 at h
      refine lv_aload_n hx hb dX8_leave_0 rfl (lv_at hl 0 rfl) ?_
      refine lv_dup hx hb dX8_leave_1 rfl ?_
      obtain ⟨v2, e2, h⟩ := g_bd h
      refine cg_X8_53 dX8_leave_2 S hE hG e2 ?_
      refine lv_iconst (v := 1) hx hb dX8_leave_5 (by decide) ?_
      refine lv_isub hx hb dX8_leave_6 ?_
      obtain ⟨G7, e7, h⟩ := g_bd h
      refine cp_X8_53 dX8_leave_7 S hE hG hS hC0 e7 (fun H locs hG hS => ?_)
      refine lv_aload_n hx hb dX8_leave_10 rfl (lv_at hl 0 rfl) ?_
      obtain ⟨v11, e11, h⟩ := g_bd h
      refine cg_X8_31 dX8_leave_11 S hE hG e11 ?_
      refine lv_aload_n hx hb dX8_leave_14 rfl (lv_at hl 0 rfl) ?_
      obtain ⟨v15, e15, h⟩ := g_bd h
      refine cg_X8_53 dX8_leave_15 S hE hG e15 ?_
      obtain ⟨v18, e18, h⟩ := g_bd h
      refine c_aldB dX8_leave_18 S hE hG e18 ?_
      refine lv_if_ne (tgt := 0) hx hb dX8_leave_19 (by decide) (fun c19 => ?_) (fun c19 => ?_)
      · have h := g_if c19 h
        exact ih0 x0 G7 _ _ _ h hG hS (lv_sub hl [0] rfl)
      · have h := g_it c19 h
        refine lv_aload_n hx hb dX8_leave_22 rfl (lv_at hl 0 rfl) ?_
        refine lv_aload_n hx hb dX8_leave_23 rfl (lv_at hl 0 rfl) ?_
        obtain ⟨v24, e24, h⟩ := g_bd h
        refine cg_X8_28 dX8_leave_24 S hE hG e24 ?_
        refine lv_aload_n hx hb dX8_leave_27 rfl (lv_at hl 0 rfl) ?_
        obtain ⟨v28, e28, h⟩ := g_bd h
        refine cg_X8_53 dX8_leave_28 S hE hG e28 ?_
        obtain ⟨v31, e31, h⟩ := g_bd h
        refine c_aldI dX8_leave_31 S hE hG e31 ?_
        obtain ⟨G32, e32, h⟩ := g_bd h
        refine cp_X8_43 dX8_leave_32 S hE hG hS hC0 e32 (fun H locs hG hS => ?_)
        exact c_vretW dX8_leave_35 S hr hk hC0 hG hS h
  unfold cm_X8_leave at h
  exact L0 gF x0 Gz _ _ _ h hG hS (lv_sub hl [0] rfl)
theorem hc_X8_again : cHd yX8_again 0 := by decide +kernel
set_option maxHeartbeats 4000000 in
set_option maxRecDepth 100000 in
theorem wm_X8_again (E : gX) (l : Launch) (x0 : Nat) (Gz G' : GH) (h : cm_X8_again x0 Gz = some G') : gMetC E l yX8_again cX8_again 1 none 6 [.ref x0] Gz G' none := by
  refine gMetC.of (own := RX8) (by decide +kernel) (Nat.le_of_ble_eq_true rfl) rfl ?_
  intro p e s m args below meth c S hr hk hnm hE hC0 hG hS ls hl
  have hl : lv_has ls 1 [(0, .ref x0)] := hl
  have hx := S.1
  have hb := S.2.1
  have J30 : ∀ (x0 : Nat) (G : GH) (H : Heap) (locs : List Loc) (ls : Array Slot), cm_X8_again_J30 x0 G = some G' → gC E G H → va_S (gx_C E) s.heap H locs → lv_has ls 1 [(0, .ref x0)] → WC E p l e (gRm 6 (cBx Gz) (cBs Gz)) s m args below meth c H locs (MQ below (gQ none (gC E G') (gx_C E)) args s (cBx Gz) (cBs Gz) (gx_C E)) (F0 m 30 ls []) := by
    intro x0 G H locs ls h hG hS hl
    unfold cm_X8_again_J30 at h
    refine lv_aload_n hx hb dX8_again_30 rfl (lv_at hl 0 rfl) ?_
    refine lv_aload_n hx hb dX8_again_31 rfl (lv_at hl 0 rfl) ?_
    obtain ⟨u32, t32, h⟩ := g_bd h
    obtain ⟨v32, e32, h⟩ := g_bd h
    refine c_cV (y := yX8_now) (rest := [.ref x0]) dX8_again_32 q2014 q2001 q2002 q150 q2003 hc_X8_now rfl S hE hG hS hC0 hl.1 rfl (c_recv hE hG (ci := 14) rfl (by decide) (c_castM t32)) (wm_X8_now E l x0 G _ e32) rfl (Nat.le_of_ble_eq_true rfl) ⟨Nat.le_of_ble_eq_true rfl, Nat.le_of_ble_eq_true rfl⟩ (fun H locs hG hS => ?_)
    obtain ⟨v35, e35, h⟩ := g_bd h
    refine cg_X8_76 dX8_again_35 S hE hG e35 ?_
    obtain ⟨G38, e38, h⟩ := g_bd h
    refine cp_X8_43 dX8_again_38 S hE hG hS hC0 e38 (fun H locs hG hS => ?_)
    exact c_vretW dX8_again_41 S hr hk hC0 hG hS h
  unfold cm_X8_again at h
  refine lv_aload_n hx hb dX8_again_0 rfl (lv_at hl 0 rfl) ?_
  obtain ⟨v1, e1, h⟩ := g_bd h
  refine cg_X8_25 dX8_again_1 S hE hG e1 ?_
  refine lv_aload_n hx hb dX8_again_4 rfl (lv_at hl 0 rfl) ?_
  obtain ⟨v5, e5, h⟩ := g_bd h
  refine cg_X8_53 dX8_again_5 S hE hG e5 ?_
  refine lv_iconst (v := 1) hx hb dX8_again_8 (by decide) ?_
  refine lv_isub hx hb dX8_again_9 ?_
  obtain ⟨v10, e10, h⟩ := g_bd h
  refine c_aldI dX8_again_10 S hE hG e10 ?_
  refine lv_iconst (v := 1) hx hb dX8_again_11 (by decide) ?_
  refine lv_icmp_le (tgt := 30) hx hb dX8_again_12 (by decide) (fun c12 => ?_) (fun c12 => ?_)
  · have h := g_it c12 h
    exact J30 x0 Gz _ _ _ h hG hS (lv_sub hl [0] rfl)
  · have h := g_if c12 h
    refine lv_aload_n hx hb dX8_again_15 rfl (lv_at hl 0 rfl) ?_
    obtain ⟨v16, e16, h⟩ := g_bd h
    refine cg_X8_25 dX8_again_16 S hE hG e16 ?_
    refine lv_aload_n hx hb dX8_again_19 rfl (lv_at hl 0 rfl) ?_
    obtain ⟨v20, e20, h⟩ := g_bd h
    refine cg_X8_53 dX8_again_20 S hE hG e20 ?_
    refine lv_iconst (v := 1) hx hb dX8_again_23 (by decide) ?_
    refine lv_isub hx hb dX8_again_24 ?_
    refine lv_dup2_11 hx hb dX8_again_25 rfl rfl ?_
    obtain ⟨v26, e26, h⟩ := g_bd h
    refine c_aldI dX8_again_26 S hE hG e26 ?_
    refine lv_iconst (v := 1) hx hb dX8_again_27 (by decide) ?_
    refine lv_isub hx hb dX8_again_28 ?_
    obtain ⟨G29, e29, h⟩ := g_bd h
    refine c_astI dX8_again_29 S hE hG hS hC0 e29 (fun H locs hG hS => ?_)
    exact J30 x0 G29 _ _ _ h hG hS (lv_sub hl [0] rfl)
theorem hc_X1_turns : cHd yX1_turns 5 := by decide +kernel
set_option maxHeartbeats 4000000 in
set_option maxRecDepth 100000 in
theorem wm_X1_turns (E : gX) (l : Launch) (x0 : Nat) (x1 : Int32) (x2 : Nat) (x3 : Nat) (x4 : Nat) (x5 : Int32) (Gz G' : GH) (r : Int32) (h : cm_X1_turns x0 x1 x2 x3 x4 x5 Gz = some (r, G')) : gMetC E l yX1_turns cX1_turns 7 (some Jvm.ClassFile.FieldType.boolean) 128 [.ref x0, .int x1, .ref x2, .ref x3, .ref x4, .int x5] Gz G' (some (.int r)) := by
  refine gMetC.of (own := RX1) (by decide +kernel) (Nat.le_of_ble_eq_true rfl) rfl ?_
  intro p e s m args below meth c S hr hk hnm hE hC0 hG hS ls hl
  have hl : lv_has ls 7 [(0, .ref x0), (1, .int x1), (2, .ref x2), (3, .ref x3), (4, .ref x4), (5, .int x5)] := hl
  have hx := S.1
  have hb := S.2.1
  have J198 : ∀ (x0 : Nat) (x1 : Int32) (x3 : Nat) (G : GH) (H : Heap) (locs : List Loc) (ls : Array Slot), cm_X1_turns_J198 x0 x1 x3 G = some (r, G') → gC E G H → va_S (gx_C E) s.heap H locs → lv_has ls 7 [(0, .ref x0), (1, .int x1), (3, .ref x3)] → WC E p l e (gRm 128 (cBx Gz) (cBs Gz)) s m args below meth c H locs (MQ below (gQ (some (.int r)) (gC E G') (gx_C E)) args s (cBx Gz) (cBs Gz) (gx_C E)) (F0 m 198 ls []) := by
    intro x0 x1 x3 G H locs ls h hG hS hl
    unfold cm_X1_turns_J198 at h
    refine lv_aload_n hx hb dX1_turns_198 rfl (lv_at hl 0 rfl) ?_
    refine lv_iload_n hx hb dX1_turns_199 rfl (lv_at hl 1 rfl) ?_
    refine lv_aload_n hx hb dX1_turns_200 rfl (lv_at hl 2 rfl) ?_
    obtain ⟨u201, t201, h⟩ := g_bd h
    obtain ⟨G201, e201, h⟩ := g_bd h
    refine c_cV (y := yX1_settle) (rest := []) dX1_turns_201 q2006 q2008 qs45 q119 q2009 hc_X1_settle rfl S hE hG hS hC0 hl.1 rfl (c_recv hE hG (ci := 8) rfl (by decide) (c_castM t201)) (wm_X1_settle E l x0 x1 x3 G _ e201) rfl (Nat.le_of_ble_eq_true rfl) ⟨Nat.le_of_ble_eq_true rfl, Nat.le_of_ble_eq_true rfl⟩ (fun H locs hG hS => ?_)
    refine lv_iconst (v := 1) hx hb dX1_turns_204 (by decide) ?_
    exact c_zretW dX1_turns_205 S hr hk hC0 hG hS h
  have J94 : ∀ (x0 : Nat) (x1 : Int32) (x3 : Nat) (x4 : Nat) (s0 : Nat) (s1 : Int32) (s2 : Int32) (G : GH) (H : Heap) (locs : List Loc) (ls : Array Slot), cm_X1_turns_J94 x0 x1 x3 x4 s0 s1 s2 G = some (r, G') → gC E G H → va_S (gx_C E) s.heap H locs → lv_has ls 7 [(0, .ref x0), (1, .int x1), (3, .ref x3), (4, .ref x4)] → WC E p l e (gRm 128 (cBx Gz) (cBs Gz)) s m args below meth c H locs (MQ below (gQ (some (.int r)) (gC E G') (gx_C E)) args s (cBx Gz) (cBs Gz) (gx_C E)) (F0 m 94 ls [.int s2, .int s1, .ref s0]) := by
    intro x0 x1 x3 x4 s0 s1 s2 G H locs ls h hG hS hl
    unfold cm_X1_turns_J94 at h
    refine lv_aload hx hb dX1_turns_94 (lv_at hl 3 rfl) ?_
    obtain ⟨v96, e96, h⟩ := g_bd h
    refine cg_X1_390 dX1_turns_96 S hE hG e96 ?_
    obtain ⟨G99, e99, h⟩ := g_bd h
    refine c_cS (y := yX1_enter) (rest := []) dX1_turns_99 q2217 q2218 q119 q2219 hc_X1_enter S hE hG hS hC0 hl.1 rfl (wm_X1_enter E l s0 s1 s2 v96 G _ e99) rfl (Nat.le_of_ble_eq_true rfl) ⟨Nat.le_of_ble_eq_true rfl, Nat.le_of_ble_eq_true rfl⟩ (fun H locs hG hS => ?_)
    refine lv_goto (tgt := 198) hx hb dX1_turns_102 (by decide) ?_
    exact J198 x0 x1 x3 G99 _ _ _ h hG hS (lv_sub hl [0, 1, 2] rfl)
  have J76 : ∀ (x0 : Nat) (x1 : Int32) (x3 : Nat) (x4 : Nat) (x5 : Int32) (G : GH) (H : Heap) (locs : List Loc) (ls : Array Slot), cm_X1_turns_J76 x0 x1 x3 x4 x5 G = some (r, G') → gC E G H → va_S (gx_C E) s.heap H locs → lv_has ls 7 [(0, .ref x0), (1, .int x1), (3, .ref x3), (4, .ref x4), (5, .int x5)] → WC E p l e (gRm 128 (cBx Gz) (cBs Gz)) s m args below meth c H locs (MQ below (gQ (some (.int r)) (gC E G') (gx_C E)) args s (cBx Gz) (cBs Gz) (gx_C E)) (F0 m 76 ls []) := by
    intro x0 x1 x3 x4 x5 G H locs ls h hG hS hl
    unfold cm_X1_turns_J76 at h
    refine lv_aload_n hx hb dX1_turns_76 rfl (lv_at hl 2 rfl) ?_
    refine lv_iconst (v := 0) hx hb dX1_turns_77 (by decide) ?_
    refine lv_aload hx hb dX1_turns_78 (lv_at hl 3 rfl) ?_
    obtain ⟨v80, e80, h⟩ := g_bd h
    refine cg_X1_319 dX1_turns_80 S hE hG e80 ?_
    refine lv_bipush (v := 14) hx hb dX1_turns_83 (by decide) ?_
    refine lv_icmp_ne (tgt := 93) hx hb dX1_turns_85 (by decide) (fun c85 => ?_) (fun c85 => ?_)
    · have h := g_if c85 h
      refine lv_iconst (v := (-1)) hx hb dX1_turns_93 (by decide) ?_
      exact J94 x0 x1 x3 x4 x3 0 (-1) G _ _ _ h hG hS (lv_sub hl [0, 1, 2, 3] rfl)
    · have h := g_it c85 h
      refine lv_iload hx hb dX1_turns_88 (lv_at hl 4 rfl) ?_
      refine lv_goto (tgt := 94) hx hb dX1_turns_90 (by decide) ?_
      exact J94 x0 x1 x3 x4 x3 0 x5 G _ _ _ h hG hS (lv_sub hl [0, 1, 2, 3] rfl)
  have J146 : ∀ (x0 : Nat) (x1 : Int32) (x3 : Nat) (s0 : Nat) (s1 : Int32) (G : GH) (H : Heap) (locs : List Loc) (ls : Array Slot), cm_X1_turns_J146 x0 x1 x3 s0 s1 G = some (r, G') → gC E G H → va_S (gx_C E) s.heap H locs → lv_has ls 7 [(0, .ref x0), (1, .int x1), (3, .ref x3)] → WC E p l e (gRm 128 (cBx Gz) (cBs Gz)) s m args below meth c H locs (MQ below (gQ (some (.int r)) (gC E G') (gx_C E)) args s (cBx Gz) (cBs Gz) (gx_C E)) (F0 m 146 ls [.int s1, .ref s0]) := by
    intro x0 x1 x3 s0 s1 G H locs ls h hG hS hl
    unfold cm_X1_turns_J146 at h
    obtain ⟨G146, e146, h⟩ := g_bd h
    refine cp_X1_334 dX1_turns_146 S hE hG hS hC0 e146 (fun H locs hG hS => ?_)
    refine lv_goto (tgt := 198) hx hb dX1_turns_149 (by decide) ?_
    exact J198 x0 x1 x3 G146 _ _ _ h hG hS (lv_sub hl [0, 1, 2] rfl)
  unfold cm_X1_turns at h
  refine lv_aload hx hb dX1_turns_0 (lv_at hl 4 rfl) ?_
  obtain ⟨v2, e2, h⟩ := g_bd h
  refine cg_X1_319 dX1_turns_2 S hE hG e2 ?_
  by_cases c5_14 : v2 = 14
  · have h := g_it c5_14 h
    refine lv_tableIn (off := 43) (tgt := 48) hx hb dX1_turns_5 (by rw [c5_14]; decide) (by rw [c5_14]; decide) (by rw [c5_14]; rfl) (by decide) ?_
    refine lv_aload hx hb dX1_turns_48 (lv_at hl 4 rfl) ?_
    obtain ⟨v50, e50, h⟩ := g_bd h
    refine cg_X1_319 dX1_turns_50 S hE hG e50 ?_
    refine lv_bipush (v := 14) hx hb dX1_turns_53 (by decide) ?_
    refine lv_icmp_ne (tgt := 76) hx hb dX1_turns_55 (by decide) (fun c55 => ?_) (fun c55 => ?_)
    · have h := g_if c55 h
      exact J76 x0 x1 x3 x4 x5 Gz _ _ _ h hG hS (lv_sub hl [0, 1, 3, 4, 5] rfl)
    · have h := g_it c55 h
      refine lv_iload hx hb dX1_turns_58 (lv_at hl 5 rfl) ?_
      refine lv_iconst (v := 1) hx hb dX1_turns_60 (by decide) ?_
      refine lv_icmp_ge (tgt := 76) hx hb dX1_turns_61 (by decide) (fun c61 => ?_) (fun c61 => ?_)
      · have h := g_it c61 h
        exact J76 x0 x1 x3 x4 x5 Gz _ _ _ h hG hS (lv_sub hl [0, 1, 3, 4, 5] rfl)
      · have h := g_if c61 h
        refine lv_aload_n hx hb dX1_turns_64 rfl (lv_at hl 3 rfl) ?_
        refine lv_aload hx hb dX1_turns_65 (lv_at hl 4 rfl) ?_
        obtain ⟨v67, e67, h⟩ := g_bd h
        refine cg_X1_390 dX1_turns_67 S hE hG e67 ?_
        obtain ⟨G70, e70, h⟩ := g_bd h
        refine cp_X1_334 dX1_turns_70 S hE hG hS hC0 e70 (fun H locs hG hS => ?_)
        refine lv_goto (tgt := 198) hx hb dX1_turns_73 (by decide) ?_
        exact J198 x0 x1 x3 G70 _ _ _ h hG hS (lv_sub hl [0, 1, 3] rfl)
  have h := g_if c5_14 h
  by_cases c5_15 : v2 = 15
  · have h := g_it c5_15 h
    refine lv_tableIn (off := 43) (tgt := 48) hx hb dX1_turns_5 (by rw [c5_15]; decide) (by rw [c5_15]; decide) (by rw [c5_15]; rfl) (by decide) ?_
    refine lv_aload hx hb dX1_turns_48 (lv_at hl 4 rfl) ?_
    obtain ⟨v50, e50, h⟩ := g_bd h
    refine cg_X1_319 dX1_turns_50 S hE hG e50 ?_
    refine lv_bipush (v := 14) hx hb dX1_turns_53 (by decide) ?_
    refine lv_icmp_ne (tgt := 76) hx hb dX1_turns_55 (by decide) (fun c55 => ?_) (fun c55 => ?_)
    · have h := g_if c55 h
      exact J76 x0 x1 x3 x4 x5 Gz _ _ _ h hG hS (lv_sub hl [0, 1, 3, 4, 5] rfl)
    · have h := g_it c55 h
      refine lv_iload hx hb dX1_turns_58 (lv_at hl 5 rfl) ?_
      refine lv_iconst (v := 1) hx hb dX1_turns_60 (by decide) ?_
      refine lv_icmp_ge (tgt := 76) hx hb dX1_turns_61 (by decide) (fun c61 => ?_) (fun c61 => ?_)
      · have h := g_it c61 h
        exact J76 x0 x1 x3 x4 x5 Gz _ _ _ h hG hS (lv_sub hl [0, 1, 3, 4, 5] rfl)
      · have h := g_if c61 h
        refine lv_aload_n hx hb dX1_turns_64 rfl (lv_at hl 3 rfl) ?_
        refine lv_aload hx hb dX1_turns_65 (lv_at hl 4 rfl) ?_
        obtain ⟨v67, e67, h⟩ := g_bd h
        refine cg_X1_390 dX1_turns_67 S hE hG e67 ?_
        obtain ⟨G70, e70, h⟩ := g_bd h
        refine cp_X1_334 dX1_turns_70 S hE hG hS hC0 e70 (fun H locs hG hS => ?_)
        refine lv_goto (tgt := 198) hx hb dX1_turns_73 (by decide) ?_
        exact J198 x0 x1 x3 G70 _ _ _ h hG hS (lv_sub hl [0, 1, 3] rfl)
  have h := g_if c5_15 h
  by_cases c5_16 : v2 = 16
  · have h := g_it c5_16 h
    refine lv_tableIn (off := 100) (tgt := 105) hx hb dX1_turns_5 (by rw [c5_16]; decide) (by rw [c5_16]; decide) (by rw [c5_16]; rfl) (by decide) ?_
    refine lv_aload hx hb dX1_turns_105 (lv_at hl 4 rfl) ?_
    obtain ⟨v107, e107, h⟩ := g_bd h
    refine cg_X1_362 dX1_turns_107 S hE hG e107 ?_
    refine lv_aload_n hx hb dX1_turns_110 rfl (lv_at hl 0 rfl) ?_
    refine lv_aload_n hx hb dX1_turns_111 rfl (lv_at hl 2 rfl) ?_
    obtain ⟨b112, eb112, h⟩ := g_bd h
    have rb112 : va_rf v107 = .ref b112 := by rw [eb112]; rfl
    (try rw [rb112] at hl)
    (try rw [rb112])
    obtain ⟨qx112, e112, h⟩ := g_bd h
    refine wd_Cond_holds 60 (wm_S80 E l 60) (rest := []) q2192 dX1_turns_112 S hE hG hS hC0 hl.1 e112 rfl (Nat.le_of_ble_eq_true rfl) (by decide) (fun H locs hG hS => ?_)
    refine lv_istore (lv' := [(6, .int qx112.1), (0, .ref x0), (1, .int x1), (2, .ref x2), (3, .ref x3), (4, .ref x4), (5, .int x5)]) hx hb dX1_turns_115 hl (by decide) rfl (fun ls hl => ?_)
    refine lv_aload_n hx hb dX1_turns_117 rfl (lv_at hl 1 rfl) ?_
    obtain ⟨v118, e118, h⟩ := g_bd h
    refine cg_X1_327 dX1_turns_118 S hE hG e118 ?_
    refine lv_if_eq (tgt := 126) hx hb dX1_turns_121 (by decide) (fun c121 => ?_) (fun c121 => ?_)
    · have h := g_it c121 h
      refine lv_aload_n hx hb dX1_turns_126 rfl (lv_at hl 4 rfl) ?_
      refine lv_iload hx hb dX1_turns_127 (lv_at hl 0 rfl) ?_
      refine lv_if_eq (tgt := 141) hx hb dX1_turns_129 (by decide) (fun c129 => ?_) (fun c129 => ?_)
      · have h := g_it c129 h
        refine lv_aload hx hb dX1_turns_141 (lv_at hl 5 rfl) ?_
        obtain ⟨v143, e143, h⟩ := g_bd h
        refine cg_X1_390 dX1_turns_143 S hE hG e143 ?_
        exact J146 x0 x1 x3 x3 v143 qx112.2 _ _ _ h hG hS (lv_sub hl [1, 2, 4] rfl)
      · have h := g_if c129 h
        refine lv_aload_n hx hb dX1_turns_132 rfl (lv_at hl 4 rfl) ?_
        obtain ⟨v133, e133, h⟩ := g_bd h
        refine cg_X1_334 dX1_turns_133 S hE hG e133 ?_
        refine lv_iconst (v := 1) hx hb dX1_turns_136 (by decide) ?_
        refine lv_iadd hx hb dX1_turns_137 ?_
        refine lv_goto (tgt := 146) hx hb dX1_turns_138 (by decide) ?_
        exact J146 x0 x1 x3 x3 (v133 + 1) qx112.2 _ _ _ h hG hS (lv_sub hl [1, 2, 4] rfl)
    · have h := g_if c121 h
      refine lv_iconst (v := 1) hx hb dX1_turns_124 (by decide) ?_
      exact c_zretW dX1_turns_125 S hr hk hC0 hG hS h
  have h := g_if c5_16 h
  by_cases c5_17 : v2 = 17
  · have h := g_it c5_17 h
    refine lv_tableIn (off := 147) (tgt := 152) hx hb dX1_turns_5 (by rw [c5_17]; decide) (by rw [c5_17]; decide) (by rw [c5_17]; rfl) (by decide) ?_
    refine lv_aload_n hx hb dX1_turns_152 rfl (lv_at hl 3 rfl) ?_
    refine lv_iconst (v := 1) hx hb dX1_turns_153 (by decide) ?_
    refine lv_iconst (v := 0) hx hb dX1_turns_154 (by decide) ?_
    refine lv_aload hx hb dX1_turns_155 (lv_at hl 4 rfl) ?_
    obtain ⟨v157, e157, h⟩ := g_bd h
    refine cg_X1_390 dX1_turns_157 S hE hG e157 ?_
    obtain ⟨G160, e160, h⟩ := g_bd h
    refine c_cS (y := yX1_enter) (rest := []) dX1_turns_160 q2217 q2218 q119 q2219 hc_X1_enter S hE hG hS hC0 hl.1 rfl (wm_X1_enter E l x3 1 0 v157 Gz _ e160) rfl (Nat.le_of_ble_eq_true rfl) ⟨Nat.le_of_ble_eq_true rfl, Nat.le_of_ble_eq_true rfl⟩ (fun H locs hG hS => ?_)
    refine lv_goto (tgt := 198) hx hb dX1_turns_163 (by decide) ?_
    exact J198 x0 x1 x3 G160 _ _ _ h hG hS (lv_sub hl [0, 1, 3] rfl)
  have h := g_if c5_17 h
  by_cases c5_18 : v2 = 18
  · have h := g_it c5_18 h
    refine lv_tableIn (off := 161) (tgt := 166) hx hb dX1_turns_5 (by rw [c5_18]; decide) (by rw [c5_18]; decide) (by rw [c5_18]; rfl) (by decide) ?_
    refine lv_aload_n hx hb dX1_turns_166 rfl (lv_at hl 3 rfl) ?_
    obtain ⟨u167, t167, h⟩ := g_bd h
    obtain ⟨G167, e167, h⟩ := g_bd h
    refine c_cV (y := yX8_leave) (rest := []) dX1_turns_167 q2224 q2225 q2226 q150 q2227 hc_X8_leave rfl S hE hG hS hC0 hl.1 rfl (c_recv hE hG (ci := 14) rfl (by decide) (c_castM t167)) (wm_X8_leave E l x3 Gz _ e167) rfl (Nat.le_of_ble_eq_true rfl) ⟨Nat.le_of_ble_eq_true rfl, Nat.le_of_ble_eq_true rfl⟩ (fun H locs hG hS => ?_)
    refine lv_goto (tgt := 198) hx hb dX1_turns_170 (by decide) ?_
    exact J198 x0 x1 x3 G167 _ _ _ h hG hS (lv_sub hl [0, 1, 3] rfl)
  have h := g_if c5_18 h
  by_cases c5_19 : v2 = 19
  · have h := g_it c5_19 h
    refine lv_tableIn (off := 175) (tgt := 180) hx hb dX1_turns_5 (by rw [c5_19]; decide) (by rw [c5_19]; decide) (by rw [c5_19]; rfl) (by decide) ?_
    refine lv_aload_n hx hb dX1_turns_180 rfl (lv_at hl 3 rfl) ?_
    refine lv_iconst (v := 1) hx hb dX1_turns_181 (by decide) ?_
    obtain ⟨G182, e182, h⟩ := g_bd h
    refine cp_X1_272 dX1_turns_182 S hE hG hS hC0 e182 (fun H locs hG hS => ?_)
    refine lv_aload_n hx hb dX1_turns_185 rfl (lv_at hl 0 rfl) ?_
    refine lv_bipush (v := 6) hx hb dX1_turns_186 (by decide) ?_
    refine lv_iload_n hx hb dX1_turns_188 rfl (lv_at hl 1 rfl) ?_
    refine lv_aload_n hx hb dX1_turns_189 rfl (lv_at hl 0 rfl) ?_
    obtain ⟨v190, e190, h⟩ := g_bd h
    refine cg_X1_133 dX1_turns_190 S hE hG e190 ?_
    obtain ⟨u193, t193, h⟩ := g_bd h
    obtain ⟨G193, e193, h⟩ := g_bd h
    refine c_cV (y := yX1_tell) (rest := []) dX1_turns_193 q1992 q1994 qs43 q119 q1995 hc_X1_tell rfl S hE hG hS hC0 hl.1 rfl (c_recv hE hG (ci := 8) rfl (by decide) (c_castM t193)) (wm_X1_tell E l x0 6 x1 v190 G182 _ e193) rfl (Nat.le_of_ble_eq_true rfl) ⟨Nat.le_of_ble_eq_true rfl, Nat.le_of_ble_eq_true rfl⟩ (fun H locs hG hS => ?_)
    refine lv_iconst (v := 1) hx hb dX1_turns_196 (by decide) ?_
    exact c_zretW dX1_turns_197 S hr hk hC0 hG hS h
  have h := g_if c5_19 h
  by_cases c5_20 : v2 = 20
  · have h := g_it c5_20 h
    refine lv_tableIn (off := 168) (tgt := 173) hx hb dX1_turns_5 (by rw [c5_20]; decide) (by rw [c5_20]; decide) (by rw [c5_20]; rfl) (by decide) ?_
    refine lv_aload_n hx hb dX1_turns_173 rfl (lv_at hl 3 rfl) ?_
    obtain ⟨u174, t174, h⟩ := g_bd h
    obtain ⟨G174, e174, h⟩ := g_bd h
    refine c_cV (y := yX8_again) (rest := []) dX1_turns_174 q2228 q2229 q2230 q150 q2231 hc_X8_again rfl S hE hG hS hC0 hl.1 rfl (c_recv hE hG (ci := 14) rfl (by decide) (c_castM t174)) (wm_X8_again E l x3 Gz _ e174) rfl (Nat.le_of_ble_eq_true rfl) ⟨Nat.le_of_ble_eq_true rfl, Nat.le_of_ble_eq_true rfl⟩ (fun H locs hG hS => ?_)
    refine lv_goto (tgt := 198) hx hb dX1_turns_177 (by decide) ?_
    exact J198 x0 x1 x3 G174 _ _ _ h hG hS (lv_sub hl [0, 1, 3] rfl)
  have h := g_if c5_20 h
  refine lv_tableOut (tgt := 180) hx hb dX1_turns_5 (g_swOut 14 20 (by intro k hk; match k, hk with | 0, _ => exact c5_14 | 1, _ => exact c5_15 | 2, _ => exact c5_16 | 3, _ => exact c5_17 | 4, _ => exact c5_18 | 5, _ => exact c5_19 | 6, _ => exact c5_20 | k + 7, hk => exact absurd hk (by omega)) (by decide) (by decide)) (by decide) ?_
  refine lv_aload_n hx hb dX1_turns_180 rfl (lv_at hl 3 rfl) ?_
  refine lv_iconst (v := 1) hx hb dX1_turns_181 (by decide) ?_
  obtain ⟨G182, e182, h⟩ := g_bd h
  refine cp_X1_272 dX1_turns_182 S hE hG hS hC0 e182 (fun H locs hG hS => ?_)
  refine lv_aload_n hx hb dX1_turns_185 rfl (lv_at hl 0 rfl) ?_
  refine lv_bipush (v := 6) hx hb dX1_turns_186 (by decide) ?_
  refine lv_iload_n hx hb dX1_turns_188 rfl (lv_at hl 1 rfl) ?_
  refine lv_aload_n hx hb dX1_turns_189 rfl (lv_at hl 0 rfl) ?_
  obtain ⟨v190, e190, h⟩ := g_bd h
  refine cg_X1_133 dX1_turns_190 S hE hG e190 ?_
  obtain ⟨u193, t193, h⟩ := g_bd h
  obtain ⟨G193, e193, h⟩ := g_bd h
  refine c_cV (y := yX1_tell) (rest := []) dX1_turns_193 q1992 q1994 qs43 q119 q1995 hc_X1_tell rfl S hE hG hS hC0 hl.1 rfl (c_recv hE hG (ci := 8) rfl (by decide) (c_castM t193)) (wm_X1_tell E l x0 6 x1 v190 G182 _ e193) rfl (Nat.le_of_ble_eq_true rfl) ⟨Nat.le_of_ble_eq_true rfl, Nat.le_of_ble_eq_true rfl⟩ (fun H locs hG hS => ?_)
  refine lv_iconst (v := 1) hx hb dX1_turns_196 (by decide) ?_
  exact c_zretW dX1_turns_197 S hr hk hC0 hG hS h
theorem hc_X1_does : cHd yX1_does 4 := by decide +kernel
set_option maxHeartbeats 4000000 in
set_option maxRecDepth 100000 in
theorem wm_X1_does (E : gX) (l : Launch) (x0 : Nat) (x1 : Int32) (x2 : Nat) (x3 : Nat) (x4 : Nat) (Gz G' : GH) (r : Int32) (h : cm_X1_does x0 x1 x2 x3 x4 Gz = some (r, G')) : gMetC E l yX1_does cX1_does 6 (some Jvm.ClassFile.FieldType.boolean) 129 [.ref x0, .int x1, .ref x2, .ref x3, .ref x4] Gz G' (some (.int r)) := by
  refine gMetC.of (own := RX1) (by decide +kernel) (Nat.le_of_ble_eq_true rfl) rfl ?_
  intro p e s m args below meth c S hr hk hnm hE hC0 hG hS ls hl
  have hl : lv_has ls 6 [(0, .ref x0), (1, .int x1), (2, .ref x2), (3, .ref x3), (4, .ref x4)] := hl
  have hx := S.1
  have hb := S.2.1
  have J133 : ∀ (x5 : Int32) (s0 : Nat) (s1 : Int32) (s2 : Nat) (s3 : Nat) (s4 : Int32) (G : GH) (H : Heap) (locs : List Loc) (ls : Array Slot), cm_X1_does_J133 x5 s0 s1 s2 s3 s4 G = some (r, G') → gC E G H → va_S (gx_C E) s.heap H locs → lv_has ls 6 [(5, .int x5)] → WC E p l e (gRm 129 (cBx Gz) (cBs Gz)) s m args below meth c H locs (MQ below (gQ (some (.int r)) (gC E G') (gx_C E)) args s (cBx Gz) (cBs Gz) (gx_C E)) (F0 m 133 ls [.int s4, .ref s3, .ref s2, .int s1, .ref s0]) := by
    intro x5 s0 s1 s2 s3 s4 G H locs ls h hG hS hl
    unfold cm_X1_does_J133 at h
    refine lv_iload hx hb dX1_does_133 (lv_at hl 0 rfl) ?_
    obtain ⟨u135, t135, h⟩ := g_bd h
    obtain ⟨qx135, e135, h⟩ := g_bd h
    refine c_cV (y := yX1_aims) (rest := []) dX1_does_135 q2047 q2049 qs47 q119 q2050 hc_X1_aims rfl S hE hG hS hC0 hl.1 rfl (c_recv hE hG (ci := 8) rfl (by decide) (c_castM t135)) (wm_X1_aims E l s0 s1 s2 s3 s4 x5 G _ _ e135) rfl (Nat.le_of_ble_eq_true rfl) ⟨Nat.le_of_ble_eq_true rfl, Nat.le_of_ble_eq_true rfl⟩ (fun H locs hG hS => ?_)
    exact c_zretW dX1_does_138 S hr hk hC0 hG hS h
  have J157 : ∀ (x5 : Int32) (s0 : Nat) (s1 : Int32) (s2 : Nat) (s3 : Nat) (s4 : Int32) (G : GH) (H : Heap) (locs : List Loc) (ls : Array Slot), cm_X1_does_J157 x5 s0 s1 s2 s3 s4 G = some (r, G') → gC E G H → va_S (gx_C E) s.heap H locs → lv_has ls 6 [(5, .int x5)] → WC E p l e (gRm 129 (cBx Gz) (cBs Gz)) s m args below meth c H locs (MQ below (gQ (some (.int r)) (gC E G') (gx_C E)) args s (cBx Gz) (cBs Gz) (gx_C E)) (F0 m 157 ls [.int s4, .ref s3, .ref s2, .int s1, .ref s0]) := by
    intro x5 s0 s1 s2 s3 s4 G H locs ls h hG hS hl
    unfold cm_X1_does_J157 at h
    refine lv_iload hx hb dX1_does_157 (lv_at hl 0 rfl) ?_
    obtain ⟨u159, t159, h⟩ := g_bd h
    obtain ⟨qx159, e159, h⟩ := g_bd h
    refine c_cV (y := yX1_shines) (rest := []) dX1_does_159 q2055 q2057 qs49 q119 q2058 hc_X1_shines rfl S hE hG hS hC0 hl.1 rfl (c_recv hE hG (ci := 8) rfl (by decide) (c_castM t159)) (wm_X1_shines E l s0 s1 s2 s3 s4 x5 G _ _ e159) rfl (Nat.le_of_ble_eq_true rfl) ⟨Nat.le_of_ble_eq_true rfl, Nat.le_of_ble_eq_true rfl⟩ (fun H locs hG hS => ?_)
    exact c_zretW dX1_does_162 S hr hk hC0 hG hS h
  have J251 : ∀ (x0 : Nat) (x1 : Int32) (x3 : Nat) (x4 : Nat) (G : GH) (H : Heap) (locs : List Loc) (ls : Array Slot), cm_X1_does_J251 x0 x1 x3 x4 G = some (r, G') → gC E G H → va_S (gx_C E) s.heap H locs → lv_has ls 6 [(0, .ref x0), (1, .int x1), (3, .ref x3), (4, .ref x4)] → WC E p l e (gRm 129 (cBx Gz) (cBs Gz)) s m args below meth c H locs (MQ below (gQ (some (.int r)) (gC E G') (gx_C E)) args s (cBx Gz) (cBs Gz) (gx_C E)) (F0 m 251 ls []) := by
    intro x0 x1 x3 x4 G H locs ls h hG hS hl
    unfold cm_X1_does_J251 at h
    refine lv_aload_n hx hb dX1_does_251 rfl (lv_at hl 0 rfl) ?_
    obtain ⟨v252, e252, h⟩ := g_bd h
    refine cg_X1_327 dX1_does_252 S hE hG e252 ?_
    refine lv_if_eq (tgt := 260) hx hb dX1_does_255 (by decide) (fun c255 => ?_) (fun c255 => ?_)
    · have h := g_it c255 h
      refine lv_aload_n hx hb dX1_does_260 rfl (lv_at hl 2 rfl) ?_
      obtain ⟨v261, e261, h⟩ := g_bd h
      refine cg_X1_302 dX1_does_261 S hE hG e261 ?_
      refine lv_aload hx hb dX1_does_264 (lv_at hl 3 rfl) ?_
      obtain ⟨v266, e266, h⟩ := g_bd h
      refine cg_X1_376 dX1_does_266 S hE hG e266 ?_
      refine lv_dup2_11 hx hb dX1_does_269 rfl rfl ?_
      obtain ⟨v270, e270, h⟩ := g_bd h
      refine c_aldI dX1_does_270 S hE hG e270 ?_
      refine lv_iconst (v := 1) hx hb dX1_does_271 (by decide) ?_
      refine lv_isub hx hb dX1_does_272 ?_
      obtain ⟨G273, e273, h⟩ := g_bd h
      refine c_astI dX1_does_273 S hE hG hS hC0 e273 (fun H locs hG hS => ?_)
      refine lv_aload_n hx hb dX1_does_274 rfl (lv_at hl 0 rfl) ?_
      obtain ⟨v275, e275, h⟩ := g_bd h
      refine cg_X1_45 dX1_does_275 S hE hG e275 ?_
      refine lv_aload hx hb dX1_does_278 (lv_at hl 3 rfl) ?_
      obtain ⟨v280, e280, h⟩ := g_bd h
      refine cg_X1_376 dX1_does_280 S hE hG e280 ?_
      refine lv_dup2_11 hx hb dX1_does_283 rfl rfl ?_
      obtain ⟨v284, e284, h⟩ := g_bd h
      refine c_aldI dX1_does_284 S hE hG e284 ?_
      refine lv_iconst (v := 1) hx hb dX1_does_285 (by decide) ?_
      refine lv_iadd hx hb dX1_does_286 ?_
      obtain ⟨G287, e287, h⟩ := g_bd h
      refine c_astI dX1_does_287 S hE hG hS hC0 e287 (fun H locs hG hS => ?_)
      refine lv_aload_n hx hb dX1_does_288 rfl (lv_at hl 0 rfl) ?_
      refine lv_iload_n hx hb dX1_does_289 rfl (lv_at hl 1 rfl) ?_
      refine lv_aload_n hx hb dX1_does_290 rfl (lv_at hl 2 rfl) ?_
      obtain ⟨u291, t291, h⟩ := g_bd h
      obtain ⟨qx291, e291, h⟩ := g_bd h
      refine c_cV (y := yX1_done) (rest := []) dX1_does_291 q2051 q2053 qs48 q119 q2054 hc_X1_done rfl S hE hG hS hC0 hl.1 rfl (c_recv hE hG (ci := 8) rfl (by decide) (c_castM t291)) (wm_X1_done E l x0 x1 x3 G287 _ _ e291) rfl (Nat.le_of_ble_eq_true rfl) ⟨Nat.le_of_ble_eq_true rfl, Nat.le_of_ble_eq_true rfl⟩ (fun H locs hG hS => ?_)
      exact c_zretW dX1_does_294 S hr hk hC0 hG hS h
    · have h := g_if c255 h
      refine lv_iconst (v := 1) hx hb dX1_does_258 (by decide) ?_
      exact c_zretW dX1_does_259 S hr hk hC0 hG hS h
  have J319 : ∀ (x0 : Nat) (x1 : Int32) (x3 : Nat) (s0 : Nat) (s1 : Int32) (s2 : Int32) (G : GH) (H : Heap) (locs : List Loc) (ls : Array Slot), cm_X1_does_J319 x0 x1 x3 s0 s1 s2 G = some (r, G') → gC E G H → va_S (gx_C E) s.heap H locs → lv_has ls 6 [(0, .ref x0), (1, .int x1), (3, .ref x3)] → WC E p l e (gRm 129 (cBx Gz) (cBs Gz)) s m args below meth c H locs (MQ below (gQ (some (.int r)) (gC E G') (gx_C E)) args s (cBx Gz) (cBs Gz) (gx_C E)) (F0 m 319 ls [.int s2, .int s1, .ref s0]) := by
    intro x0 x1 x3 s0 s1 s2 G H locs ls h hG hS hl
    unfold cm_X1_does_J319 at h
    obtain ⟨G319, e319, h⟩ := g_bd h
    refine c_astB dX1_does_319 S hE hG hS hC0 e319 (fun H locs hG hS => ?_)
    refine lv_aload_n hx hb dX1_does_320 rfl (lv_at hl 0 rfl) ?_
    refine lv_iload_n hx hb dX1_does_321 rfl (lv_at hl 1 rfl) ?_
    refine lv_aload_n hx hb dX1_does_322 rfl (lv_at hl 2 rfl) ?_
    obtain ⟨u323, t323, h⟩ := g_bd h
    obtain ⟨qx323, e323, h⟩ := g_bd h
    refine c_cV (y := yX1_done) (rest := []) dX1_does_323 q2051 q2053 qs48 q119 q2054 hc_X1_done rfl S hE hG hS hC0 hl.1 rfl (c_recv hE hG (ci := 8) rfl (by decide) (c_castM t323)) (wm_X1_done E l x0 x1 x3 G319 _ _ e323) rfl (Nat.le_of_ble_eq_true rfl) ⟨Nat.le_of_ble_eq_true rfl, Nat.le_of_ble_eq_true rfl⟩ (fun H locs hG hS => ?_)
    exact c_zretW dX1_does_326 S hr hk hC0 hG hS h
  have J29 : ∀ (x0 : Nat) (x1 : Int32) (x2 : Nat) (x3 : Nat) (x4 : Nat) (s0 : Int32) (G : GH) (H : Heap) (locs : List Loc) (ls : Array Slot), cm_X1_does_J29 x0 x1 x2 x3 x4 s0 G = some (r, G') → gC E G H → va_S (gx_C E) s.heap H locs → lv_has ls 6 [(0, .ref x0), (1, .int x1), (2, .ref x2), (3, .ref x3), (4, .ref x4)] → WC E p l e (gRm 129 (cBx Gz) (cBs Gz)) s m args below meth c H locs (MQ below (gQ (some (.int r)) (gC E G') (gx_C E)) args s (cBx Gz) (cBs Gz) (gx_C E)) (F0 m 29 ls [.int s0]) := by
    intro x0 x1 x2 x3 x4 s0 G H locs ls h hG hS hl
    unfold cm_X1_does_J29 at h
    refine lv_istore (lv' := [(5, .int s0), (0, .ref x0), (1, .int x1), (2, .ref x2), (3, .ref x3), (4, .ref x4)]) hx hb dX1_does_29 hl (by decide) rfl (fun ls hl => ?_)
    refine lv_aload_n hx hb dX1_does_31 rfl (lv_at hl 1 rfl) ?_
    obtain ⟨v32, e32, h⟩ := g_bd h
    refine cg_X1_327 dX1_does_32 S hE hG e32 ?_
    refine lv_if_eq (tgt := 40) hx hb dX1_does_35 (by decide) (fun c35 => ?_) (fun c35 => ?_)
    · have h := g_it c35 h
      refine lv_aload hx hb dX1_does_40 (lv_at hl 5 rfl) ?_
      obtain ⟨v42, e42, h⟩ := g_bd h
      refine cg_X1_319 dX1_does_42 S hE hG e42 ?_
      by_cases c45_0 : v42 = 0
      · have h := g_it c45_0 h
        refine lv_tableIn (off := 71) (tgt := 116) hx hb dX1_does_45 (by rw [c45_0]; decide) (by rw [c45_0]; decide) (by rw [c45_0]; rfl) (by decide) ?_
        refine lv_aload_n hx hb dX1_does_116 rfl (lv_at hl 1 rfl) ?_
        refine lv_iload_n hx hb dX1_does_117 rfl (lv_at hl 2 rfl) ?_
        refine lv_aload_n hx hb dX1_does_118 rfl (lv_at hl 3 rfl) ?_
        refine lv_aload_n hx hb dX1_does_119 rfl (lv_at hl 4 rfl) ?_
        refine lv_aload hx hb dX1_does_120 (lv_at hl 5 rfl) ?_
        obtain ⟨v122, e122, h⟩ := g_bd h
        refine cg_X1_319 dX1_does_122 S hE hG e122 ?_
        refine lv_if_ne (tgt := 132) hx hb dX1_does_125 (by decide) (fun c125 => ?_) (fun c125 => ?_)
        · have h := g_if c125 h
          refine lv_iconst (v := 0) hx hb dX1_does_132 (by decide) ?_
          exact J133 s0 x0 x1 x2 x3 0 G _ _ _ h hG hS (lv_sub hl [0] rfl)
        · have h := g_it c125 h
          refine lv_iconst (v := 1) hx hb dX1_does_128 (by decide) ?_
          refine lv_goto (tgt := 133) hx hb dX1_does_129 (by decide) ?_
          exact J133 s0 x0 x1 x2 x3 1 G _ _ _ h hG hS (lv_sub hl [0] rfl)
      have h := g_if c45_0 h
      by_cases c45_1 : v42 = 1
      · have h := g_it c45_1 h
        refine lv_tableIn (off := 71) (tgt := 116) hx hb dX1_does_45 (by rw [c45_1]; decide) (by rw [c45_1]; decide) (by rw [c45_1]; rfl) (by decide) ?_
        refine lv_aload_n hx hb dX1_does_116 rfl (lv_at hl 1 rfl) ?_
        refine lv_iload_n hx hb dX1_does_117 rfl (lv_at hl 2 rfl) ?_
        refine lv_aload_n hx hb dX1_does_118 rfl (lv_at hl 3 rfl) ?_
        refine lv_aload_n hx hb dX1_does_119 rfl (lv_at hl 4 rfl) ?_
        refine lv_aload hx hb dX1_does_120 (lv_at hl 5 rfl) ?_
        obtain ⟨v122, e122, h⟩ := g_bd h
        refine cg_X1_319 dX1_does_122 S hE hG e122 ?_
        refine lv_if_ne (tgt := 132) hx hb dX1_does_125 (by decide) (fun c125 => ?_) (fun c125 => ?_)
        · have h := g_if c125 h
          refine lv_iconst (v := 0) hx hb dX1_does_132 (by decide) ?_
          exact J133 s0 x0 x1 x2 x3 0 G _ _ _ h hG hS (lv_sub hl [0] rfl)
        · have h := g_it c125 h
          refine lv_iconst (v := 1) hx hb dX1_does_128 (by decide) ?_
          refine lv_goto (tgt := 133) hx hb dX1_does_129 (by decide) ?_
          exact J133 s0 x0 x1 x2 x3 1 G _ _ _ h hG hS (lv_sub hl [0] rfl)
      have h := g_if c45_1 h
      by_cases c45_2 : v42 = 2
      · have h := g_it c45_2 h
        refine lv_tableIn (off := 94) (tgt := 139) hx hb dX1_does_45 (by rw [c45_2]; decide) (by rw [c45_2]; decide) (by rw [c45_2]; rfl) (by decide) ?_
        refine lv_aload_n hx hb dX1_does_139 rfl (lv_at hl 1 rfl) ?_
        refine lv_iload_n hx hb dX1_does_140 rfl (lv_at hl 2 rfl) ?_
        refine lv_aload_n hx hb dX1_does_141 rfl (lv_at hl 3 rfl) ?_
        refine lv_aload_n hx hb dX1_does_142 rfl (lv_at hl 4 rfl) ?_
        refine lv_aload hx hb dX1_does_143 (lv_at hl 5 rfl) ?_
        obtain ⟨v145, e145, h⟩ := g_bd h
        refine cg_X1_319 dX1_does_145 S hE hG e145 ?_
        refine lv_iconst (v := 2) hx hb dX1_does_148 (by decide) ?_
        refine lv_icmp_ne (tgt := 156) hx hb dX1_does_149 (by decide) (fun c149 => ?_) (fun c149 => ?_)
        · have h := g_if c149 h
          refine lv_iconst (v := 0) hx hb dX1_does_156 (by decide) ?_
          exact J157 s0 x0 x1 x2 x3 0 G _ _ _ h hG hS (lv_sub hl [0] rfl)
        · have h := g_it c149 h
          refine lv_iconst (v := 1) hx hb dX1_does_152 (by decide) ?_
          refine lv_goto (tgt := 157) hx hb dX1_does_153 (by decide) ?_
          exact J157 s0 x0 x1 x2 x3 1 G _ _ _ h hG hS (lv_sub hl [0] rfl)
      have h := g_if c45_2 h
      by_cases c45_3 : v42 = 3
      · have h := g_it c45_3 h
        refine lv_tableIn (off := 94) (tgt := 139) hx hb dX1_does_45 (by rw [c45_3]; decide) (by rw [c45_3]; decide) (by rw [c45_3]; rfl) (by decide) ?_
        refine lv_aload_n hx hb dX1_does_139 rfl (lv_at hl 1 rfl) ?_
        refine lv_iload_n hx hb dX1_does_140 rfl (lv_at hl 2 rfl) ?_
        refine lv_aload_n hx hb dX1_does_141 rfl (lv_at hl 3 rfl) ?_
        refine lv_aload_n hx hb dX1_does_142 rfl (lv_at hl 4 rfl) ?_
        refine lv_aload hx hb dX1_does_143 (lv_at hl 5 rfl) ?_
        obtain ⟨v145, e145, h⟩ := g_bd h
        refine cg_X1_319 dX1_does_145 S hE hG e145 ?_
        refine lv_iconst (v := 2) hx hb dX1_does_148 (by decide) ?_
        refine lv_icmp_ne (tgt := 156) hx hb dX1_does_149 (by decide) (fun c149 => ?_) (fun c149 => ?_)
        · have h := g_if c149 h
          refine lv_iconst (v := 0) hx hb dX1_does_156 (by decide) ?_
          exact J157 s0 x0 x1 x2 x3 0 G _ _ _ h hG hS (lv_sub hl [0] rfl)
        · have h := g_it c149 h
          refine lv_iconst (v := 1) hx hb dX1_does_152 (by decide) ?_
          refine lv_goto (tgt := 157) hx hb dX1_does_153 (by decide) ?_
          exact J157 s0 x0 x1 x2 x3 1 G _ _ _ h hG hS (lv_sub hl [0] rfl)
      have h := g_if c45_3 h
      by_cases c45_4 : v42 = 4
      · have h := g_it c45_4 h
        refine lv_tableIn (off := 118) (tgt := 163) hx hb dX1_does_45 (by rw [c45_4]; decide) (by rw [c45_4]; decide) (by rw [c45_4]; rfl) (by decide) ?_
        refine lv_aload_n hx hb dX1_does_163 rfl (lv_at hl 1 rfl) ?_
        refine lv_iload_n hx hb dX1_does_164 rfl (lv_at hl 2 rfl) ?_
        refine lv_aload_n hx hb dX1_does_165 rfl (lv_at hl 3 rfl) ?_
        refine lv_aload_n hx hb dX1_does_166 rfl (lv_at hl 4 rfl) ?_
        refine lv_aload hx hb dX1_does_167 (lv_at hl 5 rfl) ?_
        obtain ⟨v169, e169, h⟩ := g_bd h
        refine cg_X1_319 dX1_does_169 S hE hG e169 ?_
        refine lv_iload hx hb dX1_does_172 (lv_at hl 0 rfl) ?_
        obtain ⟨u174, t174, h⟩ := g_bd h
        obtain ⟨qx174, e174, h⟩ := g_bd h
        refine c_cV (y := yX1_lasts) (rest := []) dX1_does_174 q2059 q2061 qs50 q119 q2062 hc_X1_lasts rfl S hE hG hS hC0 hl.1 rfl (c_recv hE hG (ci := 8) rfl (by decide) (c_castM t174)) (wm_X1_lasts E l x0 x1 x2 x3 v169 s0 G _ _ e174) rfl (Nat.le_of_ble_eq_true rfl) ⟨Nat.le_of_ble_eq_true rfl, Nat.le_of_ble_eq_true rfl⟩ (fun H locs hG hS => ?_)
        exact c_zretW dX1_does_177 S hr hk hC0 hG hS h
      have h := g_if c45_4 h
      by_cases c45_5 : v42 = 5
      · have h := g_it c45_5 h
        refine lv_tableIn (off := 133) (tgt := 178) hx hb dX1_does_45 (by rw [c45_5]; decide) (by rw [c45_5]; decide) (by rw [c45_5]; rfl) (by decide) ?_
        refine lv_aload_n hx hb dX1_does_178 rfl (lv_at hl 1 rfl) ?_
        refine lv_iload_n hx hb dX1_does_179 rfl (lv_at hl 2 rfl) ?_
        refine lv_aload_n hx hb dX1_does_180 rfl (lv_at hl 3 rfl) ?_
        refine lv_aload_n hx hb dX1_does_181 rfl (lv_at hl 4 rfl) ?_
        obtain ⟨u182, t182, h⟩ := g_bd h
        obtain ⟨qx182, e182, h⟩ := g_bd h
        refine c_cV (y := yX1_unloads) (rest := []) dX1_does_182 q2188 q2190 qs51 q119 q2191 hc_X1_unloads rfl S hE hG hS hC0 hl.1 rfl (c_recv hE hG (ci := 8) rfl (by decide) (c_castM t182)) (wm_X1_unloads E l x0 x1 x2 x3 G _ _ e182) rfl (Nat.le_of_ble_eq_true rfl) ⟨Nat.le_of_ble_eq_true rfl, Nat.le_of_ble_eq_true rfl⟩ (fun H locs hG hS => ?_)
        exact c_zretW dX1_does_185 S hr hk hC0 hG hS h
      have h := g_if c45_5 h
      by_cases c45_6 : v42 = 6
      · have h := g_it c45_6 h
        refine lv_tableIn (off := 118) (tgt := 163) hx hb dX1_does_45 (by rw [c45_6]; decide) (by rw [c45_6]; decide) (by rw [c45_6]; rfl) (by decide) ?_
        refine lv_aload_n hx hb dX1_does_163 rfl (lv_at hl 1 rfl) ?_
        refine lv_iload_n hx hb dX1_does_164 rfl (lv_at hl 2 rfl) ?_
        refine lv_aload_n hx hb dX1_does_165 rfl (lv_at hl 3 rfl) ?_
        refine lv_aload_n hx hb dX1_does_166 rfl (lv_at hl 4 rfl) ?_
        refine lv_aload hx hb dX1_does_167 (lv_at hl 5 rfl) ?_
        obtain ⟨v169, e169, h⟩ := g_bd h
        refine cg_X1_319 dX1_does_169 S hE hG e169 ?_
        refine lv_iload hx hb dX1_does_172 (lv_at hl 0 rfl) ?_
        obtain ⟨u174, t174, h⟩ := g_bd h
        obtain ⟨qx174, e174, h⟩ := g_bd h
        refine c_cV (y := yX1_lasts) (rest := []) dX1_does_174 q2059 q2061 qs50 q119 q2062 hc_X1_lasts rfl S hE hG hS hC0 hl.1 rfl (c_recv hE hG (ci := 8) rfl (by decide) (c_castM t174)) (wm_X1_lasts E l x0 x1 x2 x3 v169 s0 G _ _ e174) rfl (Nat.le_of_ble_eq_true rfl) ⟨Nat.le_of_ble_eq_true rfl, Nat.le_of_ble_eq_true rfl⟩ (fun H locs hG hS => ?_)
        exact c_zretW dX1_does_177 S hr hk hC0 hG hS h
      have h := g_if c45_6 h
      by_cases c45_7 : v42 = 7
      · have h := g_it c45_7 h
        refine lv_tableIn (off := 118) (tgt := 163) hx hb dX1_does_45 (by rw [c45_7]; decide) (by rw [c45_7]; decide) (by rw [c45_7]; rfl) (by decide) ?_
        refine lv_aload_n hx hb dX1_does_163 rfl (lv_at hl 1 rfl) ?_
        refine lv_iload_n hx hb dX1_does_164 rfl (lv_at hl 2 rfl) ?_
        refine lv_aload_n hx hb dX1_does_165 rfl (lv_at hl 3 rfl) ?_
        refine lv_aload_n hx hb dX1_does_166 rfl (lv_at hl 4 rfl) ?_
        refine lv_aload hx hb dX1_does_167 (lv_at hl 5 rfl) ?_
        obtain ⟨v169, e169, h⟩ := g_bd h
        refine cg_X1_319 dX1_does_169 S hE hG e169 ?_
        refine lv_iload hx hb dX1_does_172 (lv_at hl 0 rfl) ?_
        obtain ⟨u174, t174, h⟩ := g_bd h
        obtain ⟨qx174, e174, h⟩ := g_bd h
        refine c_cV (y := yX1_lasts) (rest := []) dX1_does_174 q2059 q2061 qs50 q119 q2062 hc_X1_lasts rfl S hE hG hS hC0 hl.1 rfl (c_recv hE hG (ci := 8) rfl (by decide) (c_castM t174)) (wm_X1_lasts E l x0 x1 x2 x3 v169 s0 G _ _ e174) rfl (Nat.le_of_ble_eq_true rfl) ⟨Nat.le_of_ble_eq_true rfl, Nat.le_of_ble_eq_true rfl⟩ (fun H locs hG hS => ?_)
        exact c_zretW dX1_does_177 S hr hk hC0 hG hS h
      have h := g_if c45_7 h
      by_cases c45_8 : v42 = 8
      · have h := g_it c45_8 h
        refine lv_tableIn (off := 141) (tgt := 186) hx hb dX1_does_45 (by rw [c45_8]; decide) (by rw [c45_8]; decide) (by rw [c45_8]; rfl) (by decide) ?_
        refine lv_aload hx hb dX1_does_186 (lv_at hl 5 rfl) ?_
        obtain ⟨v188, e188, h⟩ := g_bd h
        refine cg_X1_362 dX1_does_188 S hE hG e188 ?_
        refine lv_aload_n hx hb dX1_does_191 rfl (lv_at hl 1 rfl) ?_
        refine lv_aload_n hx hb dX1_does_192 rfl (lv_at hl 3 rfl) ?_
        obtain ⟨b193, eb193, h⟩ := g_bd h
        have rb193 : va_rf v188 = .ref b193 := by rw [eb193]; rfl
        (try rw [rb193] at hl)
        (try rw [rb193])
        obtain ⟨qx193, e193, h⟩ := g_bd h
        refine wd_Cond_holds 60 (wm_S80 E l 60) (rest := []) q2192 dX1_does_193 S hE hG hS hC0 hl.1 e193 rfl (Nat.le_of_ble_eq_true rfl) (by decide) (fun H locs hG hS => ?_)
        refine lv_if_eq (tgt := 219) hx hb dX1_does_196 (by decide) (fun c196 => ?_) (fun c196 => ?_)
        · have h := g_it c196 h
          refine lv_iconst (v := 0) hx hb dX1_does_219 (by decide) ?_
          exact c_zretW dX1_does_220 S hr hk hC0 hG hS h
        · have h := g_if c196 h
          refine lv_aload_n hx hb dX1_does_199 rfl (lv_at hl 1 rfl) ?_
          obtain ⟨v200, e200, h⟩ := g_bd h
          refine cg_X1_327 dX1_does_200 S hE hG e200 ?_
          refine lv_if_ne (tgt := 219) hx hb dX1_does_203 (by decide) (fun c203 => ?_) (fun c203 => ?_)
          · have h := g_if c203 h
            refine lv_iconst (v := 0) hx hb dX1_does_219 (by decide) ?_
            exact c_zretW dX1_does_220 S hr hk hC0 hG hS h
          · have h := g_it c203 h
            refine lv_aload_n hx hb dX1_does_206 rfl (lv_at hl 1 rfl) ?_
            refine lv_iload_n hx hb dX1_does_207 rfl (lv_at hl 2 rfl) ?_
            refine lv_aload_n hx hb dX1_does_208 rfl (lv_at hl 4 rfl) ?_
            obtain ⟨u209, t209, h⟩ := g_bd h
            obtain ⟨qx209, e209, h⟩ := g_bd h
            refine c_cV (y := yX1_done) (rest := []) dX1_does_209 q2051 q2053 qs48 q119 q2054 hc_X1_done rfl S hE hG hS hC0 hl.1 rfl (c_recv hE hG (ci := 8) rfl (by decide) (c_castM t209)) (wm_X1_done E l x0 x1 x3 qx193.2 _ _ e209) rfl (Nat.le_of_ble_eq_true rfl) ⟨Nat.le_of_ble_eq_true rfl, Nat.le_of_ble_eq_true rfl⟩ (fun H locs hG hS => ?_)
            refine lv_if_eq (tgt := 219) hx hb dX1_does_212 (by decide) (fun c212 => ?_) (fun c212 => ?_)
            · have h := g_it c212 h
              refine lv_iconst (v := 0) hx hb dX1_does_219 (by decide) ?_
              exact c_zretW dX1_does_220 S hr hk hC0 hG hS h
            · have h := g_if c212 h
              refine lv_iconst (v := 1) hx hb dX1_does_215 (by decide) ?_
              refine lv_goto (tgt := 220) hx hb dX1_does_216 (by decide) ?_
              exact c_zretW dX1_does_220 S hr hk hC0 hG hS h
      have h := g_if c45_8 h
      by_cases c45_9 : v42 = 9
      · have h := g_it c45_9 h
        refine lv_tableIn (off := 176) (tgt := 221) hx hb dX1_does_45 (by rw [c45_9]; decide) (by rw [c45_9]; decide) (by rw [c45_9]; rfl) (by decide) ?_
        refine lv_aload_n hx hb dX1_does_221 rfl (lv_at hl 1 rfl) ?_
        refine lv_iload_n hx hb dX1_does_222 rfl (lv_at hl 2 rfl) ?_
        refine lv_aload_n hx hb dX1_does_223 rfl (lv_at hl 4 rfl) ?_
        refine lv_aload hx hb dX1_does_224 (lv_at hl 5 rfl) ?_
        obtain ⟨v226, e226, h⟩ := g_bd h
        refine cg_X1_376 dX1_does_226 S hE hG e226 ?_
        obtain ⟨u229, t229, h⟩ := g_bd h
        obtain ⟨qx229, e229, h⟩ := g_bd h
        refine c_cV (y := yX1_claims) (rest := []) dX1_does_229 q2209 q2211 qs52 q119 q2212 hc_X1_claims rfl S hE hG hS hC0 hl.1 rfl (c_recv hE hG (ci := 8) rfl (by decide) (c_castM t229)) (wm_X1_claims E l x0 x1 x3 v226 G _ _ e229) rfl (Nat.le_of_ble_eq_true rfl) ⟨Nat.le_of_ble_eq_true rfl, Nat.le_of_ble_eq_true rfl⟩ (fun H locs hG hS => ?_)
        exact c_zretW dX1_does_232 S hr hk hC0 hG hS h
      have h := g_if c45_9 h
      by_cases c45_10 : v42 = 10
      · have h := g_it c45_10 h
        refine lv_tableIn (off := 188) (tgt := 233) hx hb dX1_does_45 (by rw [c45_10]; decide) (by rw [c45_10]; decide) (by rw [c45_10]; rfl) (by decide) ?_
        refine lv_aload_n hx hb dX1_does_233 rfl (lv_at hl 4 rfl) ?_
        obtain ⟨v234, e234, h⟩ := g_bd h
        refine cg_X1_302 dX1_does_234 S hE hG e234 ?_
        refine lv_aload hx hb dX1_does_237 (lv_at hl 5 rfl) ?_
        obtain ⟨v239, e239, h⟩ := g_bd h
        refine cg_X1_376 dX1_does_239 S hE hG e239 ?_
        obtain ⟨v242, e242, h⟩ := g_bd h
        refine c_aldI dX1_does_242 S hE hG e242 ?_
        refine lv_if_ne (tgt := 251) hx hb dX1_does_243 (by decide) (fun c243 => ?_) (fun c243 => ?_)
        · have h := g_if c243 h
          exact J251 x0 x1 x3 x4 G _ _ _ h hG hS (lv_sub hl [1, 2, 4, 5] rfl)
        · have h := g_it c243 h
          refine lv_aload_n hx hb dX1_does_246 rfl (lv_at hl 1 rfl) ?_
          refine lv_iconst (v := 3) hx hb dX1_does_247 (by decide) ?_
          obtain ⟨G248, e248, h⟩ := g_bd h
          refine cp_X1_327 dX1_does_248 S hE hG hS hC0 e248 (fun H locs hG hS => ?_)
          exact J251 x0 x1 x3 x4 G248 _ _ _ h hG hS (lv_sub hl [1, 2, 4, 5] rfl)
      have h := g_if c45_10 h
      by_cases c45_11 : v42 = 11
      · have h := g_it c45_11 h
        refine lv_tableIn (off := 250) (tgt := 295) hx hb dX1_does_45 (by rw [c45_11]; decide) (by rw [c45_11]; decide) (by rw [c45_11]; rfl) (by decide) ?_
        refine lv_aload_n hx hb dX1_does_295 rfl (lv_at hl 1 rfl) ?_
        obtain ⟨v296, e296, h⟩ := g_bd h
        refine cg_X1_49 dX1_does_296 S hE hG e296 ?_
        refine lv_aload hx hb dX1_does_299 (lv_at hl 5 rfl) ?_
        obtain ⟨v301, e301, h⟩ := g_bd h
        refine cg_X1_376 dX1_does_301 S hE hG e301 ?_
        refine lv_aload hx hb dX1_does_304 (lv_at hl 5 rfl) ?_
        obtain ⟨v306, e306, h⟩ := g_bd h
        refine cg_X1_319 dX1_does_306 S hE hG e306 ?_
        refine lv_bipush (v := 11) hx hb dX1_does_309 (by decide) ?_
        refine lv_icmp_ne (tgt := 318) hx hb dX1_does_311 (by decide) (fun c311 => ?_) (fun c311 => ?_)
        · have h := g_if c311 h
          refine lv_iconst (v := 0) hx hb dX1_does_318 (by decide) ?_
          exact J319 x0 x1 x3 v296 v301 0 G _ _ _ h hG hS (lv_sub hl [1, 2, 4] rfl)
        · have h := g_it c311 h
          refine lv_iconst (v := 1) hx hb dX1_does_314 (by decide) ?_
          refine lv_goto (tgt := 319) hx hb dX1_does_315 (by decide) ?_
          exact J319 x0 x1 x3 v296 v301 1 G _ _ _ h hG hS (lv_sub hl [1, 2, 4] rfl)
      have h := g_if c45_11 h
      by_cases c45_12 : v42 = 12
      · have h := g_it c45_12 h
        refine lv_tableIn (off := 250) (tgt := 295) hx hb dX1_does_45 (by rw [c45_12]; decide) (by rw [c45_12]; decide) (by rw [c45_12]; rfl) (by decide) ?_
        refine lv_aload_n hx hb dX1_does_295 rfl (lv_at hl 1 rfl) ?_
        obtain ⟨v296, e296, h⟩ := g_bd h
        refine cg_X1_49 dX1_does_296 S hE hG e296 ?_
        refine lv_aload hx hb dX1_does_299 (lv_at hl 5 rfl) ?_
        obtain ⟨v301, e301, h⟩ := g_bd h
        refine cg_X1_376 dX1_does_301 S hE hG e301 ?_
        refine lv_aload hx hb dX1_does_304 (lv_at hl 5 rfl) ?_
        obtain ⟨v306, e306, h⟩ := g_bd h
        refine cg_X1_319 dX1_does_306 S hE hG e306 ?_
        refine lv_bipush (v := 11) hx hb dX1_does_309 (by decide) ?_
        refine lv_icmp_ne (tgt := 318) hx hb dX1_does_311 (by decide) (fun c311 => ?_) (fun c311 => ?_)
        · have h := g_if c311 h
          refine lv_iconst (v := 0) hx hb dX1_does_318 (by decide) ?_
          exact J319 x0 x1 x3 v296 v301 0 G _ _ _ h hG hS (lv_sub hl [1, 2, 4] rfl)
        · have h := g_it c311 h
          refine lv_iconst (v := 1) hx hb dX1_does_314 (by decide) ?_
          refine lv_goto (tgt := 319) hx hb dX1_does_315 (by decide) ?_
          exact J319 x0 x1 x3 v296 v301 1 G _ _ _ h hG hS (lv_sub hl [1, 2, 4] rfl)
      have h := g_if c45_12 h
      by_cases c45_13 : v42 = 13
      · have h := g_it c45_13 h
        refine lv_tableIn (off := 282) (tgt := 327) hx hb dX1_does_45 (by rw [c45_13]; decide) (by rw [c45_13]; decide) (by rw [c45_13]; rfl) (by decide) ?_
        refine lv_aload_n hx hb dX1_does_327 rfl (lv_at hl 4 rfl) ?_
        obtain ⟨v328, e328, h⟩ := g_bd h
        refine cg_X1_383 dX1_does_328 S hE hG e328 ?_
        refine lv_aload hx hb dX1_does_331 (lv_at hl 5 rfl) ?_
        obtain ⟨v333, e333, h⟩ := g_bd h
        refine cg_X1_376 dX1_does_333 S hE hG e333 ?_
        refine lv_iload hx hb dX1_does_336 (lv_at hl 0 rfl) ?_
        obtain ⟨G338, e338, h⟩ := g_bd h
        refine c_astI dX1_does_338 S hE hG hS hC0 e338 (fun H locs hG hS => ?_)
        refine lv_aload_n hx hb dX1_does_339 rfl (lv_at hl 1 rfl) ?_
        refine lv_iload_n hx hb dX1_does_340 rfl (lv_at hl 2 rfl) ?_
        refine lv_aload_n hx hb dX1_does_341 rfl (lv_at hl 4 rfl) ?_
        obtain ⟨u342, t342, h⟩ := g_bd h
        obtain ⟨qx342, e342, h⟩ := g_bd h
        refine c_cV (y := yX1_done) (rest := []) dX1_does_342 q2051 q2053 qs48 q119 q2054 hc_X1_done rfl S hE hG hS hC0 hl.1 rfl (c_recv hE hG (ci := 8) rfl (by decide) (c_castM t342)) (wm_X1_done E l x0 x1 x3 G338 _ _ e342) rfl (Nat.le_of_ble_eq_true rfl) ⟨Nat.le_of_ble_eq_true rfl, Nat.le_of_ble_eq_true rfl⟩ (fun H locs hG hS => ?_)
        exact c_zretW dX1_does_345 S hr hk hC0 hG hS h
      have h := g_if c45_13 h
      refine lv_tableOut (tgt := 346) hx hb dX1_does_45 (g_swOut 0 13 (by intro k hk; match k, hk with | 0, _ => exact c45_0 | 1, _ => exact c45_1 | 2, _ => exact c45_2 | 3, _ => exact c45_3 | 4, _ => exact c45_4 | 5, _ => exact c45_5 | 6, _ => exact c45_6 | 7, _ => exact c45_7 | 8, _ => exact c45_8 | 9, _ => exact c45_9 | 10, _ => exact c45_10 | 11, _ => exact c45_11 | 12, _ => exact c45_12 | 13, _ => exact c45_13 | k + 14, hk => exact absurd hk (by omega)) (by decide) (by decide)) (by decide) ?_
      refine lv_aload_n hx hb dX1_does_346 rfl (lv_at hl 1 rfl) ?_
      refine lv_iload_n hx hb dX1_does_347 rfl (lv_at hl 2 rfl) ?_
      refine lv_aload_n hx hb dX1_does_348 rfl (lv_at hl 3 rfl) ?_
      refine lv_aload_n hx hb dX1_does_349 rfl (lv_at hl 4 rfl) ?_
      refine lv_aload hx hb dX1_does_350 (lv_at hl 5 rfl) ?_
      refine lv_iload hx hb dX1_does_352 (lv_at hl 0 rfl) ?_
      obtain ⟨u354, t354, h⟩ := g_bd h
      obtain ⟨qx354, e354, h⟩ := g_bd h
      refine c_cV (y := yX1_turns) (rest := []) dX1_does_354 q2213 q2215 qs53 q119 q2216 hc_X1_turns rfl S hE hG hS hC0 hl.1 rfl (c_recv hE hG (ci := 8) rfl (by decide) (c_castM t354)) (wm_X1_turns E l x0 x1 x2 x3 x4 s0 G _ _ e354) rfl (Nat.le_of_ble_eq_true rfl) ⟨Nat.le_of_ble_eq_true rfl, Nat.le_of_ble_eq_true rfl⟩ (fun H locs hG hS => ?_)
      exact c_zretW dX1_does_357 S hr hk hC0 hG hS h
    · have h := g_if c35 h
      refine lv_iconst (v := 1) hx hb dX1_does_38 (by decide) ?_
      exact c_zretW dX1_does_39 S hr hk hC0 hG hS h
  have J15 : ∀ (x0 : Nat) (x1 : Int32) (x2 : Nat) (x3 : Nat) (x4 : Nat) (G : GH) (H : Heap) (locs : List Loc) (ls : Array Slot), cm_X1_does_J15 x0 x1 x2 x3 x4 G = some (r, G') → gC E G H → va_S (gx_C E) s.heap H locs → lv_has ls 6 [(0, .ref x0), (1, .int x1), (2, .ref x2), (3, .ref x3), (4, .ref x4)] → WC E p l e (gRm 129 (cBx Gz) (cBs Gz)) s m args below meth c H locs (MQ below (gQ (some (.int r)) (gC E G') (gx_C E)) args s (cBx Gz) (cBs Gz) (gx_C E)) (F0 m 15 ls []) := by
    intro x0 x1 x2 x3 x4 G H locs ls h hG hS hl
    unfold cm_X1_does_J15 at h
    refine lv_iconst (v := 0) hx hb dX1_does_15 (by decide) ?_
    refine lv_goto (tgt := 29) hx hb dX1_does_16 (by decide) ?_
    exact J29 x0 x1 x2 x3 x4 0 G _ _ _ h hG hS (lv_sub hl [0, 1, 2, 3, 4] rfl)
  unfold cm_X1_does at h
  refine lv_aload hx hb dX1_does_0 (lv_at hl 4 rfl) ?_
  obtain ⟨v2, e2, h⟩ := g_bd h
  refine cg_X1_337 dX1_does_2 S hE hG e2 ?_
  refine c_ifnull (tgt := 15) hx hb dX1_does_5 (by decide) (fun c5 => ?_) (fun c5 => ?_)
  · have h := g_it c5 h
    exact J15 x0 x1 x2 x3 x4 Gz _ _ _ h hG hS (lv_sub hl [0, 1, 2, 3, 4] rfl)
  · have h := g_if c5 h
    refine lv_aload_n hx hb dX1_does_8 rfl (lv_at hl 3 rfl) ?_
    obtain ⟨v9, e9, h⟩ := g_bd h
    refine cg_X1_294 dX1_does_9 S hE hG e9 ?_
    refine lv_if_eq (tgt := 19) hx hb dX1_does_12 (by decide) (fun c12 => ?_) (fun c12 => ?_)
    · have h := g_it c12 h
      refine lv_aload hx hb dX1_does_19 (lv_at hl 4 rfl) ?_
      obtain ⟨v21, e21, h⟩ := g_bd h
      refine cg_X1_337 dX1_does_21 S hE hG e21 ?_
      refine lv_aload_n hx hb dX1_does_24 rfl (lv_at hl 0 rfl) ?_
      refine lv_aload_n hx hb dX1_does_25 rfl (lv_at hl 2 rfl) ?_
      obtain ⟨b26, eb26, h⟩ := g_bd h
      have rb26 : va_rf v21 = .ref b26 := by rw [eb26]; rfl
      (try rw [rb26] at hl)
      (try rw [rb26])
      obtain ⟨qx26, e26, h⟩ := g_bd h
      refine wd_Expr_of 60 (wm_S60 E l 60) (rest := []) q2019 dX1_does_26 S hE hG hS hC0 hl.1 e26 rfl (Nat.le_of_ble_eq_true rfl) (by decide) (fun H locs hG hS => ?_)
      exact J29 x0 x1 x2 x3 x4 qx26.1 qx26.2 _ _ _ h hG hS (lv_sub hl [0, 1, 2, 3, 4] rfl)
    · have h := g_if c12 h
      exact J15 x0 x1 x2 x3 x4 Gz _ _ _ h hG hS (lv_sub hl [0, 1, 2, 3, 4] rfl)
theorem hc_X1_fault : cHd yX1_fault 1 := by decide +kernel
set_option maxHeartbeats 4000000 in
set_option maxRecDepth 100000 in
theorem wm_X1_fault (E : gX) (l : Launch) (hl9 : l.stackTraces = false) (x0 : Nat) (x1 : Int32) (Gz : GH) (r : (GX Int32)) (h : cm_X1_fault x0 x1 Gz = some r) : gMetX E l yX1_fault cX1_fault 2 (some Jvm.ClassFile.FieldType.int) 8 [.ref x0, .int x1] Gz (gRs (fun r => some (.int r)) r) := by
  refine gMetX.of (own := RX1) (by decide +kernel) (Nat.le_of_ble_eq_true rfl) rfl ?_
  intro p e s m args below meth c S hr hk hx9 hE hC0 hG hS ls hl
  have hl : lv_has ls 2 [(0, .ref x0), (1, .int x1)] := hl
  have hx := S.1
  have hb := S.2.1
  have J14 : ∀ (x0 : Nat) (x1 : Int32) (s0 : Int32) (G : GH) (H : Heap) (locs : List Loc) (ls : Array Slot), cm_X1_fault_J14 x0 x1 s0 G = some r → gC E G H → va_S (gx_C E) s.heap H locs → lv_has ls 2 [(0, .ref x0), (1, .int x1)] → WC E p l e (gRm 8 (cBx Gz) (cBs Gz)) s m args below meth c H locs (gXMQ E below (gRs (fun r => some (.int r)) r) args s Gz) (F0 m 14 ls [.int s0]) := by
    intro x0 x1 s0 G H locs ls h hG hS hl
    unfold cm_X1_fault_J14 at h
    rcases gXb_e h with ⟨qx14, e14, h⟩ | ⟨xx14, e14, rfl⟩
    rotate_left
    · exact c_xS (r := .inr xx14) (y := yX1_there) (rest := []) dX1_fault_14 q1896 q1897 q119 q1898 hc_X1_there S hE hG hS hC0 hl.1 rfl (wm_X1_there E l hl9 s0 G _ e14) rfl (Nat.le_of_ble_eq_true rfl) ⟨Nat.le_of_ble_eq_true rfl, Nat.le_of_ble_eq_true rfl⟩ (fun hr9 => c_xthrew hC0 hr9 hS (fun H locs ce hG hS h1 h2 h3 => c_xout rfl hx9 hk hC0 hG hS h1 h2 h3))
    refine c_xS (r := .inl (none, qx14.2)) (y := yX1_there) (rest := []) dX1_fault_14 q1896 q1897 q119 q1898 hc_X1_there S hE hG hS hC0 hl.1 rfl (wm_X1_there E l hl9 s0 G _ e14) rfl (Nat.le_of_ble_eq_true rfl) ⟨Nat.le_of_ble_eq_true rfl, Nat.le_of_ble_eq_true rfl⟩ (fun hr9 => c_xback hC0 hr9 hS (fun H locs hG hS => ?_))
    refine lv_iload_n hx hb dX1_fault_17 rfl (lv_at hl 1 rfl) ?_
    refine lv_if_ne (tgt := 28) hx hb dX1_fault_18 (by decide) (fun c18 => ?_) (fun c18 => ?_)
    · have h := g_if c18 h
      refine lv_aload_n hx hb dX1_fault_28 rfl (lv_at hl 0 rfl) ?_
      obtain ⟨v29, e29, h⟩ := g_bd h
      refine cg_X1_41 dX1_fault_29 S hE hG e29 ?_
      cases h
      exact c_xret (v := some (.int v29)) (G1 := qx14.2) rfl (c_iretW dX1_fault_32 S hr hk hC0 hG hS rfl)
    · have h := g_it c18 h
      refine lv_aload_n hx hb dX1_fault_21 rfl (lv_at hl 0 rfl) ?_
      obtain ⟨v22, e22, h⟩ := g_bd h
      refine cg_X1_79 dX1_fault_22 S hE hG e22 ?_
      refine lv_goto (tgt := 32) hx hb dX1_fault_25 (by decide) ?_
      cases h
      exact c_xret (v := some (.int v22)) (G1 := qx14.2) rfl (c_iretW dX1_fault_32 S hr hk hC0 hG hS rfl)
  have J9 : ∀ (x0 : Nat) (x1 : Int32) (G : GH) (H : Heap) (locs : List Loc) (ls : Array Slot), cm_X1_fault_J9 x0 x1 G = some r → gC E G H → va_S (gx_C E) s.heap H locs → lv_has ls 2 [(0, .ref x0), (1, .int x1)] → WC E p l e (gRm 8 (cBx Gz) (cBs Gz)) s m args below meth c H locs (gXMQ E below (gRs (fun r => some (.int r)) r) args s Gz) (F0 m 9 ls []) := by
    intro x0 x1 G H locs ls h hG hS hl
    unfold cm_X1_fault_J9 at h
    refine lv_iconst (v := 1) hx hb dX1_fault_9 (by decide) ?_
    refine lv_goto (tgt := 14) hx hb dX1_fault_10 (by decide) ?_
    exact J14 x0 x1 1 G _ _ _ h hG hS (lv_sub hl [0, 1] rfl)
  unfold cm_X1_fault at h
  refine lv_iload_n hx hb dX1_fault_0 rfl (lv_at hl 1 rfl) ?_
  refine lv_if_eq (tgt := 9) hx hb dX1_fault_1 (by decide) (fun c1 => ?_) (fun c1 => ?_)
  · have h := g_it c1 h
    exact J9 x0 x1 Gz _ _ _ h hG hS (lv_sub hl [0, 1] rfl)
  · have h := g_if c1 h
    refine lv_iload_n hx hb dX1_fault_4 rfl (lv_at hl 1 rfl) ?_
    refine lv_iconst (v := 1) hx hb dX1_fault_5 (by decide) ?_
    refine lv_icmp_ne (tgt := 13) hx hb dX1_fault_6 (by decide) (fun c6 => ?_) (fun c6 => ?_)
    · have h := g_if c6 h
      refine lv_iconst (v := 0) hx hb dX1_fault_13 (by decide) ?_
      exact J14 x0 x1 0 Gz _ _ _ h hG hS (lv_sub hl [0, 1] rfl)
    · have h := g_it c6 h
      exact J9 x0 x1 Gz _ _ _ h hG hS (lv_sub hl [0, 1] rfl)
theorem hc_X1_put : cHd yX1_put 1 := by decide +kernel
set_option maxHeartbeats 4000000 in
set_option maxRecDepth 100000 in
theorem wm_X1_put (E : gX) (l : Launch) (x0 : Nat) (x1 : Int32) (Gz G' : GH) (h : cm_X1_put x0 x1 Gz = some G') : gMetC E l yX1_put cX1_put 3 none 2 [.ref x0, .int x1] Gz G' none := by
  refine gMetC.of (own := RX1) (by decide +kernel) (Nat.le_of_ble_eq_true rfl) rfl ?_
  intro p e s m args below meth c S hr hk hnm hE hC0 hG hS ls hl
  have hl : lv_has ls 3 [(0, .ref x0), (1, .int x1)] := hl
  have hx := S.1
  have hb := S.2.1
  have L3 : ∀ (n : Nat) (x0 : Nat) (x1 : Int32) (x2 : Int32) (G : GH) (H : Heap) (locs : List Loc) (ls : Array Slot), cm_X1_put_L3 n x0 x1 x2 G = some G' → gC E G H → va_S (gx_C E) s.heap H locs → lv_has ls 3 [(0, .ref x0), (1, .int x1), (2, .int x2)] → WC E p l e (gRm 2 (cBx Gz) (cBs Gz)) s m args below meth c H locs (MQ below (gQ none (gC E G') (gx_C E)) args s (cBx Gz) (cBs Gz) (gx_C E)) (F0 m 3 ls []) := by
    intro n3
    induction n3 with
    | zero =>
      intro x0 x1 x2 G H locs ls h
      cases h
    | succ n3 ih3 =>
      intro x0 x1 x2 G H locs ls h hG hS hl
      have h : cm_X1_put_B3 (cm_X1_put_L3 n3) x0 x1 x2 G = some G' := h
      unfold cm_X1_put_B3 at h
      refine lv_iload_n hx hb dX1_put_3 rfl (lv_at hl 2 rfl) ?_
      refine lv_if_lt (tgt := 36) hx hb dX1_put_4 (by decide) (fun c4 => ?_) (fun c4 => ?_)
      · have h := g_it c4 h
        exact c_vretW dX1_put_36 S hr hk hC0 hG hS h
      · have h := g_if c4 h
        refine lv_aload_n hx hb dX1_put_7 rfl (lv_at hl 0 rfl) ?_
        obtain ⟨v8, e8, h⟩ := g_bd h
        refine cg_X1_37 dX1_put_8 S hE hG e8 ?_
        refine lv_aload_n hx hb dX1_put_11 rfl (lv_at hl 0 rfl) ?_
        obtain ⟨v12, e12, h⟩ := g_bd h
        refine cg_X1_65 dX1_put_12 S hE hG e12 ?_
        refine lv_iload_n hx hb dX1_put_15 rfl (lv_at hl 1 rfl) ?_
        refine lv_iload_n hx hb dX1_put_16 rfl (lv_at hl 2 rfl) ?_
        refine lv_ishr hx hb dX1_put_17 ?_
        refine lv_i2b (v := (x1 >>> (x2 &&& 31)).toInt8.toInt32) hx hb dX1_put_18 rfl ?_
        obtain ⟨G19, e19, h⟩ := g_bd h
        refine c_astB dX1_put_19 S hE hG hS hC0 e19 (fun H locs hG hS => ?_)
        refine lv_aload_n hx hb dX1_put_20 rfl (lv_at hl 0 rfl) ?_
        refine lv_dup hx hb dX1_put_21 rfl ?_
        obtain ⟨v22, e22, h⟩ := g_bd h
        refine cg_X1_65 dX1_put_22 S hE hG e22 ?_
        refine lv_iconst (v := 1) hx hb dX1_put_25 (by decide) ?_
        refine lv_iadd hx hb dX1_put_26 ?_
        obtain ⟨G27, e27, h⟩ := g_bd h
        refine cp_X1_65 dX1_put_27 S hE hG hS hC0 e27 (fun H locs hG hS => ?_)
        refine lv_iinc (k := 2) (v := (x2 + (-8))) (lv' := [(2, .int (x2 + (-8))), (0, .ref x0), (1, .int x1)]) hx hb dX1_put_30 hl rfl rfl (by decide) rfl (fun ls hl => ?_)
        refine lv_goto (tgt := 3) hx hb dX1_put_33 (by decide) ?_
        exact ih3 x0 x1 (x2 + (-8)) G27 _ _ _ h hG hS (lv_sub hl [1, 2, 0] rfl)
  unfold cm_X1_put at h
  refine lv_bipush (v := 24) hx hb dX1_put_0 (by decide) ?_
  refine lv_istore_n (lv' := [(2, .int 24), (0, .ref x0), (1, .int x1)]) hx hb dX1_put_2 rfl hl (by decide) rfl (fun ls hl => ?_)
  exact L3 gF x0 x1 24 Gz _ _ _ h hG hS (lv_sub hl [1, 2, 0] rfl)
theorem hc_X1_feed : cHd yX1_feed 5 := by decide +kernel
set_option maxHeartbeats 4000000 in
set_option maxRecDepth 100000 in
theorem wm_X1_feed (E : gX) (l : Launch) (x0 : Nat) (x1 : Int32) (x2 : Int32) (x3 : Int32) (x4 : Int32) (x5 : Int32) (Gz G' : GH) (r : Int32) (h : cm_X1_feed x0 x1 x2 x3 x4 x5 Gz = some (r, G')) : gMetC E l yX1_feed cX1_feed 6 (some Jvm.ClassFile.FieldType.int) 3 [.ref x0, .int x1, .int x2, .int x3, .int x4, .int x5] Gz G' (some (.int r)) := by
  refine gMetC.of (own := RX1) (by decide +kernel) (Nat.le_of_ble_eq_true rfl) rfl ?_
  intro p e s m args below meth c S hr hk hnm hE hC0 hG hS ls hl
  have hl : lv_has ls 6 [(0, .ref x0), (1, .int x1), (2, .int x2), (3, .int x3), (4, .int x4), (5, .int x5)] := hl
  have hx := S.1
  have hb := S.2.1
  unfold cm_X1_feed at h
  refine lv_aload_n hx hb dX1_feed_0 rfl (lv_at hl 0 rfl) ?_
  obtain ⟨v1, e1, h⟩ := g_bd h
  refine cg_X1_65 dX1_feed_1 S hE hG e1 ?_
  refine lv_bipush (v := 20) hx hb dX1_feed_4 (by decide) ?_
  refine lv_iadd hx hb dX1_feed_6 ?_
  refine lv_sipush (v := 4000) hx hb dX1_feed_7 (by decide) ?_
  refine lv_icmp_le (tgt := 15) hx hb dX1_feed_10 (by decide) (fun c10 => ?_) (fun c10 => ?_)
  · have h := g_it c10 h
    refine lv_aload_n hx hb dX1_feed_15 rfl (lv_at hl 0 rfl) ?_
    refine lv_iload_n hx hb dX1_feed_16 rfl (lv_at hl 1 rfl) ?_
    obtain ⟨u17, t17, h⟩ := g_bd h
    obtain ⟨G17, e17, h⟩ := g_bd h
    refine c_cV (y := yX1_put) (rest := []) dX1_feed_17 q252 q254 qs0 q119 q255 hc_X1_put rfl S hE hG hS hC0 hl.1 rfl (c_recv hE hG (ci := 8) rfl (by decide) (c_castM t17)) (wm_X1_put E l x0 x1 Gz _ e17) rfl (Nat.le_of_ble_eq_true rfl) ⟨Nat.le_of_ble_eq_true rfl, Nat.le_of_ble_eq_true rfl⟩ (fun H locs hG hS => ?_)
    refine lv_aload_n hx hb dX1_feed_20 rfl (lv_at hl 0 rfl) ?_
    refine lv_iload_n hx hb dX1_feed_21 rfl (lv_at hl 2 rfl) ?_
    obtain ⟨u22, t22, h⟩ := g_bd h
    obtain ⟨G22, e22, h⟩ := g_bd h
    refine c_cV (y := yX1_put) (rest := []) dX1_feed_22 q252 q254 qs0 q119 q255 hc_X1_put rfl S hE hG hS hC0 hl.1 rfl (c_recv hE hG (ci := 8) rfl (by decide) (c_castM t22)) (wm_X1_put E l x0 x2 G17 _ e22) rfl (Nat.le_of_ble_eq_true rfl) ⟨Nat.le_of_ble_eq_true rfl, Nat.le_of_ble_eq_true rfl⟩ (fun H locs hG hS => ?_)
    refine lv_aload_n hx hb dX1_feed_25 rfl (lv_at hl 0 rfl) ?_
    refine lv_iload_n hx hb dX1_feed_26 rfl (lv_at hl 3 rfl) ?_
    obtain ⟨u27, t27, h⟩ := g_bd h
    obtain ⟨G27, e27, h⟩ := g_bd h
    refine c_cV (y := yX1_put) (rest := []) dX1_feed_27 q252 q254 qs0 q119 q255 hc_X1_put rfl S hE hG hS hC0 hl.1 rfl (c_recv hE hG (ci := 8) rfl (by decide) (c_castM t27)) (wm_X1_put E l x0 x3 G22 _ e27) rfl (Nat.le_of_ble_eq_true rfl) ⟨Nat.le_of_ble_eq_true rfl, Nat.le_of_ble_eq_true rfl⟩ (fun H locs hG hS => ?_)
    refine lv_aload_n hx hb dX1_feed_30 rfl (lv_at hl 0 rfl) ?_
    refine lv_iload hx hb dX1_feed_31 (lv_at hl 4 rfl) ?_
    obtain ⟨u33, t33, h⟩ := g_bd h
    obtain ⟨G33, e33, h⟩ := g_bd h
    refine c_cV (y := yX1_put) (rest := []) dX1_feed_33 q252 q254 qs0 q119 q255 hc_X1_put rfl S hE hG hS hC0 hl.1 rfl (c_recv hE hG (ci := 8) rfl (by decide) (c_castM t33)) (wm_X1_put E l x0 x4 G27 _ e33) rfl (Nat.le_of_ble_eq_true rfl) ⟨Nat.le_of_ble_eq_true rfl, Nat.le_of_ble_eq_true rfl⟩ (fun H locs hG hS => ?_)
    refine lv_aload_n hx hb dX1_feed_36 rfl (lv_at hl 0 rfl) ?_
    refine lv_iload hx hb dX1_feed_37 (lv_at hl 5 rfl) ?_
    obtain ⟨u39, t39, h⟩ := g_bd h
    obtain ⟨G39, e39, h⟩ := g_bd h
    refine c_cV (y := yX1_put) (rest := []) dX1_feed_39 q252 q254 qs0 q119 q255 hc_X1_put rfl S hE hG hS hC0 hl.1 rfl (c_recv hE hG (ci := 8) rfl (by decide) (c_castM t39)) (wm_X1_put E l x0 x5 G33 _ e39) rfl (Nat.le_of_ble_eq_true rfl) ⟨Nat.le_of_ble_eq_true rfl, Nat.le_of_ble_eq_true rfl⟩ (fun H locs hG hS => ?_)
    refine lv_aload_n hx hb dX1_feed_42 rfl (lv_at hl 0 rfl) ?_
    obtain ⟨v43, e43, h⟩ := g_bd h
    refine cg_X1_65 dX1_feed_43 S hE hG e43 ?_
    exact c_iretW dX1_feed_46 S hr hk hC0 hG hS h
  · have h := g_if c10 h
    refine lv_iconst (v := (-1)) hx hb dX1_feed_13 (by decide) ?_
    exact c_iretW dX1_feed_14 S hr hk hC0 hG hS h
theorem hc_X1_free : cHd yX1_free 1 := by decide +kernel
set_option maxHeartbeats 4000000 in
set_option maxRecDepth 100000 in
theorem wm_X1_free (E : gX) (l : Launch) (hl9 : l.stackTraces = false) (x0 : Nat) (x1 : Int32) (Gz : GH) (r : (GX Int32)) (h : cm_X1_free x0 x1 Gz = some r) : gMetX E l yX1_free cX1_free 2 (some Jvm.ClassFile.FieldType.int) 8 [.ref x0, .int x1] Gz (gRs (fun r => some (.int r)) r) := by
  refine gMetX.of (own := RX1) (by decide +kernel) (Nat.le_of_ble_eq_true rfl) rfl ?_
  intro p e s m args below meth c S hr hk hx9 hE hC0 hG hS ls hl
  have hl : lv_has ls 2 [(0, .ref x0), (1, .int x1)] := hl
  have hx := S.1
  have hb := S.2.1
  have J24 : ∀ (x0 : Nat) (x1 : Int32) (s0 : Int32) (G : GH) (H : Heap) (locs : List Loc) (ls : Array Slot), cm_X1_free_J24 x0 x1 s0 G = some r → gC E G H → va_S (gx_C E) s.heap H locs → lv_has ls 2 [(0, .ref x0), (1, .int x1)] → WC E p l e (gRm 8 (cBx Gz) (cBs Gz)) s m args below meth c H locs (gXMQ E below (gRs (fun r => some (.int r)) r) args s Gz) (F0 m 24 ls [.int s0]) := by
    intro x0 x1 s0 G H locs ls h hG hS hl
    unfold cm_X1_free_J24 at h
    rcases gXb_e h with ⟨qx24, e24, h⟩ | ⟨xx24, e24, rfl⟩
    rotate_left
    · exact c_xS (r := .inr xx24) (y := yX1_there) (rest := []) dX1_free_24 q1896 q1897 q119 q1898 hc_X1_there S hE hG hS hC0 hl.1 rfl (wm_X1_there E l hl9 s0 G _ e24) rfl (Nat.le_of_ble_eq_true rfl) ⟨Nat.le_of_ble_eq_true rfl, Nat.le_of_ble_eq_true rfl⟩ (fun hr9 => c_xthrew hC0 hr9 hS (fun H locs ce hG hS h1 h2 h3 => c_xout rfl hx9 hk hC0 hG hS h1 h2 h3))
    refine c_xS (r := .inl (none, qx24.2)) (y := yX1_there) (rest := []) dX1_free_24 q1896 q1897 q119 q1898 hc_X1_there S hE hG hS hC0 hl.1 rfl (wm_X1_there E l hl9 s0 G _ e24) rfl (Nat.le_of_ble_eq_true rfl) ⟨Nat.le_of_ble_eq_true rfl, Nat.le_of_ble_eq_true rfl⟩ (fun hr9 => c_xback hC0 hr9 hS (fun H locs hG hS => ?_))
    refine lv_aload_n hx hb dX1_free_27 rfl (lv_at hl 0 rfl) ?_
    obtain ⟨v28, e28, h⟩ := g_bd h
    refine cg_X1_45 dX1_free_28 S hE hG e28 ?_
    refine lv_iload_n hx hb dX1_free_31 rfl (lv_at hl 1 rfl) ?_
    obtain ⟨v32, e32, h⟩ := g_bd h
    refine c_aldI dX1_free_32 S hE hG e32 ?_
    cases h
    exact c_xret (v := some (.int v32)) (G1 := qx24.2) rfl (c_iretW dX1_free_33 S hr hk hC0 hG hS rfl)
  have J23 : ∀ (x0 : Nat) (x1 : Int32) (G : GH) (H : Heap) (locs : List Loc) (ls : Array Slot), cm_X1_free_J23 x0 x1 G = some r → gC E G H → va_S (gx_C E) s.heap H locs → lv_has ls 2 [(0, .ref x0), (1, .int x1)] → WC E p l e (gRm 8 (cBx Gz) (cBs Gz)) s m args below meth c H locs (gXMQ E below (gRs (fun r => some (.int r)) r) args s Gz) (F0 m 23 ls []) := by
    intro x0 x1 G H locs ls h hG hS hl
    unfold cm_X1_free_J23 at h
    refine lv_iconst (v := 0) hx hb dX1_free_23 (by decide) ?_
    exact J24 x0 x1 0 G _ _ _ h hG hS (lv_sub hl [0, 1] rfl)
  unfold cm_X1_free at h
  refine lv_aload_n hx hb dX1_free_0 rfl (lv_at hl 0 rfl) ?_
  obtain ⟨u1, t1, h⟩ := g_bd h
  rcases gXb_e h with ⟨qx1, e1, h⟩ | ⟨xx1, e1, rfl⟩
  rotate_left
  · exact c_xV (r := .inr xx1) (y := yX1_isFair) (rest := []) dX1_free_1 q1929 q1931 qs39 q119 q1932 hc_X1_isFair rfl S hE hG hS hC0 hl.1 rfl (c_recv hE hG (ci := 8) rfl (by decide) (c_castM t1)) (wm_X1_isFair E l hl9 x0 Gz _ e1) rfl (Nat.le_of_ble_eq_true rfl) ⟨Nat.le_of_ble_eq_true rfl, Nat.le_of_ble_eq_true rfl⟩ (fun hr9 => c_xthrew hC0 hr9 hS (fun H locs ce hG hS h1 h2 h3 => c_xout rfl hx9 hk hC0 hG hS h1 h2 h3))
  refine c_xV (r := .inl (none, qx1.2)) (y := yX1_isFair) (rest := []) dX1_free_1 q1929 q1931 qs39 q119 q1932 hc_X1_isFair rfl S hE hG hS hC0 hl.1 rfl (c_recv hE hG (ci := 8) rfl (by decide) (c_castM t1)) (wm_X1_isFair E l hl9 x0 Gz _ e1) rfl (Nat.le_of_ble_eq_true rfl) ⟨Nat.le_of_ble_eq_true rfl, Nat.le_of_ble_eq_true rfl⟩ (fun hr9 => c_xback hC0 hr9 hS (fun H locs hG hS => ?_))
  refine lv_iload_n hx hb dX1_free_4 rfl (lv_at hl 1 rfl) ?_
  refine lv_if_lt (tgt := 23) hx hb dX1_free_5 (by decide) (fun c5 => ?_) (fun c5 => ?_)
  · have h := g_it c5 h
    exact J23 x0 x1 qx1.2 _ _ _ h hG hS (lv_sub hl [0, 1] rfl)
  · have h := g_if c5 h
    refine lv_iload_n hx hb dX1_free_8 rfl (lv_at hl 1 rfl) ?_
    refine lv_aload_n hx hb dX1_free_9 rfl (lv_at hl 0 rfl) ?_
    obtain ⟨v10, e10, h⟩ := g_bd h
    refine cg_X1_75 dX1_free_10 S hE hG e10 ?_
    obtain ⟨b13, eb13, h⟩ := g_bd h
    have rb13 : va_rf v10 = .ref b13 := by rw [eb13]; rfl
    (try rw [rb13] at hl)
    (try rw [rb13])
    obtain ⟨v13, e13, h⟩ := g_bd h
    refine cg_X1_113 dX1_free_13 S hE hG e13 ?_
    refine lv_icmp_ge (tgt := 23) hx hb dX1_free_16 (by decide) (fun c16 => ?_) (fun c16 => ?_)
    · have h := g_it c16 h
      exact J23 x0 x1 qx1.2 _ _ _ h hG hS (lv_sub hl [0, 1] rfl)
    · have h := g_if c16 h
      refine lv_iconst (v := 1) hx hb dX1_free_19 (by decide) ?_
      refine lv_goto (tgt := 24) hx hb dX1_free_20 (by decide) ?_
      exact J24 x0 x1 1 qx1.2 _ _ _ h hG hS (lv_sub hl [0, 1] rfl)
theorem hc_X8_falls : cHd yX8_falls 0 := by decide +kernel
set_option maxHeartbeats 4000000 in
set_option maxRecDepth 100000 in
theorem wm_X8_falls (E : gX) (l : Launch) (x0 : Nat) (Gz G' : GH) (r : Int32) (h : cm_X8_falls x0 Gz = some (r, G')) : gMetC E l yX8_falls cX8_falls 1 (some Jvm.ClassFile.FieldType.boolean) 2 [.ref x0] Gz G' (some (.int r)) := by
  refine gMetC.of (own := RX8) (by decide +kernel) (Nat.le_of_ble_eq_true rfl) rfl ?_
  intro p e s m args below meth c S hr hk hnm hE hC0 hG hS ls hl
  have hl : lv_has ls 1 [(0, .ref x0)] := hl
  have hx := S.1
  have hb := S.2.1
  have L0 : ∀ (n : Nat) (x0 : Nat) (G : GH) (H : Heap) (locs : List Loc) (ls : Array Slot), cm_X8_falls_L0 n x0 G = some (r, G') → gC E G H → va_S (gx_C E) s.heap H locs → lv_has ls 1 [(0, .ref x0)] → WC E p l e (gRm 2 (cBx Gz) (cBs Gz)) s m args below meth c H locs (MQ below (gQ (some (.int r)) (gC E G') (gx_C E)) args s (cBx Gz) (cBs Gz) (gx_C E)) (F0 m 0 ls []) := by
    intro n0
    induction n0 with
    | zero =>
      intro x0 G H locs ls h
      cases h
    | succ n0 ih0 =>
      intro x0 G H locs ls h hG hS hl
      have h : cm_X8_falls_B0 (cm_X8_falls_L0 n0) x0 G = some (r, G') := h
      unfold cm_X8_falls_B0 at h
      refine lv_aload_n hx hb dX8_falls_0 rfl (lv_at hl 0 rfl) ?_
      obtain ⟨v1, e1, h⟩ := g_bd h
      refine cg_X8_53 dX8_falls_1 S hE hG e1 ?_
      refine lv_if_le (tgt := 52) hx hb dX8_falls_4 (by decide) (fun c4 => ?_) (fun c4 => ?_)
      · have h := g_it c4 h
        refine lv_iconst (v := 0) hx hb dX8_falls_52 (by decide) ?_
        exact c_zretW dX8_falls_53 S hr hk hC0 hG hS h
      · have h := g_if c4 h
        refine lv_aload_n hx hb dX8_falls_7 rfl (lv_at hl 0 rfl) ?_
        refine lv_dup hx hb dX8_falls_8 rfl ?_
        obtain ⟨v9, e9, h⟩ := g_bd h
        refine cg_X8_53 dX8_falls_9 S hE hG e9 ?_
        refine lv_iconst (v := 1) hx hb dX8_falls_12 (by decide) ?_
        refine lv_isub hx hb dX8_falls_13 ?_
        obtain ⟨G14, e14, h⟩ := g_bd h
        refine cp_X8_53 dX8_falls_14 S hE hG hS hC0 e14 (fun H locs hG hS => ?_)
        refine lv_aload_n hx hb dX8_falls_17 rfl (lv_at hl 0 rfl) ?_
        obtain ⟨v18, e18, h⟩ := g_bd h
        refine cg_X8_31 dX8_falls_18 S hE hG e18 ?_
        refine lv_aload_n hx hb dX8_falls_21 rfl (lv_at hl 0 rfl) ?_
        obtain ⟨v22, e22, h⟩ := g_bd h
        refine cg_X8_53 dX8_falls_22 S hE hG e22 ?_
        obtain ⟨v25, e25, h⟩ := g_bd h
        refine c_aldB dX8_falls_25 S hE hG e25 ?_
        refine lv_if_ne (tgt := 32) hx hb dX8_falls_26 (by decide) (fun c26 => ?_) (fun c26 => ?_)
        · have h := g_if c26 h
          refine lv_aload_n hx hb dX8_falls_32 rfl (lv_at hl 0 rfl) ?_
          refine lv_aload_n hx hb dX8_falls_33 rfl (lv_at hl 0 rfl) ?_
          obtain ⟨v34, e34, h⟩ := g_bd h
          refine cg_X8_28 dX8_falls_34 S hE hG e34 ?_
          refine lv_aload_n hx hb dX8_falls_37 rfl (lv_at hl 0 rfl) ?_
          obtain ⟨v38, e38, h⟩ := g_bd h
          refine cg_X8_53 dX8_falls_38 S hE hG e38 ?_
          obtain ⟨v41, e41, h⟩ := g_bd h
          refine c_aldI dX8_falls_41 S hE hG e41 ?_
          obtain ⟨G42, e42, h⟩ := g_bd h
          refine cp_X8_43 dX8_falls_42 S hE hG hS hC0 e42 (fun H locs hG hS => ?_)
          refine lv_aload_n hx hb dX8_falls_45 rfl (lv_at hl 0 rfl) ?_
          refine lv_iconst (v := 0) hx hb dX8_falls_46 (by decide) ?_
          obtain ⟨G47, e47, h⟩ := g_bd h
          refine cp_X8_56 dX8_falls_47 S hE hG hS hC0 e47 (fun H locs hG hS => ?_)
          refine lv_iconst (v := 1) hx hb dX8_falls_50 (by decide) ?_
          exact c_zretW dX8_falls_51 S hr hk hC0 hG hS h
        · have h := g_it c26 h
          refine lv_goto (tgt := 0) hx hb dX8_falls_29 (by decide) ?_
          exact ih0 x0 G14 _ _ _ h hG hS (lv_sub hl [0] rfl)
  unfold cm_X8_falls at h
  exact L0 gF x0 Gz _ _ _ h hG hS (lv_sub hl [0] rfl)
