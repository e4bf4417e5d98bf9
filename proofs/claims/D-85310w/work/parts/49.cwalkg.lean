/-! walks of the component's methods: printed by cgen.py -/
set_option maxRecDepth 100000
theorem hc_X3_isSign : cHd yX3_isSign 1 := by decide +kernel
set_option maxHeartbeats 4000000 in
set_option maxRecDepth 100000 in
theorem wm_X3_isSign (E : gX) (l : Launch) (x0 : Nat) (x1 : Int32) (Gz : GH) (r : Int32) (h : cm_X3_isSign x0 x1 Gz = some r) : gMetC E l yX3_isSign cX3_isSign 2 (some Jvm.ClassFile.FieldType.boolean) 2 [.ref x0, .int x1] Gz Gz (some (.int r)) := by
  refine gMetC.of (own := RX3) (by decide +kernel) (Nat.le_of_ble_eq_true rfl) rfl ?_
  intro p e s m args below meth c S hr hk hnm hE hC0 hG hS ls hl
  have hl : lv_has ls 2 [(0, .ref x0), (1, .int x1)] := hl
  have hx := S.1
  have hb := S.2.1
  unfold cm_X3_isSign at h
  refine lv_aload_n hx hb dX3_isSign_0 rfl (lv_at hl 0 rfl) ?_
  obtain ⟨v1, e1, h⟩ := g_bd h
  refine cg_X3_58 dX3_isSign_1 S hE hG e1 ?_
  refine c_gets q735 rfl (hE.stat.1 2 (by decide)) dX3_isSign_4 S hS ?_
  rw [← hG.2.2.2.2.1]
  refine lv_acmp_ne (rx := (some v1)) (ry := (some (cK Gz (10 + 2)))) (tgt := 22) hx hb dX3_isSign_7 (by decide) (fun c7 => ?_) (fun c7 => ?_)
  · have h := g_if c7 h
    refine lv_iconst (v := 0) hx hb dX3_isSign_22 (by decide) ?_
    exact c_zretR dX3_isSign_23 S hr hk hC0 hG hS h
  · have h := g_it c7 h
    refine lv_aload_n hx hb dX3_isSign_10 rfl (lv_at hl 0 rfl) ?_
    obtain ⟨v11, e11, h⟩ := g_bd h
    refine cg_X3_96 dX3_isSign_11 S hE hG e11 ?_
    refine lv_iload_n hx hb dX3_isSign_14 rfl (lv_at hl 1 rfl) ?_
    refine lv_icmp_ne (tgt := 22) hx hb dX3_isSign_15 (by decide) (fun c15 => ?_) (fun c15 => ?_)
    · have h := g_if c15 h
      refine lv_iconst (v := 0) hx hb dX3_isSign_22 (by decide) ?_
      exact c_zretR dX3_isSign_23 S hr hk hC0 hG hS h
    · have h := g_it c15 h
      refine lv_iconst (v := 1) hx hb dX3_isSign_18 (by decide) ?_
      refine lv_goto (tgt := 23) hx hb dX3_isSign_19 (by decide) ?_
      exact c_zretR dX3_isSign_23 S hr hk hC0 hG hS h
theorem hc_X3_wrong : cHd yX3_wrong 1 := by decide +kernel
set_option maxHeartbeats 4000000 in
set_option maxRecDepth 100000 in
theorem wm_X3_wrong (E : gX) (l : Launch) (hl9 : l.stackTraces = false) (x0 : Nat) (x1 : Int32) (Gz G' : GH) (r : Nat) (h : cm_X3_wrong x0 x1 Gz = some (r, G')) : gMetC E l yX3_wrong cX3_wrong 2 (some (Jvm.ClassFile.FieldType.object "FairHouse$Wrong")) 7 [.ref x0, .int x1] Gz G' (some (.ref r)) := by
  refine gMetC.of (own := RX3) (by decide +kernel) (Nat.le_of_ble_eq_true rfl) rfl ?_
  intro p e s m args below meth c S hr hk hnm hE hC0 hG hS ls hl
  have hl : lv_has ls 2 [(0, .ref x0), (1, .int x1)] := hl
  have hx := S.1
  have hb := S.2.1
  unfold cm_X3_wrong at h
  obtain ⟨qx0, e0, h⟩ := g_bd h
  refine c_newW dX3_wrong_0 q821 q822 q144 in_XW S hE hG hS hC0 e0 (fun H locs hG hS hF => ?_)
  refine lv_dup hx hb dX3_wrong_3 rfl ?_
  refine lv_iload_n hx hb dX3_wrong_4 rfl (lv_at hl 1 rfl) ?_
  refine lv_aload_n hx hb dX3_wrong_5 rfl (lv_at hl 0 rfl) ?_
  obtain ⟨v6, e6, h⟩ := g_bd h
  refine cg_X3_45 dX3_wrong_6 S hE hG e6 ?_
  obtain ⟨G9, e9, h⟩ := g_bd h
  refine c_cIW (y := yX4_init) (rest := [.ref qx0.1]) dX3_wrong_9 q830 q831 q144 q832 hc_X4_init rfl S hE hG hF hS hC0 hl.1 rfl (wm_X4_init E l hl9 qx0.1 x1 v6 qx0.2 _ e9) rfl (Nat.le_of_ble_eq_true rfl) ⟨Nat.le_of_ble_eq_true rfl, Nat.le_of_ble_eq_true rfl⟩ (fun H locs hG hS => ?_)
  exact c_aretW dX3_wrong_12 (Or.inl ⟨_, rfl⟩) S hr hk hC0 hG hS h
theorem hc_X3_isLetter : cHd yX3_isLetter 1 := by decide +kernel
set_option maxHeartbeats 4000000 in
set_option maxRecDepth 100000 in
theorem wm_X3_isLetter (E : gX) (l : Launch) (x0 : Int32) (Gz : GH) (r : Int32) (h : cm_X3_isLetter x0 Gz = some r) : gMetC E l yX3_isLetter cX3_isLetter 1 (some Jvm.ClassFile.FieldType.boolean) 2 [.int x0] Gz Gz (some (.int r)) := by
  refine gMetC.of (own := RX3) (by decide +kernel) (Nat.le_of_ble_eq_true rfl) rfl ?_
  intro p e s m args below meth c S hr hk hnm hE hC0 hG hS ls hl
  have hl : lv_has ls 1 [(0, .int x0)] := hl
  have hx := S.1
  have hb := S.2.1
  unfold cm_X3_isLetter at h
  refine lv_iload_n hx hb dX3_isLetter_0 rfl (lv_at hl 0 rfl) ?_
  refine lv_bipush (v := 97) hx hb dX3_isLetter_1 (by decide) ?_
  refine lv_icmp_lt (tgt := 16) hx hb dX3_isLetter_3 (by decide) (fun c3 => ?_) (fun c3 => ?_)
  · have h := g_it c3 h
    refine lv_iconst (v := 0) hx hb dX3_isLetter_16 (by decide) ?_
    exact c_zretR dX3_isLetter_17 S hr hk hC0 hG hS h
  · have h := g_if c3 h
    refine lv_iload_n hx hb dX3_isLetter_6 rfl (lv_at hl 0 rfl) ?_
    refine lv_bipush (v := 122) hx hb dX3_isLetter_7 (by decide) ?_
    refine lv_icmp_gt (tgt := 16) hx hb dX3_isLetter_9 (by decide) (fun c9 => ?_) (fun c9 => ?_)
    · have h := g_it c9 h
      refine lv_iconst (v := 0) hx hb dX3_isLetter_16 (by decide) ?_
      exact c_zretR dX3_isLetter_17 S hr hk hC0 hG hS h
    · have h := g_if c9 h
      refine lv_iconst (v := 1) hx hb dX3_isLetter_12 (by decide) ?_
      refine lv_goto (tgt := 17) hx hb dX3_isLetter_13 (by decide) ?_
      exact c_zretR dX3_isLetter_17 S hr hk hC0 hG hS h
theorem hc_X3_isDigit : cHd yX3_isDigit 1 := by decide +kernel
set_option maxHeartbeats 4000000 in
set_option maxRecDepth 100000 in
theorem wm_X3_isDigit (E : gX) (l : Launch) (x0 : Int32) (Gz : GH) (r : Int32) (h : cm_X3_isDigit x0 Gz = some r) : gMetC E l yX3_isDigit cX3_isDigit 1 (some Jvm.ClassFile.FieldType.boolean) 2 [.int x0] Gz Gz (some (.int r)) := by
  refine gMetC.of (own := RX3) (by decide +kernel) (Nat.le_of_ble_eq_true rfl) rfl ?_
  intro p e s m args below meth c S hr hk hnm hE hC0 hG hS ls hl
  have hl : lv_has ls 1 [(0, .int x0)] := hl
  have hx := S.1
  have hb := S.2.1
  unfold cm_X3_isDigit at h
  refine lv_iload_n hx hb dX3_isDigit_0 rfl (lv_at hl 0 rfl) ?_
  refine lv_bipush (v := 48) hx hb dX3_isDigit_1 (by decide) ?_
  refine lv_icmp_lt (tgt := 16) hx hb dX3_isDigit_3 (by decide) (fun c3 => ?_) (fun c3 => ?_)
  · have h := g_it c3 h
    refine lv_iconst (v := 0) hx hb dX3_isDigit_16 (by decide) ?_
    exact c_zretR dX3_isDigit_17 S hr hk hC0 hG hS h
  · have h := g_if c3 h
    refine lv_iload_n hx hb dX3_isDigit_6 rfl (lv_at hl 0 rfl) ?_
    refine lv_bipush (v := 57) hx hb dX3_isDigit_7 (by decide) ?_
    refine lv_icmp_gt (tgt := 16) hx hb dX3_isDigit_9 (by decide) (fun c9 => ?_) (fun c9 => ?_)
    · have h := g_it c9 h
      refine lv_iconst (v := 0) hx hb dX3_isDigit_16 (by decide) ?_
      exact c_zretR dX3_isDigit_17 S hr hk hC0 hG hS h
    · have h := g_if c9 h
      refine lv_iconst (v := 1) hx hb dX3_isDigit_12 (by decide) ?_
      refine lv_goto (tgt := 17) hx hb dX3_isDigit_13 (by decide) ?_
      exact c_zretR dX3_isDigit_17 S hr hk hC0 hG hS h
theorem hc_X3_letters : cHd yX3_letters 0 := by decide +kernel
set_option maxHeartbeats 4000000 in
set_option maxRecDepth 100000 in
theorem wm_X3_letters (E : gX) (l : Launch) (x0 : Nat) (Gz G' : GH) (h : cm_X3_letters x0 Gz = some G') : gMetC E l yX3_letters cX3_letters 1 none 3 [.ref x0] Gz G' none := by
  refine gMetC.of (own := RX3) (by decide +kernel) (Nat.le_of_ble_eq_true rfl) rfl ?_
  intro p e s m args below meth c S hr hk hnm hE hC0 hG hS ls hl
  have hl : lv_has ls 1 [(0, .ref x0)] := hl
  have hx := S.1
  have hb := S.2.1
  have J91 : ∀ (s0 : Nat) (s1 : Nat) (G : GH) (H : Heap) (locs : List Loc) (ls : Array Slot), cm_X3_letters_J91 s0 s1 G = some G' → gC E G H → va_S (gx_C E) s.heap H locs → lv_has ls 1 [] → WC E p l e (gRm 3 (cBx Gz) (cBs Gz)) s m args below meth c H locs (MQ below (gQ none (gC E G') (gx_C E)) args s (cBx Gz) (cBs Gz) (gx_C E)) (F0 m 91 ls [.ref s1, .ref s0]) := by
    intro s0 s1 G H locs ls h hG hS hl
    unfold cm_X3_letters_J91 at h
    obtain ⟨G91, e91, h⟩ := g_bd h
    refine cp_X3_58 dX3_letters_91 S hE hG hS hC0 e91 (fun H locs hG hS => ?_)
    exact c_vretW dX3_letters_94 S hr hk hC0 hG hS h
  have L5 : ∀ (n : Nat) (x0 : Nat) (G : GH) (H : Heap) (locs : List Loc) (ls : Array Slot), cm_X3_letters_L5 n x0 G = some G' → gC E G H → va_S (gx_C E) s.heap H locs → lv_has ls 1 [(0, .ref x0)] → WC E p l e (gRm 3 (cBx Gz) (cBs Gz)) s m args below meth c H locs (MQ below (gQ none (gC E G') (gx_C E)) args s (cBx Gz) (cBs Gz) (gx_C E)) (F0 m 5 ls []) := by
    intro n5
    induction n5 with
    | zero =>
      intro x0 G H locs ls h
      cases h
    | succ n5 ih5 =>
      have J33 : ∀ (x0 : Nat) (G : GH) (H : Heap) (locs : List Loc) (ls : Array Slot), cm_X3_letters_J33 (cm_X3_letters_L5 n5) x0 G = some G' → gC E G H → va_S (gx_C E) s.heap H locs → lv_has ls 1 [(0, .ref x0)] → WC E p l e (gRm 3 (cBx Gz) (cBs Gz)) s m args below meth c H locs (MQ below (gQ none (gC E G') (gx_C E)) args s (cBx Gz) (cBs Gz) (gx_C E)) (F0 m 33 ls []) := by
        intro x0 G H locs ls h hG hS hl
        unfold cm_X3_letters_J33 at h
        refine lv_aload_n hx hb dX3_letters_33 rfl (lv_at hl 0 rfl) ?_
        refine lv_aload_n hx hb dX3_letters_34 rfl (lv_at hl 0 rfl) ?_
        obtain ⟨v35, e35, h⟩ := g_bd h
        refine cg_X3_77 dX3_letters_35 S hE hG e35 ?_
        refine lv_bipush (v := 8) hx hb dX3_letters_38 (by decide) ?_
        refine lv_lshl (v := (v35 <<< ((8 : Int32).toInt64 &&& 63))) hx hb dX3_letters_40 rfl ?_
        refine lv_aload_n hx hb dX3_letters_41 rfl (lv_at hl 0 rfl) ?_
        refine lv_aload_n hx hb dX3_letters_42 rfl (lv_at hl 0 rfl) ?_
        obtain ⟨v43, e43, h⟩ := g_bd h
        refine cg_X3_42 dX3_letters_43 S hE hG e43 ?_
        obtain ⟨u46, t46, h⟩ := g_bd h
        obtain ⟨v46, e46, h⟩ := g_bd h
        refine c_cV (y := yX3_at) (rest := [.long (v35 <<< ((8 : Int32).toInt64 &&& 63)), .ref x0]) dX3_letters_46 q705 q707 qs3 q125 q708 hc_X3_at rfl S hE hG hS hC0 hl.1 rfl (c_recv hE hG (ci := 10) rfl (by decide) (c_castM t46)) (wm_X3_at E l x0 v43 G _ e46) rfl (Nat.le_of_ble_eq_true rfl) ⟨Nat.le_of_ble_eq_true rfl, Nat.le_of_ble_eq_true rfl⟩ (fun H locs hG hS => ?_)
        refine lv_i2l (v := v46.toInt64) hx hb dX3_letters_49 rfl ?_
        refine lv_lor hx hb dX3_letters_50 ?_
        obtain ⟨G51, e51, h⟩ := g_bd h
        refine cp_X3_77 dX3_letters_51 S hE hG hS hC0 e51 (fun H locs hG hS => ?_)
        refine lv_aload_n hx hb dX3_letters_54 rfl (lv_at hl 0 rfl) ?_
        refine lv_dup hx hb dX3_letters_55 rfl ?_
        obtain ⟨v56, e56, h⟩ := g_bd h
        refine cg_X3_42 dX3_letters_56 S hE hG e56 ?_
        refine lv_iconst (v := 1) hx hb dX3_letters_59 (by decide) ?_
        refine lv_iadd hx hb dX3_letters_60 ?_
        obtain ⟨G61, e61, h⟩ := g_bd h
        refine cp_X3_42 dX3_letters_61 S hE hG hS hC0 e61 (fun H locs hG hS => ?_)
        refine lv_goto (tgt := 5) hx hb dX3_letters_64 (by decide) ?_
        exact ih5 x0 G61 _ _ _ h hG hS (lv_sub hl [0] rfl)
      intro x0 G H locs ls h hG hS hl
      have h : cm_X3_letters_B5 (cm_X3_letters_L5 n5) x0 G = some G' := h
      unfold cm_X3_letters_B5 at h
      refine lv_aload_n hx hb dX3_letters_5 rfl (lv_at hl 0 rfl) ?_
      refine lv_aload_n hx hb dX3_letters_6 rfl (lv_at hl 0 rfl) ?_
      obtain ⟨v7, e7, h⟩ := g_bd h
      refine cg_X3_42 dX3_letters_7 S hE hG e7 ?_
      obtain ⟨u10, t10, h⟩ := g_bd h
      obtain ⟨v10, e10, h⟩ := g_bd h
      refine c_cV (y := yX3_at) (rest := []) dX3_letters_10 q705 q707 qs3 q125 q708 hc_X3_at rfl S hE hG hS hC0 hl.1 rfl (c_recv hE hG (ci := 10) rfl (by decide) (c_castM t10)) (wm_X3_at E l x0 v7 G _ e10) rfl (Nat.le_of_ble_eq_true rfl) ⟨Nat.le_of_ble_eq_true rfl, Nat.le_of_ble_eq_true rfl⟩ (fun H locs hG hS => ?_)
      obtain ⟨v13, e13, h⟩ := g_bd h
      refine c_cS (y := yX3_isLetter) (rest := []) dX3_letters_13 q711 q712 q125 q713 hc_X3_isLetter S hE hG hS hC0 hl.1 rfl (wm_X3_isLetter E l v10 G _ e13) rfl (Nat.le_of_ble_eq_true rfl) ⟨Nat.le_of_ble_eq_true rfl, Nat.le_of_ble_eq_true rfl⟩ (fun H locs hG hS => ?_)
      refine lv_if_ne (tgt := 33) hx hb dX3_letters_16 (by decide) (fun c16 => ?_) (fun c16 => ?_)
      · have h := g_if c16 h
        exact J33 x0 G _ _ _ h hG hS (lv_sub hl [0] rfl)
      · have h := g_it c16 h
        refine lv_aload_n hx hb dX3_letters_19 rfl (lv_at hl 0 rfl) ?_
        refine lv_aload_n hx hb dX3_letters_20 rfl (lv_at hl 0 rfl) ?_
        obtain ⟨v21, e21, h⟩ := g_bd h
        refine cg_X3_42 dX3_letters_21 S hE hG e21 ?_
        obtain ⟨u24, t24, h⟩ := g_bd h
        obtain ⟨v24, e24, h⟩ := g_bd h
        refine c_cV (y := yX3_at) (rest := []) dX3_letters_24 q705 q707 qs3 q125 q708 hc_X3_at rfl S hE hG hS hC0 hl.1 rfl (c_recv hE hG (ci := 10) rfl (by decide) (c_castM t24)) (wm_X3_at E l x0 v21 G _ e24) rfl (Nat.le_of_ble_eq_true rfl) ⟨Nat.le_of_ble_eq_true rfl, Nat.le_of_ble_eq_true rfl⟩ (fun H locs hG hS => ?_)
        obtain ⟨v27, e27, h⟩ := g_bd h
        refine c_cS (y := yX3_isDigit) (rest := []) dX3_letters_27 q718 q719 q125 q720 hc_X3_isDigit S hE hG hS hC0 hl.1 rfl (wm_X3_isDigit E l v24 G _ e27) rfl (Nat.le_of_ble_eq_true rfl) ⟨Nat.le_of_ble_eq_true rfl, Nat.le_of_ble_eq_true rfl⟩ (fun H locs hG hS => ?_)
        refine lv_if_eq (tgt := 67) hx hb dX3_letters_30 (by decide) (fun c30 => ?_) (fun c30 => ?_)
        · have h := g_it c30 h
          refine lv_aload_n hx hb dX3_letters_67 rfl (lv_at hl 0 rfl) ?_
          refine lv_aload_n hx hb dX3_letters_68 rfl (lv_at hl 0 rfl) ?_
          obtain ⟨v69, e69, h⟩ := g_bd h
          refine cg_X3_42 dX3_letters_69 S hE hG e69 ?_
          refine lv_aload_n hx hb dX3_letters_72 rfl (lv_at hl 0 rfl) ?_
          obtain ⟨v73, e73, h⟩ := g_bd h
          refine cg_X3_45 dX3_letters_73 S hE hG e73 ?_
          refine lv_isub hx hb dX3_letters_76 ?_
          refine lv_bipush (v := 8) hx hb dX3_letters_77 (by decide) ?_
          refine lv_icmp_le (tgt := 88) hx hb dX3_letters_79 (by decide) (fun c79 => ?_) (fun c79 => ?_)
          · have h := g_it c79 h
            refine c_gets q723 rfl (hE.stat.1 0 (by decide)) dX3_letters_88 S hS ?_
            rw [← hG.2.2.2.2.1]
            exact J91 x0 (cK G (10 + 0)) G _ _ _ h hG hS (lv_sub hl [] rfl)
          · have h := g_if c79 h
            refine c_gets q721 rfl (hE.stat.1 3 (by decide)) dX3_letters_82 S hS ?_
            rw [← hG.2.2.2.2.1]
            refine lv_goto (tgt := 91) hx hb dX3_letters_85 (by decide) ?_
            exact J91 x0 (cK G (10 + 3)) G _ _ _ h hG hS (lv_sub hl [] rfl)
        · have h := g_if c30 h
          exact J33 x0 G _ _ _ h hG hS (lv_sub hl [0] rfl)
  unfold cm_X3_letters at h
  refine lv_aload_n hx hb dX3_letters_0 rfl (lv_at hl 0 rfl) ?_
  refine lv_lconst (v := 0) hx hb dX3_letters_1 rfl ?_
  obtain ⟨G2, e2, h⟩ := g_bd h
  refine cp_X3_77 dX3_letters_2 S hE hG hS hC0 e2 (fun H locs hG hS => ?_)
  exact L5 gF x0 G2 _ _ _ h hG hS (lv_sub hl [0] rfl)
theorem hc_X3_digits : cHd yX3_digits 0 := by decide +kernel
set_option maxHeartbeats 4000000 in
set_option maxRecDepth 100000 in
theorem wm_X3_digits (E : gX) (l : Launch) (x0 : Nat) (Gz G' : GH) (h : cm_X3_digits x0 Gz = some G') : gMetC E l yX3_digits cX3_digits 1 none 3 [.ref x0] Gz G' none := by
  refine gMetC.of (own := RX3) (by decide +kernel) (Nat.le_of_ble_eq_true rfl) rfl ?_
  intro p e s m args below meth c S hr hk hnm hE hC0 hG hS ls hl
  have hl : lv_has ls 1 [(0, .ref x0)] := hl
  have hx := S.1
  have hb := S.2.1
  have J98 : ∀ (s0 : Nat) (s1 : Nat) (G : GH) (H : Heap) (locs : List Loc) (ls : Array Slot), cm_X3_digits_J98 s0 s1 G = some G' → gC E G H → va_S (gx_C E) s.heap H locs → lv_has ls 1 [] → WC E p l e (gRm 3 (cBx Gz) (cBs Gz)) s m args below meth c H locs (MQ below (gQ none (gC E G') (gx_C E)) args s (cBx Gz) (cBs Gz) (gx_C E)) (F0 m 98 ls [.ref s1, .ref s0]) := by
    intro s0 s1 G H locs ls h hG hS hl
    unfold cm_X3_digits_J98 at h
    obtain ⟨G98, e98, h⟩ := g_bd h
    refine cp_X3_58 dX3_digits_98 S hE hG hS hC0 e98 (fun H locs hG hS => ?_)
    exact c_vretW dX3_digits_101 S hr hk hC0 hG hS h
  have L5 : ∀ (n : Nat) (x0 : Nat) (G : GH) (H : Heap) (locs : List Loc) (ls : Array Slot), cm_X3_digits_L5 n x0 G = some G' → gC E G H → va_S (gx_C E) s.heap H locs → lv_has ls 1 [(0, .ref x0)] → WC E p l e (gRm 3 (cBx Gz) (cBs Gz)) s m args below meth c H locs (MQ below (gQ none (gC E G') (gx_C E)) args s (cBx Gz) (cBs Gz) (gx_C E)) (F0 m 5 ls []) := by
    intro n5
    induction n5 with
    | zero =>
      intro x0 G H locs ls h
      cases h
    | succ n5 ih5 =>
      have J59 : ∀ (x0 : Nat) (s0 : Nat) (s1 : Int32) (G : GH) (H : Heap) (locs : List Loc) (ls : Array Slot), cm_X3_digits_J59 (cm_X3_digits_L5 n5) x0 s0 s1 G = some G' → gC E G H → va_S (gx_C E) s.heap H locs → lv_has ls 1 [(0, .ref x0)] → WC E p l e (gRm 3 (cBx Gz) (cBs Gz)) s m args below meth c H locs (MQ below (gQ none (gC E G') (gx_C E)) args s (cBx Gz) (cBs Gz) (gx_C E)) (F0 m 59 ls [.int s1, .ref s0]) := by
        intro x0 s0 s1 G H locs ls h hG hS hl
        unfold cm_X3_digits_J59 at h
        obtain ⟨G59, e59, h⟩ := g_bd h
        refine cp_X3_87 dX3_digits_59 S hE hG hS hC0 e59 (fun H locs hG hS => ?_)
        refine lv_aload_n hx hb dX3_digits_62 rfl (lv_at hl 0 rfl) ?_
        refine lv_dup hx hb dX3_digits_63 rfl ?_
        obtain ⟨v64, e64, h⟩ := g_bd h
        refine cg_X3_42 dX3_digits_64 S hE hG e64 ?_
        refine lv_iconst (v := 1) hx hb dX3_digits_67 (by decide) ?_
        refine lv_iadd hx hb dX3_digits_68 ?_
        obtain ⟨G69, e69, h⟩ := g_bd h
        refine cp_X3_42 dX3_digits_69 S hE hG hS hC0 e69 (fun H locs hG hS => ?_)
        refine lv_goto (tgt := 5) hx hb dX3_digits_72 (by decide) ?_
        exact ih5 x0 G69 _ _ _ h hG hS (lv_sub hl [0] rfl)
      intro x0 G H locs ls h hG hS hl
      have h : cm_X3_digits_B5 (cm_X3_digits_L5 n5) x0 G = some G' := h
      unfold cm_X3_digits_B5 at h
      refine lv_aload_n hx hb dX3_digits_5 rfl (lv_at hl 0 rfl) ?_
      refine lv_aload_n hx hb dX3_digits_6 rfl (lv_at hl 0 rfl) ?_
      obtain ⟨v7, e7, h⟩ := g_bd h
      refine cg_X3_42 dX3_digits_7 S hE hG e7 ?_
      obtain ⟨u10, t10, h⟩ := g_bd h
      obtain ⟨v10, e10, h⟩ := g_bd h
      refine c_cV (y := yX3_at) (rest := []) dX3_digits_10 q705 q707 qs3 q125 q708 hc_X3_at rfl S hE hG hS hC0 hl.1 rfl (c_recv hE hG (ci := 10) rfl (by decide) (c_castM t10)) (wm_X3_at E l x0 v7 G _ e10) rfl (Nat.le_of_ble_eq_true rfl) ⟨Nat.le_of_ble_eq_true rfl, Nat.le_of_ble_eq_true rfl⟩ (fun H locs hG hS => ?_)
      obtain ⟨v13, e13, h⟩ := g_bd h
      refine c_cS (y := yX3_isDigit) (rest := []) dX3_digits_13 q718 q719 q125 q720 hc_X3_isDigit S hE hG hS hC0 hl.1 rfl (wm_X3_isDigit E l v10 G _ e13) rfl (Nat.le_of_ble_eq_true rfl) ⟨Nat.le_of_ble_eq_true rfl, Nat.le_of_ble_eq_true rfl⟩ (fun H locs hG hS => ?_)
      refine lv_if_eq (tgt := 75) hx hb dX3_digits_16 (by decide) (fun c16 => ?_) (fun c16 => ?_)
      · have h := g_it c16 h
        refine lv_aload_n hx hb dX3_digits_75 rfl (lv_at hl 0 rfl) ?_
        refine lv_aload_n hx hb dX3_digits_76 rfl (lv_at hl 0 rfl) ?_
        obtain ⟨v77, e77, h⟩ := g_bd h
        refine cg_X3_42 dX3_digits_77 S hE hG e77 ?_
        refine lv_aload_n hx hb dX3_digits_80 rfl (lv_at hl 0 rfl) ?_
        obtain ⟨v81, e81, h⟩ := g_bd h
        refine cg_X3_45 dX3_digits_81 S hE hG e81 ?_
        refine lv_isub hx hb dX3_digits_84 ?_
        refine lv_iconst (v := 4) hx hb dX3_digits_85 (by decide) ?_
        refine lv_icmp_le (tgt := 95) hx hb dX3_digits_86 (by decide) (fun c86 => ?_) (fun c86 => ?_)
        · have h := g_it c86 h
          refine c_gets q729 rfl (hE.stat.1 1 (by decide)) dX3_digits_95 S hS ?_
          rw [← hG.2.2.2.2.1]
          exact J98 x0 (cK G (10 + 1)) G _ _ _ h hG hS (lv_sub hl [] rfl)
        · have h := g_if c86 h
          refine c_gets q721 rfl (hE.stat.1 3 (by decide)) dX3_digits_89 S hS ?_
          rw [← hG.2.2.2.2.1]
          refine lv_goto (tgt := 98) hx hb dX3_digits_92 (by decide) ?_
          exact J98 x0 (cK G (10 + 3)) G _ _ _ h hG hS (lv_sub hl [] rfl)
      · have h := g_if c16 h
        refine lv_aload_n hx hb dX3_digits_19 rfl (lv_at hl 0 rfl) ?_
        refine lv_aload_n hx hb dX3_digits_20 rfl (lv_at hl 0 rfl) ?_
        obtain ⟨v21, e21, h⟩ := g_bd h
        refine cg_X3_42 dX3_digits_21 S hE hG e21 ?_
        refine lv_aload_n hx hb dX3_digits_24 rfl (lv_at hl 0 rfl) ?_
        obtain ⟨v25, e25, h⟩ := g_bd h
        refine cg_X3_45 dX3_digits_25 S hE hG e25 ?_
        refine lv_isub hx hb dX3_digits_28 ?_
        refine lv_iconst (v := 4) hx hb dX3_digits_29 (by decide) ?_
        refine lv_icmp_ge (tgt := 55) hx hb dX3_digits_30 (by decide) (fun c30 => ?_) (fun c30 => ?_)
        · have h := g_it c30 h
          refine lv_aload_n hx hb dX3_digits_55 rfl (lv_at hl 0 rfl) ?_
          obtain ⟨v56, e56, h⟩ := g_bd h
          refine cg_X3_87 dX3_digits_56 S hE hG e56 ?_
          exact J59 x0 x0 v56 G _ _ _ h hG hS (lv_sub hl [0] rfl)
        · have h := g_if c30 h
          refine lv_bipush (v := 10) hx hb dX3_digits_33 (by decide) ?_
          refine lv_aload_n hx hb dX3_digits_35 rfl (lv_at hl 0 rfl) ?_
          obtain ⟨v36, e36, h⟩ := g_bd h
          refine cg_X3_87 dX3_digits_36 S hE hG e36 ?_
          refine lv_imul hx hb dX3_digits_39 ?_
          refine lv_aload_n hx hb dX3_digits_40 rfl (lv_at hl 0 rfl) ?_
          refine lv_aload_n hx hb dX3_digits_41 rfl (lv_at hl 0 rfl) ?_
          obtain ⟨v42, e42, h⟩ := g_bd h
          refine cg_X3_42 dX3_digits_42 S hE hG e42 ?_
          obtain ⟨u45, t45, h⟩ := g_bd h
          obtain ⟨v45, e45, h⟩ := g_bd h
          refine c_cV (y := yX3_at) (rest := [.int (10 * v36), .ref x0]) dX3_digits_45 q705 q707 qs3 q125 q708 hc_X3_at rfl S hE hG hS hC0 hl.1 rfl (c_recv hE hG (ci := 10) rfl (by decide) (c_castM t45)) (wm_X3_at E l x0 v42 G _ e45) rfl (Nat.le_of_ble_eq_true rfl) ⟨Nat.le_of_ble_eq_true rfl, Nat.le_of_ble_eq_true rfl⟩ (fun H locs hG hS => ?_)
          refine lv_iadd hx hb dX3_digits_48 ?_
          refine lv_bipush (v := 48) hx hb dX3_digits_49 (by decide) ?_
          refine lv_isub hx hb dX3_digits_51 ?_
          refine lv_goto (tgt := 59) hx hb dX3_digits_52 (by decide) ?_
          exact J59 x0 x0 (((10 * v36) + v45) - 48) G _ _ _ h hG hS (lv_sub hl [0] rfl)
  unfold cm_X3_digits at h
  refine lv_aload_n hx hb dX3_digits_0 rfl (lv_at hl 0 rfl) ?_
  refine lv_iconst (v := 0) hx hb dX3_digits_1 (by decide) ?_
  obtain ⟨G2, e2, h⟩ := g_bd h
  refine cp_X3_87 dX3_digits_2 S hE hG hS hC0 e2 (fun H locs hG hS => ?_)
  exact L5 gF x0 G2 _ _ _ h hG hS (lv_sub hl [0] rfl)
theorem hc_J15_canEncode : cHd yJ15_canEncode 1 := by decide +kernel
set_option maxHeartbeats 4000000 in
set_option maxRecDepth 100000 in
theorem wm_J15_canEncode (E : gX) (l : Launch) (x0 : Int32) (Gz : GH) (r : Int32) (h : cm_J15_canEncode x0 Gz = some r) : gMetC E l yJ15_canEncode cJ15_canEncode 1 (some Jvm.ClassFile.FieldType.boolean) 2 [.int x0] Gz Gz (some (.int r)) := by
  refine gMetC.of (own := RJ15) (by decide +kernel) (Nat.le_of_ble_eq_true rfl) rfl ?_
  intro p e s m args below meth c S hr hk hnm hE hC0 hG hS ls hl
  have hl : lv_has ls 1 [(0, .int x0)] := hl
  have hx := S.1
  have hb := S.2.1
  unfold cm_J15_canEncode at h
  refine lv_iload_n hx hb dJ15_canEncode_0 rfl (lv_at hl 0 rfl) ?_
  refine lv_if_lt (tgt := 15) hx hb dJ15_canEncode_1 (by decide) (fun c1 => ?_) (fun c1 => ?_)
  · have h := g_it c1 h
    refine lv_iconst (v := 0) hx hb dJ15_canEncode_15 (by decide) ?_
    exact c_zretR dJ15_canEncode_16 S hr hk hC0 hG hS h
  · have h := g_if c1 h
    refine lv_iload_n hx hb dJ15_canEncode_4 rfl (lv_at hl 0 rfl) ?_
    refine lv_sipush (v := 255) hx hb dJ15_canEncode_5 (by decide) ?_
    refine lv_icmp_gt (tgt := 15) hx hb dJ15_canEncode_8 (by decide) (fun c8 => ?_) (fun c8 => ?_)
    · have h := g_it c8 h
      refine lv_iconst (v := 0) hx hb dJ15_canEncode_15 (by decide) ?_
      exact c_zretR dJ15_canEncode_16 S hr hk hC0 hG hS h
    · have h := g_if c8 h
      refine lv_iconst (v := 1) hx hb dJ15_canEncode_11 (by decide) ?_
      refine lv_goto (tgt := 16) hx hb dJ15_canEncode_12 (by decide) ?_
      exact c_zretR dJ15_canEncode_16 S hr hk hC0 hG hS h
theorem hc_J15_indexOfChar : cHd yJ15_indexOfChar 4 := by decide +kernel
set_option maxHeartbeats 4000000 in
set_option maxRecDepth 100000 in
theorem wm_J15_indexOfChar (E : gX) (l : Launch) (x0 : Nat) (x1 : Int32) (x2 : Int32) (x3 : Int32) (Gz : GH) (r : Int32) (h : cm_J15_indexOfChar x0 x1 x2 x3 Gz = some r) : gMetC E l yJ15_indexOfChar cJ15_indexOfChar 6 (some Jvm.ClassFile.FieldType.int) 2 [.ref x0, .int x1, .int x2, .int x3] Gz Gz (some (.int r)) := by
  refine gMetC.of (own := RJ15) (by decide +kernel) (Nat.le_of_ble_eq_true rfl) rfl ?_
  intro p e s m args below meth c S hr hk hnm hE hC0 hG hS ls hl
  have hl : lv_has ls 6 [(0, .ref x0), (1, .int x1), (2, .int x2), (3, .int x3)] := hl
  have hx := S.1
  have hb := S.2.1
  have L7 : ∀ (n : Nat) (x0 : Nat) (x3 : Int32) (x4 : Int32) (x5 : Int32) (H : Heap) (locs : List Loc) (ls : Array Slot), cm_J15_indexOfChar_L7 n x0 x3 x4 x5 Gz = some r → gC E Gz H → va_S (gx_C E) s.heap H locs → lv_has ls 6 [(0, .ref x0), (3, .int x3), (4, .int x4), (5, .int x5)] → WC E p l e (gRm 2 (cBx Gz) (cBs Gz)) s m args below meth c H locs (MQ below (gQ (some (.int r)) (gC E Gz) (gx_C E)) args s (cBx Gz) (cBs Gz) (gx_C E)) (F0 m 7 ls []) := by
    intro n7
    induction n7 with
    | zero =>
      intro x0 x3 x4 x5 H locs ls h
      cases h
    | succ n7 ih7 =>
      intro x0 x3 x4 x5 H locs ls h hG hS hl
      have h : cm_J15_indexOfChar_B7 (cm_J15_indexOfChar_L7 n7) x0 x3 x4 x5 Gz = some r := h
      unfold cm_J15_indexOfChar_B7 at h
      refine lv_iload hx hb dJ15_indexOfChar_7 (lv_at hl 3 rfl) ?_
      refine lv_iload_n hx hb dJ15_indexOfChar_9 rfl (lv_at hl 1 rfl) ?_
      refine lv_icmp_ge (tgt := 31) hx hb dJ15_indexOfChar_10 (by decide) (fun c10 => ?_) (fun c10 => ?_)
      · have h := g_it c10 h
        refine lv_iconst (v := (-1)) hx hb dJ15_indexOfChar_31 (by decide) ?_
        exact c_iretR dJ15_indexOfChar_32 S hr hk hC0 hG hS h
      · have h := g_if c10 h
        refine lv_aload_n hx hb dJ15_indexOfChar_13 rfl (lv_at hl 0 rfl) ?_
        refine lv_iload hx hb dJ15_indexOfChar_14 (lv_at hl 3 rfl) ?_
        obtain ⟨v16, e16, h⟩ := g_bd h
        refine c_aldB dJ15_indexOfChar_16 S hE hG e16 ?_
        refine lv_iload hx hb dJ15_indexOfChar_17 (lv_at hl 2 rfl) ?_
        refine lv_icmp_ne (tgt := 25) hx hb dJ15_indexOfChar_19 (by decide) (fun c19 => ?_) (fun c19 => ?_)
        · have h := g_if c19 h
          refine lv_iinc (k := 3) (v := (x5 + 1)) (lv' := [(5, .int (x5 + 1)), (0, .ref x0), (3, .int x3), (4, .int x4)]) hx hb dJ15_indexOfChar_25 hl rfl rfl (by decide) rfl (fun ls hl => ?_)
          refine lv_goto (tgt := 7) hx hb dJ15_indexOfChar_28 (by decide) ?_
          exact ih7 x0 x3 x4 (x5 + 1) _ _ _ h hG hS (lv_sub hl [1, 2, 3, 0] rfl)
        · have h := g_it c19 h
          refine lv_iload hx hb dJ15_indexOfChar_22 (lv_at hl 3 rfl) ?_
          exact c_iretR dJ15_indexOfChar_24 S hr hk hC0 hG hS h
  unfold cm_J15_indexOfChar at h
  refine lv_iload_n hx hb dJ15_indexOfChar_0 rfl (lv_at hl 1 rfl) ?_
  refine lv_i2b (v := x1.toInt8.toInt32) hx hb dJ15_indexOfChar_1 rfl ?_
  refine lv_istore (lv' := [(4, .int x1.toInt8.toInt32), (0, .ref x0), (1, .int x1), (2, .int x2), (3, .int x3)]) hx hb dJ15_indexOfChar_2 hl (by decide) rfl (fun ls hl => ?_)
  refine lv_iload_n hx hb dJ15_indexOfChar_4 rfl (lv_at hl 3 rfl) ?_
  refine lv_istore (lv' := [(5, .int x2), (4, .int x1.toInt8.toInt32), (0, .ref x0), (1, .int x1), (2, .int x2), (3, .int x3)]) hx hb dJ15_indexOfChar_5 hl (by decide) rfl (fun ls hl => ?_)
  exact L7 gF x0 x3 x1.toInt8.toInt32 x2 _ _ _ h hG hS (lv_sub hl [2, 5, 1, 0] rfl)
theorem hc_J15_indexOf : cHd yJ15_indexOf 4 := by decide +kernel
set_option maxHeartbeats 4000000 in
set_option maxRecDepth 100000 in
theorem wm_J15_indexOf (E : gX) (l : Launch) (x0 : Nat) (x1 : Int32) (x2 : Int32) (x3 : Int32) (Gz : GH) (r : Int32) (h : cm_J15_indexOf x0 x1 x2 x3 Gz = some r) : gMetC E l yJ15_indexOf cJ15_indexOf 4 (some Jvm.ClassFile.FieldType.int) 3 [.ref x0, .int x1, .int x2, .int x3] Gz Gz (some (.int r)) := by
  refine gMetC.of (own := RJ15) (by decide +kernel) (Nat.le_of_ble_eq_true rfl) rfl ?_
  intro p e s m args below meth c S hr hk hnm hE hC0 hG hS ls hl
  have hl : lv_has ls 4 [(0, .ref x0), (1, .int x1), (2, .int x2), (3, .int x3)] := hl
  have hx := S.1
  have hb := S.2.1
  unfold cm_J15_indexOf at h
  refine lv_iload_n hx hb dJ15_indexOf_0 rfl (lv_at hl 1 rfl) ?_
  obtain ⟨v1, e1, h⟩ := g_bd h
  refine c_cS (y := yJ15_canEncode) (rest := []) dJ15_indexOf_1 q754 q755 q138 q756 hc_J15_canEncode S hE hG hS hC0 hl.1 rfl (wm_J15_canEncode E l x1 Gz _ e1) rfl (Nat.le_of_ble_eq_true rfl) ⟨Nat.le_of_ble_eq_true rfl, Nat.le_of_ble_eq_true rfl⟩ (fun H locs hG hS => ?_)
  refine lv_if_ne (tgt := 9) hx hb dJ15_indexOf_4 (by decide) (fun c4 => ?_) (fun c4 => ?_)
  · have h := g_if c4 h
    refine lv_iload_n hx hb dJ15_indexOf_9 rfl (lv_at hl 2 rfl) ?_
    refine lv_iconst (v := 0) hx hb dJ15_indexOf_10 (by decide) ?_
    refine c_math_max q757 dJ15_indexOf_11 S hl.1 hC0 hG hS (by decide) (Nat.le_of_ble_eq_true rfl) ?_
    refine lv_istore_n (lv' := [(2, .int (if x2 < 0 then 0 else x2)), (0, .ref x0), (1, .int x1), (3, .int x3)]) hx hb dJ15_indexOf_14 rfl hl (by decide) rfl (fun ls hl => ?_)
    refine lv_iload_n hx hb dJ15_indexOf_15 rfl (lv_at hl 3 rfl) ?_
    refine lv_aload_n hx hb dJ15_indexOf_16 rfl (lv_at hl 1 rfl) ?_
    obtain ⟨v17, e17, h⟩ := g_bd h
    refine c_len dJ15_indexOf_17 S hE hG e17 ?_
    refine c_math_min q758 dJ15_indexOf_18 S hl.1 hC0 hG hS (by decide) (Nat.le_of_ble_eq_true rfl) ?_
    refine lv_istore_n (lv' := [(3, .int (if v17 < x3 then v17 else x3)), (2, .int (if x2 < 0 then 0 else x2)), (0, .ref x0), (1, .int x1)]) hx hb dJ15_indexOf_21 rfl hl (by decide) rfl (fun ls hl => ?_)
    refine lv_iload_n hx hb dJ15_indexOf_22 rfl (lv_at hl 1 rfl) ?_
    refine lv_iload_n hx hb dJ15_indexOf_23 rfl (lv_at hl 0 rfl) ?_
    refine lv_icmp_lt (tgt := 29) hx hb dJ15_indexOf_24 (by decide) (fun c24 => ?_) (fun c24 => ?_)
    · have h := g_it c24 h
      refine lv_aload_n hx hb dJ15_indexOf_29 rfl (lv_at hl 2 rfl) ?_
      refine lv_iload_n hx hb dJ15_indexOf_30 rfl (lv_at hl 3 rfl) ?_
      refine lv_iload_n hx hb dJ15_indexOf_31 rfl (lv_at hl 1 rfl) ?_
      refine lv_iload_n hx hb dJ15_indexOf_32 rfl (lv_at hl 0 rfl) ?_
      obtain ⟨v33, e33, h⟩ := g_bd h
      refine c_cS (y := yJ15_indexOfChar) (rest := []) dJ15_indexOf_33 q759 q760 q138 q761 hc_J15_indexOfChar S hE hG hS hC0 hl.1 rfl (wm_J15_indexOfChar E l x0 x1 (if x2 < 0 then 0 else x2) (if v17 < x3 then v17 else x3) Gz _ e33) rfl (Nat.le_of_ble_eq_true rfl) ⟨Nat.le_of_ble_eq_true rfl, Nat.le_of_ble_eq_true rfl⟩ (fun H locs hG hS => ?_)
      exact c_iretR dJ15_indexOf_36 S hr hk hC0 hG hS h
    · have h := g_if c24 h
      refine lv_iconst (v := (-1)) hx hb dJ15_indexOf_27 (by decide) ?_
      exact c_iretR dJ15_indexOf_28 S hr hk hC0 hG hS h
  · have h := g_it c4 h
    refine lv_iconst (v := (-1)) hx hb dJ15_indexOf_7 (by decide) ?_
    exact c_iretR dJ15_indexOf_8 S hr hk hC0 hG hS h
theorem hc_J9_indexOf_2 : cHd yJ9_indexOf_2 2 := by decide +kernel
set_option maxHeartbeats 4000000 in
set_option maxRecDepth 100000 in
theorem wm_J9_indexOf_2 (E : gX) (l : Launch) (x0 : Nat) (x1 : Int32) (x2 : Int32) (Gz : GH) (r : Int32) (h : cm_J9_indexOf_2 x0 x1 x2 Gz = some r) : gMetC E l yJ9_indexOf_2 cJ9_indexOf_2 3 (some Jvm.ClassFile.FieldType.int) 4 [.ref x0, .int x1, .int x2] Gz Gz (some (.int r)) := by
  refine gMetC.of (own := RJ9) (by decide +kernel) (Nat.le_of_ble_eq_true rfl) rfl ?_
  intro p e s m args below meth c S hr hk hnm hE hC0 hG hS ls hl
  have hl : lv_has ls 3 [(0, .ref x0), (1, .int x1), (2, .int x2)] := hl
  have hx := S.1
  have hb := S.2.1
  unfold cm_J9_indexOf_2 at h
  refine lv_aload_n hx hb dJ9_indexOf_2_0 rfl (lv_at hl 0 rfl) ?_
  obtain ⟨u1, t1, h⟩ := g_bd h
  obtain ⟨v1, e1, h⟩ := g_bd h
  refine c_cV (y := yJ9_isLatin1) (rest := []) dJ9_indexOf_2_1 q746 q747 q748 q131 q749 hc_J9_isLatin1 rfl S hE hG hS hC0 hl.1 rfl (c_recvS hE hG (c_castM t1)) (wm_J9_isLatin1 E l x0 Gz _ e1) rfl (Nat.le_of_ble_eq_true rfl) ⟨Nat.le_of_ble_eq_true rfl, Nat.le_of_ble_eq_true rfl⟩ (fun H locs hG hS => ?_)
  refine lv_if_eq (tgt := 23) hx hb dJ9_indexOf_2_4 (by decide) (fun c4 => ?_) (fun c4 => ?_)
  · have h := g_it c4 h
    refine lv_aload_n hx hb dJ9_indexOf_2_23 rfl (lv_at hl 0 rfl) ?_
    obtain ⟨v24, e24, h⟩ := g_bd h
    refine cg_J9_9 dJ9_indexOf_2_24 S hE hG e24 ?_
    refine lv_iload_n hx hb dJ9_indexOf_2_27 rfl (lv_at hl 1 rfl) ?_
    refine lv_iload_n hx hb dJ9_indexOf_2_28 rfl (lv_at hl 2 rfl) ?_
    refine lv_aload_n hx hb dJ9_indexOf_2_29 rfl (lv_at hl 0 rfl) ?_
    obtain ⟨u30, t30, h⟩ := g_bd h
    obtain ⟨v30, e30, h⟩ := g_bd h
    refine c_cV (y := yJ9_length) (rest := [.int x2, .int x1, .ref v24]) dJ9_indexOf_2_30 q750 q481 q482 q131 q483 hc_J9_length rfl S hE hG hS hC0 hl.1 rfl (c_recvS hE hG (c_castM t30)) (wm_J9_length E l x0 Gz _ e30) rfl (Nat.le_of_ble_eq_true rfl) ⟨Nat.le_of_ble_eq_true rfl, Nat.le_of_ble_eq_true rfl⟩ (fun H locs hG hS => ?_)
    cases h
  · have h := g_if c4 h
    refine lv_aload_n hx hb dJ9_indexOf_2_7 rfl (lv_at hl 0 rfl) ?_
    obtain ⟨v8, e8, h⟩ := g_bd h
    refine cg_J9_9 dJ9_indexOf_2_8 S hE hG e8 ?_
    refine lv_iload_n hx hb dJ9_indexOf_2_11 rfl (lv_at hl 1 rfl) ?_
    refine lv_iload_n hx hb dJ9_indexOf_2_12 rfl (lv_at hl 2 rfl) ?_
    refine lv_aload_n hx hb dJ9_indexOf_2_13 rfl (lv_at hl 0 rfl) ?_
    obtain ⟨u14, t14, h⟩ := g_bd h
    obtain ⟨v14, e14, h⟩ := g_bd h
    refine c_cV (y := yJ9_length) (rest := [.int x2, .int x1, .ref v8]) dJ9_indexOf_2_14 q750 q481 q482 q131 q483 hc_J9_length rfl S hE hG hS hC0 hl.1 rfl (c_recvS hE hG (c_castM t14)) (wm_J9_length E l x0 Gz _ e14) rfl (Nat.le_of_ble_eq_true rfl) ⟨Nat.le_of_ble_eq_true rfl, Nat.le_of_ble_eq_true rfl⟩ (fun H locs hG hS => ?_)
    obtain ⟨v17, e17, h⟩ := g_bd h
    refine c_cS (y := yJ15_indexOf) (rest := []) dJ9_indexOf_2_17 q751 q752 q138 q753 hc_J15_indexOf S hE hG hS hC0 hl.1 rfl (wm_J15_indexOf E l v8 x1 x2 v14 Gz _ e17) rfl (Nat.le_of_ble_eq_true rfl) ⟨Nat.le_of_ble_eq_true rfl, Nat.le_of_ble_eq_true rfl⟩ (fun H locs hG hS => ?_)
    refine lv_goto (tgt := 36) hx hb dJ9_indexOf_2_20 (by decide) ?_
    exact c_iretR dJ9_indexOf_2_36 S hr hk hC0 hG hS h
theorem hc_J9_indexOf : cHd yJ9_indexOf 1 := by decide +kernel
set_option maxHeartbeats 4000000 in
set_option maxRecDepth 100000 in
theorem wm_J9_indexOf (E : gX) (l : Launch) (x0 : Nat) (x1 : Int32) (Gz : GH) (r : Int32) (h : cm_J9_indexOf x0 x1 Gz = some r) : gMetC E l yJ9_indexOf cJ9_indexOf 2 (some Jvm.ClassFile.FieldType.int) 5 [.ref x0, .int x1] Gz Gz (some (.int r)) := by
  refine gMetC.of (own := RJ9) (by decide +kernel) (Nat.le_of_ble_eq_true rfl) rfl ?_
  intro p e s m args below meth c S hr hk hnm hE hC0 hG hS ls hl
  have hl : lv_has ls 2 [(0, .ref x0), (1, .int x1)] := hl
  have hx := S.1
  have hb := S.2.1
  unfold cm_J9_indexOf at h
  refine lv_aload_n hx hb dJ9_indexOf_0 rfl (lv_at hl 0 rfl) ?_
  refine lv_iload_n hx hb dJ9_indexOf_1 rfl (lv_at hl 1 rfl) ?_
  refine lv_iconst (v := 0) hx hb dJ9_indexOf_2 (by decide) ?_
  obtain ⟨u3, t3, h⟩ := g_bd h
  obtain ⟨v3, e3, h⟩ := g_bd h
  refine c_cV (y := yJ9_indexOf_2) (rest := []) dJ9_indexOf_3 q742 q743 q744 q131 q745 hc_J9_indexOf_2 rfl S hE hG hS hC0 hl.1 rfl (c_recvS hE hG (c_castM t3)) (wm_J9_indexOf_2 E l x0 x1 0 Gz _ e3) rfl (Nat.le_of_ble_eq_true rfl) ⟨Nat.le_of_ble_eq_true rfl, Nat.le_of_ble_eq_true rfl⟩ (fun H locs hG hS => ?_)
  exact c_iretR dJ9_indexOf_6 S hr hk hC0 hG hS h
theorem hc_X3_signs : cHd yX3_signs 1 := by decide +kernel
set_option maxHeartbeats 4000000 in
set_option maxRecDepth 100000 in
theorem wm_X3_signs (E : gX) (l : Launch) (x0 : Nat) (x1 : Int32) (Gz G' : GH) (h : cm_X3_signs x0 x1 Gz = some G') : gMetC E l yX3_signs cX3_signs 3 none 6 [.ref x0, .int x1] Gz G' none := by
  refine gMetC.of (own := RX3) (by decide +kernel) (Nat.le_of_ble_eq_true rfl) rfl ?_
  intro p e s m args below meth c S hr hk hnm hE hC0 hG hS ls hl
  have hl : lv_has ls 3 [(0, .ref x0), (1, .int x1)] := hl
  have hx := S.1
  have hb := S.2.1
  have J142 : ∀ (x0 : Nat) (G : GH) (H : Heap) (locs : List Loc) (ls : Array Slot), cm_X3_signs_J142 x0 G = some G' → gC E G H → va_S (gx_C E) s.heap H locs → lv_has ls 3 [(0, .ref x0)] → WC E p l e (gRm 6 (cBx Gz) (cBs Gz)) s m args below meth c H locs (MQ below (gQ none (gC E G') (gx_C E)) args s (cBx Gz) (cBs Gz) (gx_C E)) (F0 m 142 ls []) := by
    intro x0 G H locs ls h hG hS hl
    unfold cm_X3_signs_J142 at h
    refine lv_aload_n hx hb dX3_signs_142 rfl (lv_at hl 0 rfl) ?_
    refine c_gets q721 rfl (hE.stat.1 3 (by decide)) dX3_signs_143 S hS ?_
    rw [← hG.2.2.2.2.1]
    obtain ⟨G146, e146, h⟩ := g_bd h
    refine cp_X3_58 dX3_signs_146 S hE hG hS hC0 e146 (fun H locs hG hS => ?_)
    exact c_vretW dX3_signs_149 S hr hk hC0 hG hS h
  have J127 : ∀ (x0 : Nat) (x1 : Int32) (G : GH) (H : Heap) (locs : List Loc) (ls : Array Slot), cm_X3_signs_J127 x0 x1 G = some G' → gC E G H → va_S (gx_C E) s.heap H locs → lv_has ls 3 [(0, .ref x0), (1, .int x1)] → WC E p l e (gRm 6 (cBx Gz) (cBs Gz)) s m args below meth c H locs (MQ below (gQ none (gC E G') (gx_C E)) args s (cBx Gz) (cBs Gz) (gx_C E)) (F0 m 127 ls []) := by
    intro x0 x1 G H locs ls h hG hS hl
    unfold cm_X3_signs_J127 at h
    refine lv_iload_n hx hb dX3_signs_127 rfl (lv_at hl 1 rfl) ?_
    refine lv_bipush (v := 33) hx hb dX3_signs_128 (by decide) ?_
    refine lv_icmp_eq (tgt := 142) hx hb dX3_signs_130 (by decide) (fun c130 => ?_) (fun c130 => ?_)
    · have h := g_it c130 h
      exact J142 x0 G _ _ _ h hG hS (lv_sub hl [0] rfl)
    · have h := g_if c130 h
      refine c_ldcS (i := 58) rfl dX3_signs_133 S hE hG ?_
      refine lv_iload_n hx hb dX3_signs_135 rfl (lv_at hl 1 rfl) ?_
      obtain ⟨u136, t136, h⟩ := g_bd h
      obtain ⟨v136, e136, h⟩ := g_bd h
      refine c_cV (y := yJ9_indexOf) (rest := []) dX3_signs_136 q738 q739 q740 q131 q741 hc_J9_indexOf rfl S hE hG hS hC0 hl.1 rfl (c_recvS hE hG (c_castM t136)) (wm_J9_indexOf E l (cK G (100 + 58)) x1 G _ e136) rfl (Nat.le_of_ble_eq_true rfl) ⟨Nat.le_of_ble_eq_true rfl, Nat.le_of_ble_eq_true rfl⟩ (fun H locs hG hS => ?_)
      refine lv_if_ge (tgt := 149) hx hb dX3_signs_139 (by decide) (fun c139 => ?_) (fun c139 => ?_)
      · have h := g_it c139 h
        exact c_vretW dX3_signs_149 S hr hk hC0 hG hS h
      · have h := g_if c139 h
        exact J142 x0 G _ _ _ h hG hS (lv_sub hl [0] rfl)
  have J111 : ∀ (x0 : Nat) (s0 : Nat) (s1 : Int32) (G : GH) (H : Heap) (locs : List Loc) (ls : Array Slot), cm_X3_signs_J111 x0 s0 s1 G = some G' → gC E G H → va_S (gx_C E) s.heap H locs → lv_has ls 3 [(0, .ref x0)] → WC E p l e (gRm 6 (cBx Gz) (cBs Gz)) s m args below meth c H locs (MQ below (gQ none (gC E G') (gx_C E)) args s (cBx Gz) (cBs Gz) (gx_C E)) (F0 m 111 ls [.int s1, .ref s0]) := by
    intro x0 s0 s1 G H locs ls h hG hS hl
    unfold cm_X3_signs_J111 at h
    obtain ⟨G111, e111, h⟩ := g_bd h
    refine cp_X3_96 dX3_signs_111 S hE hG hS hC0 e111 (fun H locs hG hS => ?_)
    refine lv_aload_n hx hb dX3_signs_114 rfl (lv_at hl 0 rfl) ?_
    refine lv_dup hx hb dX3_signs_115 rfl ?_
    obtain ⟨v116, e116, h⟩ := g_bd h
    refine cg_X3_42 dX3_signs_116 S hE hG e116 ?_
    refine lv_iconst (v := 1) hx hb dX3_signs_119 (by decide) ?_
    refine lv_iadd hx hb dX3_signs_120 ?_
    obtain ⟨G121, e121, h⟩ := g_bd h
    refine cp_X3_42 dX3_signs_121 S hE hG hS hC0 e121 (fun H locs hG hS => ?_)
    refine lv_goto (tgt := 149) hx hb dX3_signs_124 (by decide) ?_
    exact c_vretW dX3_signs_149 S hr hk hC0 hG hS h
  have J71 : ∀ (x0 : Nat) (x1 : Int32) (G : GH) (H : Heap) (locs : List Loc) (ls : Array Slot), cm_X3_signs_J71 x0 x1 G = some G' → gC E G H → va_S (gx_C E) s.heap H locs → lv_has ls 3 [(0, .ref x0), (1, .int x1)] → WC E p l e (gRm 6 (cBx Gz) (cBs Gz)) s m args below meth c H locs (MQ below (gQ none (gC E G') (gx_C E)) args s (cBx Gz) (cBs Gz) (gx_C E)) (F0 m 71 ls []) := by
    intro x0 x1 G H locs ls h hG hS hl
    unfold cm_X3_signs_J71 at h
    refine lv_aload_n hx hb dX3_signs_71 rfl (lv_at hl 0 rfl) ?_
    refine lv_iload_n hx hb dX3_signs_72 rfl (lv_at hl 1 rfl) ?_
    refine lv_bipush (v := 60) hx hb dX3_signs_73 (by decide) ?_
    refine lv_icmp_ne (tgt := 84) hx hb dX3_signs_75 (by decide) (fun c75 => ?_) (fun c75 => ?_)
    · have h := g_if c75 h
      refine lv_iload_n hx hb dX3_signs_84 rfl (lv_at hl 1 rfl) ?_
      refine lv_bipush (v := 62) hx hb dX3_signs_85 (by decide) ?_
      refine lv_icmp_ne (tgt := 96) hx hb dX3_signs_87 (by decide) (fun c87 => ?_) (fun c87 => ?_)
      · have h := g_if c87 h
        refine lv_iload_n hx hb dX3_signs_96 rfl (lv_at hl 1 rfl) ?_
        refine lv_bipush (v := 61) hx hb dX3_signs_97 (by decide) ?_
        refine lv_icmp_ne (tgt := 108) hx hb dX3_signs_99 (by decide) (fun c99 => ?_) (fun c99 => ?_)
        · have h := g_if c99 h
          refine lv_sipush (v := 259) hx hb dX3_signs_108 (by decide) ?_
          exact J111 x0 x0 259 G _ _ _ h hG hS (lv_sub hl [0] rfl)
        · have h := g_it c99 h
          refine lv_sipush (v := 258) hx hb dX3_signs_102 (by decide) ?_
          refine lv_goto (tgt := 111) hx hb dX3_signs_105 (by decide) ?_
          exact J111 x0 x0 258 G _ _ _ h hG hS (lv_sub hl [0] rfl)
      · have h := g_it c87 h
        refine lv_sipush (v := 257) hx hb dX3_signs_90 (by decide) ?_
        refine lv_goto (tgt := 111) hx hb dX3_signs_93 (by decide) ?_
        exact J111 x0 x0 257 G _ _ _ h hG hS (lv_sub hl [0] rfl)
    · have h := g_it c75 h
      refine lv_sipush (v := 256) hx hb dX3_signs_78 (by decide) ?_
      refine lv_goto (tgt := 111) hx hb dX3_signs_81 (by decide) ?_
      exact J111 x0 x0 256 G _ _ _ h hG hS (lv_sub hl [0] rfl)
  have J20 : ∀ (x0 : Nat) (x1 : Int32) (s0 : Int32) (G : GH) (H : Heap) (locs : List Loc) (ls : Array Slot), cm_X3_signs_J20 x0 x1 s0 G = some G' → gC E G H → va_S (gx_C E) s.heap H locs → lv_has ls 3 [(0, .ref x0), (1, .int x1)] → WC E p l e (gRm 6 (cBx Gz) (cBs Gz)) s m args below meth c H locs (MQ below (gQ none (gC E G') (gx_C E)) args s (cBx Gz) (cBs Gz) (gx_C E)) (F0 m 20 ls [.int s0]) := by
    intro x0 x1 s0 G H locs ls h hG hS hl
    unfold cm_X3_signs_J20 at h
    refine lv_istore_n (lv' := [(2, .int s0), (0, .ref x0), (1, .int x1)]) hx hb dX3_signs_20 rfl hl (by decide) rfl (fun ls hl => ?_)
    refine lv_aload_n hx hb dX3_signs_21 rfl (lv_at hl 1 rfl) ?_
    refine c_gets q735 rfl (hE.stat.1 2 (by decide)) dX3_signs_22 S hS ?_
    rw [← hG.2.2.2.2.1]
    obtain ⟨G25, e25, h⟩ := g_bd h
    refine cp_X3_58 dX3_signs_25 S hE hG hS hC0 e25 (fun H locs hG hS => ?_)
    refine lv_aload_n hx hb dX3_signs_28 rfl (lv_at hl 1 rfl) ?_
    refine lv_iload_n hx hb dX3_signs_29 rfl (lv_at hl 2 rfl) ?_
    obtain ⟨G30, e30, h⟩ := g_bd h
    refine cp_X3_96 dX3_signs_30 S hE hG hS hC0 e30 (fun H locs hG hS => ?_)
    refine lv_aload_n hx hb dX3_signs_33 rfl (lv_at hl 1 rfl) ?_
    refine lv_dup hx hb dX3_signs_34 rfl ?_
    obtain ⟨v35, e35, h⟩ := g_bd h
    refine cg_X3_42 dX3_signs_35 S hE hG e35 ?_
    refine lv_iconst (v := 1) hx hb dX3_signs_38 (by decide) ?_
    refine lv_iadd hx hb dX3_signs_39 ?_
    obtain ⟨G40, e40, h⟩ := g_bd h
    refine cp_X3_42 dX3_signs_40 S hE hG hS hC0 e40 (fun H locs hG hS => ?_)
    refine lv_iload_n hx hb dX3_signs_43 rfl (lv_at hl 0 rfl) ?_
    refine lv_if_eq (tgt := 127) hx hb dX3_signs_44 (by decide) (fun c44 => ?_) (fun c44 => ?_)
    · have h := g_it c44 h
      exact J127 x0 x1 G40 _ _ _ h hG hS (lv_sub hl [1, 2] rfl)
    · have h := g_if c44 h
      refine lv_iload_n hx hb dX3_signs_47 rfl (lv_at hl 2 rfl) ?_
      refine lv_bipush (v := 60) hx hb dX3_signs_48 (by decide) ?_
      refine lv_icmp_eq (tgt := 71) hx hb dX3_signs_50 (by decide) (fun c50 => ?_) (fun c50 => ?_)
      · have h := g_it c50 h
        exact J71 x0 x1 G40 _ _ _ h hG hS (lv_sub hl [1, 2] rfl)
      · have h := g_if c50 h
        refine lv_iload_n hx hb dX3_signs_53 rfl (lv_at hl 2 rfl) ?_
        refine lv_bipush (v := 62) hx hb dX3_signs_54 (by decide) ?_
        refine lv_icmp_eq (tgt := 71) hx hb dX3_signs_56 (by decide) (fun c56 => ?_) (fun c56 => ?_)
        · have h := g_it c56 h
          exact J71 x0 x1 G40 _ _ _ h hG hS (lv_sub hl [1, 2] rfl)
        · have h := g_if c56 h
          refine lv_iload_n hx hb dX3_signs_59 rfl (lv_at hl 2 rfl) ?_
          refine lv_bipush (v := 61) hx hb dX3_signs_60 (by decide) ?_
          refine lv_icmp_eq (tgt := 71) hx hb dX3_signs_62 (by decide) (fun c62 => ?_) (fun c62 => ?_)
          · have h := g_it c62 h
            exact J71 x0 x1 G40 _ _ _ h hG hS (lv_sub hl [1, 2] rfl)
          · have h := g_if c62 h
            refine lv_iload_n hx hb dX3_signs_65 rfl (lv_at hl 2 rfl) ?_
            refine lv_bipush (v := 33) hx hb dX3_signs_66 (by decide) ?_
            refine lv_icmp_ne (tgt := 127) hx hb dX3_signs_68 (by decide) (fun c68 => ?_) (fun c68 => ?_)
            · have h := g_if c68 h
              exact J127 x0 x1 G40 _ _ _ h hG hS (lv_sub hl [1, 2] rfl)
            · have h := g_it c68 h
              exact J71 x0 x1 G40 _ _ _ h hG hS (lv_sub hl [1, 2] rfl)
  unfold cm_X3_signs at h
  refine lv_aload_n hx hb dX3_signs_0 rfl (lv_at hl 0 rfl) ?_
  refine lv_aload_n hx hb dX3_signs_1 rfl (lv_at hl 0 rfl) ?_
  obtain ⟨v2, e2, h⟩ := g_bd h
  refine cg_X3_42 dX3_signs_2 S hE hG e2 ?_
  refine lv_iconst (v := 1) hx hb dX3_signs_5 (by decide) ?_
  refine lv_iadd hx hb dX3_signs_6 ?_
  obtain ⟨u7, t7, h⟩ := g_bd h
  obtain ⟨v7, e7, h⟩ := g_bd h
  refine c_cV (y := yX3_at) (rest := []) dX3_signs_7 q705 q707 qs3 q125 q708 hc_X3_at rfl S hE hG hS hC0 hl.1 rfl (c_recv hE hG (ci := 10) rfl (by decide) (c_castM t7)) (wm_X3_at E l x0 (v2 + 1) Gz _ e7) rfl (Nat.le_of_ble_eq_true rfl) ⟨Nat.le_of_ble_eq_true rfl, Nat.le_of_ble_eq_true rfl⟩ (fun H locs hG hS => ?_)
  refine lv_bipush (v := 61) hx hb dX3_signs_10 (by decide) ?_
  refine lv_icmp_ne (tgt := 19) hx hb dX3_signs_12 (by decide) (fun c12 => ?_) (fun c12 => ?_)
  · have h := g_if c12 h
    refine lv_iconst (v := 0) hx hb dX3_signs_19 (by decide) ?_
    exact J20 x0 x1 0 Gz _ _ _ h hG hS (lv_sub hl [0, 1] rfl)
  · have h := g_it c12 h
    refine lv_iconst (v := 1) hx hb dX3_signs_15 (by decide) ?_
    refine lv_goto (tgt := 20) hx hb dX3_signs_16 (by decide) ?_
    exact J20 x0 x1 1 Gz _ _ _ h hG hS (lv_sub hl [0, 1] rfl)
theorem hc_X3_go : cHd yX3_go 0 := by decide +kernel
set_option maxHeartbeats 4000000 in
set_option maxRecDepth 100000 in
theorem wm_X3_go (E : gX) (l : Launch) (x0 : Nat) (Gz G' : GH) (h : cm_X3_go x0 Gz = some G') : gMetC E l yX3_go cX3_go 2 none 7 [.ref x0] Gz G' none := by
  refine gMetC.of (own := RX3) (by decide +kernel) (Nat.le_of_ble_eq_true rfl) rfl ?_
  intro p e s m args below meth c S hr hk hnm hE hC0 hG hS ls hl
  have hl : lv_has ls 2 [(0, .ref x0)] := hl
  have hx := S.1
  have hb := S.2.1
  have J52 : ∀ (x0 : Nat) (G : GH) (H : Heap) (locs : List Loc) (ls : Array Slot), cm_X3_go_J52 x0 G = some G' → gC E G H → va_S (gx_C E) s.heap H locs → lv_has ls 2 [(0, .ref x0)] → WC E p l e (gRm 7 (cBx Gz) (cBs Gz)) s m args below meth c H locs (MQ below (gQ none (gC E G') (gx_C E)) args s (cBx Gz) (cBs Gz) (gx_C E)) (F0 m 52 ls []) := by
    intro x0 G H locs ls h hG hS hl
    unfold cm_X3_go_J52 at h
    refine lv_aload_n hx hb dX3_go_52 rfl (lv_at hl 0 rfl) ?_
    refine lv_aload_n hx hb dX3_go_53 rfl (lv_at hl 0 rfl) ?_
    obtain ⟨v54, e54, h⟩ := g_bd h
    refine cg_X3_42 dX3_go_54 S hE hG e54 ?_
    obtain ⟨G57, e57, h⟩ := g_bd h
    refine cp_X3_45 dX3_go_57 S hE hG hS hC0 e57 (fun H locs hG hS => ?_)
    refine lv_aload_n hx hb dX3_go_60 rfl (lv_at hl 0 rfl) ?_
    refine lv_aload_n hx hb dX3_go_61 rfl (lv_at hl 0 rfl) ?_
    obtain ⟨v62, e62, h⟩ := g_bd h
    refine cg_X3_42 dX3_go_62 S hE hG e62 ?_
    obtain ⟨u65, t65, h⟩ := g_bd h
    obtain ⟨v65, e65, h⟩ := g_bd h
    refine c_cV (y := yX3_at) (rest := []) dX3_go_65 q705 q707 qs3 q125 q708 hc_X3_at rfl S hE hG hS hC0 hl.1 rfl (c_recv hE hG (ci := 10) rfl (by decide) (c_castM t65)) (wm_X3_at E l x0 v62 G57 _ e65) rfl (Nat.le_of_ble_eq_true rfl) ⟨Nat.le_of_ble_eq_true rfl, Nat.le_of_ble_eq_true rfl⟩ (fun H locs hG hS => ?_)
    refine lv_istore_n (lv' := [(1, .int v65), (0, .ref x0)]) hx hb dX3_go_68 rfl hl (by decide) rfl (fun ls hl => ?_)
    refine lv_aload_n hx hb dX3_go_69 rfl (lv_at hl 1 rfl) ?_
    obtain ⟨v70, e70, h⟩ := g_bd h
    refine cg_X3_42 dX3_go_70 S hE hG e70 ?_
    refine lv_aload_n hx hb dX3_go_73 rfl (lv_at hl 1 rfl) ?_
    obtain ⟨v74, e74, h⟩ := g_bd h
    refine cg_X3_39 dX3_go_74 S hE hG e74 ?_
    refine lv_icmp_lt (tgt := 90) hx hb dX3_go_77 (by decide) (fun c77 => ?_) (fun c77 => ?_)
    · have h := g_it c77 h
      refine lv_iload_n hx hb dX3_go_90 rfl (lv_at hl 0 rfl) ?_
      obtain ⟨v91, e91, h⟩ := g_bd h
      refine c_cS (y := yX3_isLetter) (rest := []) dX3_go_91 q711 q712 q125 q713 hc_X3_isLetter S hE hG hS hC0 hl.1 rfl (wm_X3_isLetter E l v65 G57 _ e91) rfl (Nat.le_of_ble_eq_true rfl) ⟨Nat.le_of_ble_eq_true rfl, Nat.le_of_ble_eq_true rfl⟩ (fun H locs hG hS => ?_)
      refine lv_if_eq (tgt := 104) hx hb dX3_go_94 (by decide) (fun c94 => ?_) (fun c94 => ?_)
      · have h := g_it c94 h
        refine lv_iload_n hx hb dX3_go_104 rfl (lv_at hl 0 rfl) ?_
        obtain ⟨v105, e105, h⟩ := g_bd h
        refine c_cS (y := yX3_isDigit) (rest := []) dX3_go_105 q718 q719 q125 q720 hc_X3_isDigit S hE hG hS hC0 hl.1 rfl (wm_X3_isDigit E l v65 G57 _ e105) rfl (Nat.le_of_ble_eq_true rfl) ⟨Nat.le_of_ble_eq_true rfl, Nat.le_of_ble_eq_true rfl⟩ (fun H locs hG hS => ?_)
        refine lv_if_eq (tgt := 118) hx hb dX3_go_108 (by decide) (fun c108 => ?_) (fun c108 => ?_)
        · have h := g_it c108 h
          refine lv_aload_n hx hb dX3_go_118 rfl (lv_at hl 1 rfl) ?_
          refine lv_iload_n hx hb dX3_go_119 rfl (lv_at hl 0 rfl) ?_
          obtain ⟨u120, t120, h⟩ := g_bd h
          obtain ⟨G120, e120, h⟩ := g_bd h
          refine c_cV (y := yX3_signs) (rest := []) dX3_go_120 q731 q733 qs6 q125 q734 hc_X3_signs rfl S hE hG hS hC0 hl.1 rfl (c_recv hE hG (ci := 10) rfl (by decide) (c_castM t120)) (wm_X3_signs E l x0 v65 G57 _ e120) rfl (Nat.le_of_ble_eq_true rfl) ⟨Nat.le_of_ble_eq_true rfl, Nat.le_of_ble_eq_true rfl⟩ (fun H locs hG hS => ?_)
          exact c_vretW dX3_go_123 S hr hk hC0 hG hS h
        · have h := g_if c108 h
          refine lv_aload_n hx hb dX3_go_111 rfl (lv_at hl 1 rfl) ?_
          obtain ⟨u112, t112, h⟩ := g_bd h
          obtain ⟨G112, e112, h⟩ := g_bd h
          refine c_cV (y := yX3_digits) (rest := []) dX3_go_112 q725 q727 qs5 q125 q728 hc_X3_digits rfl S hE hG hS hC0 hl.1 rfl (c_recv hE hG (ci := 10) rfl (by decide) (c_castM t112)) (wm_X3_digits E l x0 G57 _ e112) rfl (Nat.le_of_ble_eq_true rfl) ⟨Nat.le_of_ble_eq_true rfl, Nat.le_of_ble_eq_true rfl⟩ (fun H locs hG hS => ?_)
          refine lv_goto (tgt := 123) hx hb dX3_go_115 (by decide) ?_
          exact c_vretW dX3_go_123 S hr hk hC0 hG hS h
      · have h := g_if c94 h
        refine lv_aload_n hx hb dX3_go_97 rfl (lv_at hl 1 rfl) ?_
        obtain ⟨u98, t98, h⟩ := g_bd h
        obtain ⟨G98, e98, h⟩ := g_bd h
        refine c_cV (y := yX3_letters) (rest := []) dX3_go_98 q714 q716 qs4 q125 q717 hc_X3_letters rfl S hE hG hS hC0 hl.1 rfl (c_recv hE hG (ci := 10) rfl (by decide) (c_castM t98)) (wm_X3_letters E l x0 G57 _ e98) rfl (Nat.le_of_ble_eq_true rfl) ⟨Nat.le_of_ble_eq_true rfl, Nat.le_of_ble_eq_true rfl⟩ (fun H locs hG hS => ?_)
        refine lv_goto (tgt := 123) hx hb dX3_go_101 (by decide) ?_
        exact c_vretW dX3_go_123 S hr hk hC0 hG hS h
    · have h := g_if c77 h
      refine lv_aload_n hx hb dX3_go_80 rfl (lv_at hl 1 rfl) ?_
      refine c_gets q709 rfl (hE.stat.1 4 (by decide)) dX3_go_81 S hS ?_
      rw [← hG.2.2.2.2.1]
      obtain ⟨G84, e84, h⟩ := g_bd h
      refine cp_X3_58 dX3_go_84 S hE hG hS hC0 e84 (fun H locs hG hS => ?_)
      refine lv_goto (tgt := 123) hx hb dX3_go_87 (by decide) ?_
      exact c_vretW dX3_go_123 S hr hk hC0 hG hS h
  have L0 : ∀ (n : Nat) (x0 : Nat) (G : GH) (H : Heap) (locs : List Loc) (ls : Array Slot), cm_X3_go_L0 n x0 G = some G' → gC E G H → va_S (gx_C E) s.heap H locs → lv_has ls 2 [(0, .ref x0)] → WC E p l e (gRm 7 (cBx Gz) (cBs Gz)) s m args below meth c H locs (MQ below (gQ none (gC E G') (gx_C E)) args s (cBx Gz) (cBs Gz) (gx_C E)) (F0 m 0 ls []) := by
    intro n0
    induction n0 with
    | zero =>
      intro x0 G H locs ls h
      cases h
    | succ n0 ih0 =>
      have J39 : ∀ (x0 : Nat) (G : GH) (H : Heap) (locs : List Loc) (ls : Array Slot), cm_X3_go_J39 (cm_X3_go_L0 n0) x0 G = some G' → gC E G H → va_S (gx_C E) s.heap H locs → lv_has ls 2 [(0, .ref x0)] → WC E p l e (gRm 7 (cBx Gz) (cBs Gz)) s m args below meth c H locs (MQ below (gQ none (gC E G') (gx_C E)) args s (cBx Gz) (cBs Gz) (gx_C E)) (F0 m 39 ls []) := by
        intro x0 G H locs ls h hG hS hl
        unfold cm_X3_go_J39 at h
        refine lv_aload_n hx hb dX3_go_39 rfl (lv_at hl 0 rfl) ?_
        refine lv_dup hx hb dX3_go_40 rfl ?_
        obtain ⟨v41, e41, h⟩ := g_bd h
        refine cg_X3_42 dX3_go_41 S hE hG e41 ?_
        refine lv_iconst (v := 1) hx hb dX3_go_44 (by decide) ?_
        refine lv_iadd hx hb dX3_go_45 ?_
        obtain ⟨G46, e46, h⟩ := g_bd h
        refine cp_X3_42 dX3_go_46 S hE hG hS hC0 e46 (fun H locs hG hS => ?_)
        refine lv_goto (tgt := 0) hx hb dX3_go_49 (by decide) ?_
        exact ih0 x0 G46 _ _ _ h hG hS (lv_sub hl [0] rfl)
      intro x0 G H locs ls h hG hS hl
      have h : cm_X3_go_B0 (cm_X3_go_L0 n0) x0 G = some G' := h
      unfold cm_X3_go_B0 at h
      refine lv_aload_n hx hb dX3_go_0 rfl (lv_at hl 0 rfl) ?_
      obtain ⟨v1, e1, h⟩ := g_bd h
      refine cg_X3_42 dX3_go_1 S hE hG e1 ?_
      refine lv_aload_n hx hb dX3_go_4 rfl (lv_at hl 0 rfl) ?_
      obtain ⟨v5, e5, h⟩ := g_bd h
      refine cg_X3_39 dX3_go_5 S hE hG e5 ?_
      refine lv_icmp_ge (tgt := 52) hx hb dX3_go_8 (by decide) (fun c8 => ?_) (fun c8 => ?_)
      · have h := g_it c8 h
        exact J52 x0 G _ _ _ h hG hS (lv_sub hl [0] rfl)
      · have h := g_if c8 h
        refine lv_aload_n hx hb dX3_go_11 rfl (lv_at hl 0 rfl) ?_
        obtain ⟨v12, e12, h⟩ := g_bd h
        refine cg_X3_35 dX3_go_12 S hE hG e12 ?_
        refine lv_aload_n hx hb dX3_go_15 rfl (lv_at hl 0 rfl) ?_
        obtain ⟨v16, e16, h⟩ := g_bd h
        refine cg_X3_42 dX3_go_16 S hE hG e16 ?_
        obtain ⟨v19, e19, h⟩ := g_bd h
        refine c_aldB dX3_go_19 S hE hG e19 ?_
        refine lv_bipush (v := 32) hx hb dX3_go_20 (by decide) ?_
        refine lv_icmp_eq (tgt := 39) hx hb dX3_go_22 (by decide) (fun c22 => ?_) (fun c22 => ?_)
        · have h := g_it c22 h
          exact J39 x0 G _ _ _ h hG hS (lv_sub hl [0] rfl)
        · have h := g_if c22 h
          refine lv_aload_n hx hb dX3_go_25 rfl (lv_at hl 0 rfl) ?_
          obtain ⟨v26, e26, h⟩ := g_bd h
          refine cg_X3_35 dX3_go_26 S hE hG e26 ?_
          refine lv_aload_n hx hb dX3_go_29 rfl (lv_at hl 0 rfl) ?_
          obtain ⟨v30, e30, h⟩ := g_bd h
          refine cg_X3_42 dX3_go_30 S hE hG e30 ?_
          obtain ⟨v33, e33, h⟩ := g_bd h
          refine c_aldB dX3_go_33 S hE hG e33 ?_
          refine lv_bipush (v := 10) hx hb dX3_go_34 (by decide) ?_
          refine lv_icmp_ne (tgt := 52) hx hb dX3_go_36 (by decide) (fun c36 => ?_) (fun c36 => ?_)
          · have h := g_if c36 h
            exact J52 x0 G _ _ _ h hG hS (lv_sub hl [0] rfl)
          · have h := g_it c36 h
            exact J39 x0 G _ _ _ h hG hS (lv_sub hl [0] rfl)
  unfold cm_X3_go at h
  exact L0 gF x0 Gz _ _ _ h hG hS (lv_sub hl [0] rfl)
theorem hc_X3_needWord : cHd yX3_needWord 0 := by decide +kernel
set_option maxHeartbeats 4000000 in
set_option maxRecDepth 100000 in
theorem wm_X3_needWord (E : gX) (l : Launch) (hl9 : l.stackTraces = false) (x0 : Nat) (Gz : GH) (r : (GX Unit)) (h : cm_X3_needWord x0 Gz = some r) : gMetX E l yX3_needWord cX3_needWord 1 none 8 [.ref x0] Gz (gRs (fun _ => none) r) := by
  refine gMetX.of (own := RX3) (by decide +kernel) (Nat.le_of_ble_eq_true rfl) rfl ?_
  intro p e s m args below meth c S hr hk hx9 hE hC0 hG hS ls hl
  have hl : lv_has ls 1 [(0, .ref x0)] := hl
  have hx := S.1
  have hb := S.2.1
  unfold cm_X3_needWord at h
  refine lv_aload_n hx hb dX3_needWord_0 rfl (lv_at hl 0 rfl) ?_
  obtain ⟨v1, e1, h⟩ := g_bd h
  refine cg_X3_58 dX3_needWord_1 S hE hG e1 ?_
  refine c_gets q723 rfl (hE.stat.1 0 (by decide)) dX3_needWord_4 S hS ?_
  rw [← hG.2.2.2.2.1]
  refine lv_acmp_eq (rx := (some v1)) (ry := (some (cK Gz (10 + 0)))) (tgt := 16) hx hb dX3_needWord_7 (by decide) (fun c7 => ?_) (fun c7 => ?_)
  · have h := g_it c7 h
    cases h
    exact c_xret (v := none) (G1 := Gz) rfl (c_vretW dX3_needWord_16 S hr hk hC0 hG hS rfl)
  · have h := g_if c7 h
    refine lv_aload_n hx hb dX3_needWord_10 rfl (lv_at hl 0 rfl) ?_
    refine lv_iconst (v := 1) hx hb dX3_needWord_11 (by decide) ?_
    obtain ⟨u12, t12, h⟩ := g_bd h
    obtain ⟨qx12, e12, h⟩ := g_bd h
    refine c_cV (y := yX3_wrong) (rest := []) dX3_needWord_12 q817 q819 qs8 q125 q820 hc_X3_wrong rfl S hE hG hS hC0 hl.1 rfl (c_recv hE hG (ci := 10) rfl (by decide) (c_castM t12)) (wm_X3_wrong E l hl9 x0 1 Gz _ _ e12) rfl (Nat.le_of_ble_eq_true rfl) ⟨Nat.le_of_ble_eq_true rfl, Nat.le_of_ble_eq_true rfl⟩ (fun H locs hG hS => ?_)
    exact c_throwW dX3_needWord_15 S hE hG hS hC0 hx9 hk h
theorem hc_X3_registerOf : cHd yX3_registerOf 1 := by decide +kernel
set_option maxHeartbeats 4000000 in
set_option maxRecDepth 100000 in
theorem wm_X3_registerOf (E : gX) (l : Launch) (x0 : Int64) (Gz G' : GH) (r : Int32) (h : cm_X3_registerOf x0 Gz = some (r, G')) : gMetC E l yX3_registerOf cX3_registerOf 3 (some Jvm.ClassFile.FieldType.int) 7 [.long x0] Gz G' (some (.int r)) := by
  refine gMetC.of (own := RX3) (by decide +kernel) (Nat.le_of_ble_eq_true rfl) rfl ?_
  intro p e s m args below meth c S hr hk hnm hE hC0 hG hS ls hl
  have hl : lv_has ls 3 [(0, .long x0)] := hl
  have hx := S.1
  have hb := S.2.1
  unfold cm_X3_registerOf at h
  refine c_ldcW (i := 64) rfl dX3_registerOf_0 S hE hG ?_
  refine lv_lload_n hx hb dX3_registerOf_3 rfl (lv_at hl 0 rfl) ?_
  obtain ⟨qx4, e4, h⟩ := g_bd h
  refine c_cSN (y := yX1_among) (rest := []) dX3_registerOf_4 (lw_nw q995 rfl) q870 q119 q871 hc_X1_among S hE hG hS hC0 hl.1 rfl (wm_X1_among E l (cK Gz (100 + 64)) x0 Gz _ _ e4) rfl (Nat.le_of_ble_eq_true rfl) ⟨Nat.le_of_ble_eq_true rfl, Nat.le_of_ble_eq_true rfl⟩ (fun H locs hG hS => ?_)
  refine lv_bipush (v := 13) hx hb dX3_registerOf_7 (by decide) ?_
  refine lv_isub hx hb dX3_registerOf_9 ?_
  refine lv_istore_n (lv' := [(2, .int (qx4.1 - 13)), (0, .long x0)]) hx hb dX3_registerOf_10 rfl hl (by decide) rfl (fun ls hl => ?_)
  refine lv_iload_n hx hb dX3_registerOf_11 rfl (lv_at hl 0 rfl) ?_
  refine lv_if_lt (tgt := 19) hx hb dX3_registerOf_12 (by decide) (fun c12 => ?_) (fun c12 => ?_)
  · have h := g_it c12 h
    refine lv_iconst (v := (-1)) hx hb dX3_registerOf_19 (by decide) ?_
    exact c_iretW dX3_registerOf_20 S hr hk hC0 hG hS h
  · have h := g_if c12 h
    refine lv_iload_n hx hb dX3_registerOf_15 rfl (lv_at hl 0 rfl) ?_
    refine lv_goto (tgt := 20) hx hb dX3_registerOf_16 (by decide) ?_
    exact c_iretW dX3_registerOf_20 S hr hk hC0 hG hS h
theorem hc_X3_canDo : cHd yX3_canDo 1 := by decide +kernel
set_option maxHeartbeats 4000000 in
set_option maxRecDepth 100000 in
theorem wm_X3_canDo (E : gX) (l : Launch) (x0 : Nat) (x1 : Int32) (Gz : GH) (r : Int32) (h : cm_X3_canDo x0 x1 Gz = some r) : gMetC E l yX3_canDo cX3_canDo 2 (some Jvm.ClassFile.FieldType.boolean) 2 [.ref x0, .int x1] Gz Gz (some (.int r)) := by
  refine gMetC.of (own := RX3) (by decide +kernel) (Nat.le_of_ble_eq_true rfl) rfl ?_
  intro p e s m args below meth c S hr hk hnm hE hC0 hG hS ls hl
  have hl : lv_has ls 2 [(0, .ref x0), (1, .int x1)] := hl
  have hx := S.1
  have hb := S.2.1
  unfold cm_X3_canDo at h
  refine lv_iload_n hx hb dX3_canDo_0 rfl (lv_at hl 1 rfl) ?_
  by_cases c1_0 : x1 = 0
  · have h := g_it c1_0 h
    refine lv_tableIn (off := 39) (tgt := 40) hx hb dX3_canDo_1 (by rw [c1_0]; decide) (by rw [c1_0]; decide) (by rw [c1_0]; rfl) (by decide) ?_
    refine lv_aload_n hx hb dX3_canDo_40 rfl (lv_at hl 0 rfl) ?_
    obtain ⟨v41, e41, h⟩ := g_bd h
    refine cg_X3_216 dX3_canDo_41 S hE hG e41 ?_
    obtain ⟨v44, e44, h⟩ := g_bd h
    refine ci_X3_276 dX3_canDo_44 S hE hG e44 ?_
    refine lv_if_eq (tgt := 64) hx hb dX3_canDo_47 (by decide) (fun c47 => ?_) (fun c47 => ?_)
    · have h := g_it c47 h
      refine lv_iconst (v := 0) hx hb dX3_canDo_64 (by decide) ?_
      exact c_zretR dX3_canDo_65 S hr hk hC0 hG hS h
    · have h := g_if c47 h
      refine lv_aload_n hx hb dX3_canDo_50 rfl (lv_at hl 0 rfl) ?_
      obtain ⟨v51, e51, h⟩ := g_bd h
      refine cg_X3_216 dX3_canDo_51 S hE hG e51 ?_
      obtain ⟨v54, e54, h⟩ := g_bd h
      refine ci_X3_278 dX3_canDo_54 S hE hG e54 ?_
      refine lv_if_ne (tgt := 64) hx hb dX3_canDo_57 (by decide) (fun c57 => ?_) (fun c57 => ?_)
      · have h := g_if c57 h
        refine lv_iconst (v := 0) hx hb dX3_canDo_64 (by decide) ?_
        exact c_zretR dX3_canDo_65 S hr hk hC0 hG hS h
      · have h := g_it c57 h
        refine lv_iconst (v := 1) hx hb dX3_canDo_60 (by decide) ?_
        refine lv_goto (tgt := 65) hx hb dX3_canDo_61 (by decide) ?_
        exact c_zretR dX3_canDo_65 S hr hk hC0 hG hS h
  have h := g_if c1_0 h
  by_cases c1_1 : x1 = 1
  · have h := g_it c1_1 h
    refine lv_tableIn (off := 65) (tgt := 66) hx hb dX3_canDo_1 (by rw [c1_1]; decide) (by rw [c1_1]; decide) (by rw [c1_1]; rfl) (by decide) ?_
    refine lv_aload_n hx hb dX3_canDo_66 rfl (lv_at hl 0 rfl) ?_
    obtain ⟨v67, e67, h⟩ := g_bd h
    refine cg_X3_216 dX3_canDo_67 S hE hG e67 ?_
    obtain ⟨v70, e70, h⟩ := g_bd h
    refine ci_X3_289 dX3_canDo_70 S hE hG e70 ?_
    exact c_zretR dX3_canDo_73 S hr hk hC0 hG hS h
  have h := g_if c1_1 h
  by_cases c1_2 : x1 = 2
  · have h := g_it c1_2 h
    refine lv_tableIn (off := 73) (tgt := 74) hx hb dX3_canDo_1 (by rw [c1_2]; decide) (by rw [c1_2]; decide) (by rw [c1_2]; rfl) (by decide) ?_
    refine lv_aload_n hx hb dX3_canDo_74 rfl (lv_at hl 0 rfl) ?_
    obtain ⟨v75, e75, h⟩ := g_bd h
    refine cg_X3_216 dX3_canDo_75 S hE hG e75 ?_
    obtain ⟨v78, e78, h⟩ := g_bd h
    refine ci_X3_291 dX3_canDo_78 S hE hG e78 ?_
    exact c_zretR dX3_canDo_81 S hr hk hC0 hG hS h
  have h := g_if c1_2 h
  by_cases c1_3 : x1 = 3
  · have h := g_it c1_3 h
    refine lv_tableIn (off := 81) (tgt := 82) hx hb dX3_canDo_1 (by rw [c1_3]; decide) (by rw [c1_3]; decide) (by rw [c1_3]; rfl) (by decide) ?_
    refine lv_aload_n hx hb dX3_canDo_82 rfl (lv_at hl 0 rfl) ?_
    obtain ⟨v83, e83, h⟩ := g_bd h
    refine cg_X3_216 dX3_canDo_83 S hE hG e83 ?_
    obtain ⟨v86, e86, h⟩ := g_bd h
    refine ci_X3_293 dX3_canDo_86 S hE hG e86 ?_
    exact c_zretR dX3_canDo_89 S hr hk hC0 hG hS h
  have h := g_if c1_3 h
  by_cases c1_4 : x1 = 4
  · have h := g_it c1_4 h
    refine lv_tableIn (off := 89) (tgt := 90) hx hb dX3_canDo_1 (by rw [c1_4]; decide) (by rw [c1_4]; decide) (by rw [c1_4]; rfl) (by decide) ?_
    refine lv_aload_n hx hb dX3_canDo_90 rfl (lv_at hl 0 rfl) ?_
    obtain ⟨v91, e91, h⟩ := g_bd h
    refine cg_X3_216 dX3_canDo_91 S hE hG e91 ?_
    obtain ⟨v94, e94, h⟩ := g_bd h
    refine ci_X3_295 dX3_canDo_94 S hE hG e94 ?_
    exact c_zretR dX3_canDo_97 S hr hk hC0 hG hS h
  have h := g_if c1_4 h
  by_cases c1_5 : x1 = 5
  · have h := g_it c1_5 h
    refine lv_tableIn (off := 89) (tgt := 90) hx hb dX3_canDo_1 (by rw [c1_5]; decide) (by rw [c1_5]; decide) (by rw [c1_5]; rfl) (by decide) ?_
    refine lv_aload_n hx hb dX3_canDo_90 rfl (lv_at hl 0 rfl) ?_
    obtain ⟨v91, e91, h⟩ := g_bd h
    refine cg_X3_216 dX3_canDo_91 S hE hG e91 ?_
    obtain ⟨v94, e94, h⟩ := g_bd h
    refine ci_X3_295 dX3_canDo_94 S hE hG e94 ?_
    exact c_zretR dX3_canDo_97 S hr hk hC0 hG hS h
  have h := g_if c1_5 h
  refine lv_tableOut (tgt := 98) hx hb dX3_canDo_1 (g_swOut 0 5 (by intro k hk; match k, hk with | 0, _ => exact c1_0 | 1, _ => exact c1_1 | 2, _ => exact c1_2 | 3, _ => exact c1_3 | 4, _ => exact c1_4 | 5, _ => exact c1_5 | k + 6, hk => exact absurd hk (by omega)) (by decide) (by decide)) (by decide) ?_
  refine lv_iconst (v := 1) hx hb dX3_canDo_98 (by decide) ?_
  exact c_zretR dX3_canDo_99 S hr hk hC0 hG hS h
theorem hc_X3_need : cHd yX3_need 1 := by decide +kernel
set_option maxHeartbeats 4000000 in
set_option maxRecDepth 100000 in
theorem wm_X3_need (E : gX) (l : Launch) (hl9 : l.stackTraces = false) (x0 : Nat) (x1 : Int32) (Gz : GH) (r : (GX Unit)) (h : cm_X3_need x0 x1 Gz = some r) : gMetX E l yX3_need cX3_need 2 none 8 [.ref x0, .int x1] Gz (gRs (fun _ => none) r) := by
  refine gMetX.of (own := RX3) (by decide +kernel) (Nat.le_of_ble_eq_true rfl) rfl ?_
  intro p e s m args below meth c S hr hk hx9 hE hC0 hG hS ls hl
  have hl : lv_has ls 2 [(0, .ref x0), (1, .int x1)] := hl
  have hx := S.1
  have hb := S.2.1
  unfold cm_X3_need at h
  refine lv_aload_n hx hb dX3_need_0 rfl (lv_at hl 0 rfl) ?_
  refine lv_iload_n hx hb dX3_need_1 rfl (lv_at hl 1 rfl) ?_
  obtain ⟨u2, t2, h⟩ := g_bd h
  obtain ⟨v2, e2, h⟩ := g_bd h
  refine c_cV (y := yX3_isSign) (rest := []) dX3_need_2 q852 q854 qs11 q125 q855 hc_X3_isSign rfl S hE hG hS hC0 hl.1 rfl (c_recv hE hG (ci := 10) rfl (by decide) (c_castM t2)) (wm_X3_isSign E l x0 x1 Gz _ e2) rfl (Nat.le_of_ble_eq_true rfl) ⟨Nat.le_of_ble_eq_true rfl, Nat.le_of_ble_eq_true rfl⟩ (fun H locs hG hS => ?_)
  refine lv_if_ne (tgt := 14) hx hb dX3_need_5 (by decide) (fun c5 => ?_) (fun c5 => ?_)
  · have h := g_if c5 h
    refine lv_aload_n hx hb dX3_need_14 rfl (lv_at hl 0 rfl) ?_
    obtain ⟨u15, t15, h⟩ := g_bd h
    obtain ⟨G15, e15, h⟩ := g_bd h
    refine c_cV (y := yX3_go) (rest := []) dX3_need_15 q701 q703 qs2 q125 q704 hc_X3_go rfl S hE hG hS hC0 hl.1 rfl (c_recv hE hG (ci := 10) rfl (by decide) (c_castM t15)) (wm_X3_go E l x0 Gz _ e15) rfl (Nat.le_of_ble_eq_true rfl) ⟨Nat.le_of_ble_eq_true rfl, Nat.le_of_ble_eq_true rfl⟩ (fun H locs hG hS => ?_)
    cases h
    exact c_xret (v := none) (G1 := G15) rfl (c_vretW dX3_need_18 S hr hk hC0 hG hS rfl)
  · have h := g_it c5 h
    refine lv_aload_n hx hb dX3_need_8 rfl (lv_at hl 0 rfl) ?_
    refine lv_iconst (v := 1) hx hb dX3_need_9 (by decide) ?_
    obtain ⟨u10, t10, h⟩ := g_bd h
    obtain ⟨qx10, e10, h⟩ := g_bd h
    refine c_cV (y := yX3_wrong) (rest := []) dX3_need_10 q817 q819 qs8 q125 q820 hc_X3_wrong rfl S hE hG hS hC0 hl.1 rfl (c_recv hE hG (ci := 10) rfl (by decide) (c_castM t10)) (wm_X3_wrong E l hl9 x0 1 Gz _ _ e10) rfl (Nat.le_of_ble_eq_true rfl) ⟨Nat.le_of_ble_eq_true rfl, Nat.le_of_ble_eq_true rfl⟩ (fun H locs hG hS => ?_)
    exact c_throwW dX3_need_13 S hE hG hS hC0 hx9 hk h
theorem hc_X26_init : cHd yX26_init 3 := by decide +kernel
set_option maxHeartbeats 4000000 in
set_option maxRecDepth 100000 in
theorem wm_X26_init (E : gX) (l : Launch) (x0 : Nat) (x1 : Int32) (x2 : Int64) (x4 : Int32) (Gz G' : GH) (h : cm_X26_init x0 x1 x2 x4 Gz = some G') : gMetC E l yX26_init cX26_init 5 none 3 [.ref x0, .int x1, .long x2, .int x4] Gz G' none := by
  refine gMetC.of (own := RX26) (by decide +kernel) (Nat.le_of_ble_eq_true rfl) rfl ?_
  intro p e s m args below meth c S hr hk hnm hE hC0 hG hS ls hl
  have hl : lv_has ls 5 [(0, .ref x0), (1, .int x1), (2, .long x2), (4, .int x4)] := hl
  have hx := S.1
  have hb := S.2.1
  unfold cm_X26_init at h
  refine lv_aload_n hx hb dX26_init_0 rfl (lv_at hl 0 rfl) ?_
  obtain ⟨G1, e1, h⟩ := g_bd h
  refine c_cIN (y := yX23_init) (rest := []) dX26_init_1 (lw_nw q1566 rfl) q1536 q165 q1537 hc_X23_init rfl S hE hG hS hC0 hl.1 rfl (wm_X23_init E l x0 Gz _ e1) rfl (Nat.le_of_ble_eq_true rfl) ⟨Nat.le_of_ble_eq_true rfl, Nat.le_of_ble_eq_true rfl⟩ (fun H locs hG hS => ?_)
  refine lv_aload_n hx hb dX26_init_4 rfl (lv_at hl 0 rfl) ?_
  refine lv_iload_n hx hb dX26_init_5 rfl (lv_at hl 1 rfl) ?_
  obtain ⟨G6, e6, h⟩ := g_bd h
  refine cp_X26_7i dX26_init_6 S hE hG hS hC0 hnm e6 (fun H locs hG hS => ?_)
  refine lv_aload_n hx hb dX26_init_9 rfl (lv_at hl 0 rfl) ?_
  refine lv_lload_n hx hb dX26_init_10 rfl (lv_at hl 2 rfl) ?_
  obtain ⟨G11, e11, h⟩ := g_bd h
  refine cp_X26_13i dX26_init_11 S hE hG hS hC0 hnm e11 (fun H locs hG hS => ?_)
  refine lv_aload_n hx hb dX26_init_14 rfl (lv_at hl 0 rfl) ?_
  refine lv_iload hx hb dX26_init_15 (lv_at hl 3 rfl) ?_
  obtain ⟨G17, e17, h⟩ := g_bd h
  refine cp_X26_17i dX26_init_17 S hE hG hS hC0 hnm e17 (fun H locs hG hS => ?_)
  exact c_vretW dX26_init_20 S hr hk hC0 hG hS h
theorem hc_X27_init : cHd yX27_init 1 := by decide +kernel
set_option maxHeartbeats 4000000 in
set_option maxRecDepth 100000 in
theorem wm_X27_init (E : gX) (l : Launch) (x0 : Nat) (x1 : Int32) (Gz G' : GH) (h : cm_X27_init x0 x1 Gz = some G') : gMetC E l yX27_init cX27_init 2 none 3 [.ref x0, .int x1] Gz G' none := by
  refine gMetC.of (own := RX27) (by decide +kernel) (Nat.le_of_ble_eq_true rfl) rfl ?_
  intro p e s m args below meth c S hr hk hnm hE hC0 hG hS ls hl
  have hl : lv_has ls 2 [(0, .ref x0), (1, .int x1)] := hl
  have hx := S.1
  have hb := S.2.1
  unfold cm_X27_init at h
  refine lv_aload_n hx hb dX27_init_0 rfl (lv_at hl 0 rfl) ?_
  obtain ⟨G1, e1, h⟩ := g_bd h
  refine c_cIN (y := yX23_init) (rest := []) dX27_init_1 (lw_nw q1588 rfl) q1536 q165 q1537 hc_X23_init rfl S hE hG hS hC0 hl.1 rfl (wm_X23_init E l x0 Gz _ e1) rfl (Nat.le_of_ble_eq_true rfl) ⟨Nat.le_of_ble_eq_true rfl, Nat.le_of_ble_eq_true rfl⟩ (fun H locs hG hS => ?_)
  refine lv_aload_n hx hb dX27_init_4 rfl (lv_at hl 0 rfl) ?_
  refine lv_iload_n hx hb dX27_init_5 rfl (lv_at hl 1 rfl) ?_
  obtain ⟨G6, e6, h⟩ := g_bd h
  refine cp_X27_7i dX27_init_6 S hE hG hS hC0 hnm e6 (fun H locs hG hS => ?_)
  exact c_vretW dX27_init_9 S hr hk hC0 hG hS h
theorem hc_X3_named : cHd yX3_named 1 := by decide +kernel
set_option maxHeartbeats 4000000 in
set_option maxRecDepth 100000 in
theorem wm_X3_named (E : gX) (l : Launch) (x0 : Nat) (x1 : Int64) (Gz : GH) (r : Option Nat) (h : cm_X3_named x0 x1 Gz = some r) : gMetC E l yX3_named cX3_named 4 (some (Jvm.ClassFile.FieldType.object "FairHouse$Name")) 5 [.ref x0, .long x1] Gz Gz (some (va_rf r)) := by
  refine gMetC.of (own := RX3) (by decide +kernel) (Nat.le_of_ble_eq_true rfl) rfl ?_
  intro p e s m args below meth c S hr hk hnm hE hC0 hG hS ls hl
  have hl : lv_has ls 4 [(0, .ref x0), (1, .long x1)] := hl
  have hx := S.1
  have hb := S.2.1
  have L2 : ∀ (n : Nat) (x0 : Nat) (x1 : Int64) (x3 : Int32) (H : Heap) (locs : List Loc) (ls : Array Slot), cm_X3_named_L2 n x0 x1 x3 Gz = some r → gC E Gz H → va_S (gx_C E) s.heap H locs → lv_has ls 4 [(0, .ref x0), (1, .long x1), (3, .int x3)] → WC E p l e (gRm 5 (cBx Gz) (cBs Gz)) s m args below meth c H locs (MQ below (gQ (some (va_rf r)) (gC E Gz) (gx_C E)) args s (cBx Gz) (cBs Gz) (gx_C E)) (F0 m 2 ls []) := by
    intro n2
    induction n2 with
    | zero =>
      intro x0 x1 x3 H locs ls h
      cases h
    | succ n2 ih2 =>
      intro x0 x1 x3 H locs ls h hG hS hl
      have h : cm_X3_named_B2 (cm_X3_named_L2 n2) x0 x1 x3 Gz = some r := h
      unfold cm_X3_named_B2 at h
      refine lv_iload_n hx hb dX3_named_2 rfl (lv_at hl 2 rfl) ?_
      refine lv_aload_n hx hb dX3_named_3 rfl (lv_at hl 0 rfl) ?_
      obtain ⟨v4, e4, h⟩ := g_bd h
      refine cg_X3_12 dX3_named_4 S hE hG e4 ?_
      obtain ⟨u7, t7, h⟩ := g_bd h
      obtain ⟨v7, e7, h⟩ := g_bd h
      refine c_cV (y := yJ6_size) (rest := [.int x3]) dX3_named_7 q881 q882 q883 q128 q884 hc_J6_size rfl S hE hG hS hC0 hl.1 rfl (c_recv hE hG (ci := 2) rfl (by decide) (c_castM t7)) (wm_J6_size E l v4 Gz _ e7) rfl (Nat.le_of_ble_eq_true rfl) ⟨Nat.le_of_ble_eq_true rfl, Nat.le_of_ble_eq_true rfl⟩ (fun H locs hG hS => ?_)
      refine lv_icmp_ge (tgt := 50) hx hb dX3_named_10 (by decide) (fun c10 => ?_) (fun c10 => ?_)
      · have h := g_it c10 h
        refine lv_null hx hb dX3_named_50 ?_
        exact c_qretR dX3_named_51 (Or.inl ⟨_, rfl⟩) S hr hk hC0 hG hS h
      · have h := g_if c10 h
        refine lv_aload_n hx hb dX3_named_13 rfl (lv_at hl 0 rfl) ?_
        obtain ⟨v14, e14, h⟩ := g_bd h
        refine cg_X3_12 dX3_named_14 S hE hG e14 ?_
        refine lv_iload_n hx hb dX3_named_17 rfl (lv_at hl 2 rfl) ?_
        obtain ⟨u18, t18, h⟩ := g_bd h
        obtain ⟨v18, e18, h⟩ := g_bd h
        refine c_cV (y := yJ6_get) (rest := []) dX3_named_18 q885 q886 q887 q128 q888 hc_J6_get rfl S hE hG hS hC0 hl.1 rfl (c_recv hE hG (ci := 2) rfl (by decide) (c_castM t18)) (wm_J6_get E l v14 x3 Gz _ e18) rfl (Nat.le_of_ble_eq_true rfl) ⟨Nat.le_of_ble_eq_true rfl, Nat.le_of_ble_eq_true rfl⟩ (fun H locs hG hS => ?_)
        obtain ⟨b21, eb21, h⟩ := g_bd h
        have rb21 : va_rf v18 = .ref b21 := by rw [eb21]; rfl
        (try rw [rb21] at hl)
        (try rw [rb21])
        obtain ⟨u21, e21, h⟩ := g_bd h
        refine ck_X3_135 dX3_named_21 S hE hG e21 ?_
        obtain ⟨u24, t24, h⟩ := g_bd h
        obtain ⟨v24, e24, h⟩ := g_bd h
        refine c_cV (y := yX5_word) (rest := []) dX3_named_24 q898 q899 q900 q147 q901 hc_X5_word rfl S hE hG hS hC0 hl.1 rfl (c_recv hE hG (ci := 12) rfl (by decide) (c_castM t24)) (wm_X5_word E l b21 Gz _ e24) rfl (Nat.le_of_ble_eq_true rfl) ⟨Nat.le_of_ble_eq_true rfl, Nat.le_of_ble_eq_true rfl⟩ (fun H locs hG hS => ?_)
        refine lv_lload_n hx hb dX3_named_27 rfl (lv_at hl 1 rfl) ?_
        refine W.lcmp hx hb dX3_named_28 ?_
        refine lv_if_ne (tgt := 44) hx hb dX3_named_29 (by decide) (fun c29 => ?_) (fun c29 => ?_)
        · have h := g_if c29 h
          refine lv_iinc (k := 2) (v := (x3 + 1)) (lv' := [(3, .int (x3 + 1)), (0, .ref x0), (1, .long x1)]) hx hb dX3_named_44 hl rfl rfl (by decide) rfl (fun ls hl => ?_)
          refine lv_goto (tgt := 2) hx hb dX3_named_47 (by decide) ?_
          exact ih2 x0 x1 (x3 + 1) _ _ _ h hG hS (lv_sub hl [1, 2, 0] rfl)
        · have h := g_it c29 h
          refine lv_aload_n hx hb dX3_named_32 rfl (lv_at hl 0 rfl) ?_
          obtain ⟨v33, e33, h⟩ := g_bd h
          refine cg_X3_12 dX3_named_33 S hE hG e33 ?_
          refine lv_iload_n hx hb dX3_named_36 rfl (lv_at hl 2 rfl) ?_
          obtain ⟨u37, t37, h⟩ := g_bd h
          obtain ⟨v37, e37, h⟩ := g_bd h
          refine c_cV (y := yJ6_get) (rest := []) dX3_named_37 q885 q886 q887 q128 q888 hc_J6_get rfl S hE hG hS hC0 hl.1 rfl (c_recv hE hG (ci := 2) rfl (by decide) (c_castM t37)) (wm_J6_get E l v33 x3 Gz _ e37) rfl (Nat.le_of_ble_eq_true rfl) ⟨Nat.le_of_ble_eq_true rfl, Nat.le_of_ble_eq_true rfl⟩ (fun H locs hG hS => ?_)
          obtain ⟨b40, eb40, h⟩ := g_bd h
          have rb40 : va_rf v37 = .ref b40 := by rw [eb40]; rfl
          (try rw [rb40] at hl)
          (try rw [rb40])
          obtain ⟨u40, e40, h⟩ := g_bd h
          refine ck_X3_135 dX3_named_40 S hE hG e40 ?_
          exact c_qretR dX3_named_43 (Or.inl ⟨_, rfl⟩) S hr hk hC0 hG hS h
  unfold cm_X3_named at h
  refine lv_iconst (v := 0) hx hb dX3_named_0 (by decide) ?_
  refine lv_istore_n (lv' := [(3, .int 0), (0, .ref x0), (1, .long x1)]) hx hb dX3_named_1 rfl hl (by decide) rfl (fun ls hl => ?_)
  exact L2 gF x0 x1 0 _ _ _ h hG hS (lv_sub hl [1, 2, 0] rfl)
theorem hc_X3_told : cHd yX3_told 0 := by decide +kernel
set_option maxHeartbeats 4000000 in
set_option maxRecDepth 100000 in
theorem wm_X3_told (E : gX) (l : Launch) (hl9 : l.stackTraces = false) (x0 : Nat) (Gz : GH) (r : (GX Nat)) (h : cm_X3_told x0 Gz = some r) : gMetX E l yX3_told cX3_told 9 (some (Jvm.ClassFile.FieldType.object "FairHouse$Exp\x72")) 9 [.ref x0] Gz (gRs (fun r => some (.ref r)) r) := by
  refine gMetX.of (own := RX3) (by decide +kernel) (Nat.le_of_ble_eq_true rfl) rfl ?_
  intro p e s m args below meth c S hr hk hx9 hE hC0 hG hS ls hl
  have hl : lv_has ls 9 [(0, .ref x0)] := hl
  have hx := S.1
  have hb := S.2.1
  have J91 : ∀ (x0 : Nat) (x3 : Int32) (x4 : Int32) (x5 : Int32) (x6 : Int32) (G : GH) (H : Heap) (locs : List Loc) (ls : Array Slot), cm_X3_told_J91 x0 x3 x4 x5 x6 G = some r → gC E G H → va_S (gx_C E) s.heap H locs → lv_has ls 9 [(0, .ref x0), (3, .int x3), (4, .int x4), (5, .int x5), (6, .int x6)] → WC E p l e (gRm 9 (cBx Gz) (cBs Gz)) s m args below meth c H locs (gXMQ E below (gRs (fun r => some (.ref r)) r) args s Gz) (F0 m 91 ls []) := by
    intro x0 x3 x4 x5 x6 G H locs ls h hG hS hl
    unfold cm_X3_told_J91 at h
    refine lv_aload_n hx hb dX3_told_91 rfl (lv_at hl 0 rfl) ?_
    obtain ⟨u92, t92, h⟩ := g_bd h
    obtain ⟨G92, e92, h⟩ := g_bd h
    refine c_cV (y := yX3_go) (rest := []) dX3_told_92 q701 q703 qs2 q125 q704 hc_X3_go rfl S hE hG hS hC0 hl.1 rfl (c_recv hE hG (ci := 10) rfl (by decide) (c_castM t92)) (wm_X3_go E l x0 G _ e92) rfl (Nat.le_of_ble_eq_true rfl) ⟨Nat.le_of_ble_eq_true rfl, Nat.le_of_ble_eq_true rfl⟩ (fun H locs hG hS => ?_)
    refine lv_iload hx hb dX3_told_95 (lv_at hl 2 rfl) ?_
    refine lv_iconst (v := (-1)) hx hb dX3_told_97 (by decide) ?_
    refine lv_icmp_eq (tgt := 115) hx hb dX3_told_98 (by decide) (fun c98 => ?_) (fun c98 => ?_)
    · have h := g_it c98 h
      refine lv_iload hx hb dX3_told_115 (lv_at hl 3 rfl) ?_
      refine lv_iconst (v := (-1)) hx hb dX3_told_117 (by decide) ?_
      refine lv_icmp_eq (tgt := 133) hx hb dX3_told_118 (by decide) (fun c118 => ?_) (fun c118 => ?_)
      · have h := g_it c118 h
        obtain ⟨qx133, e133, h⟩ := g_bd h
        refine c_new (n := 1) dX3_told_133 q1593 q1594 q170 rfl in_X28 tyX28_ok rfl (by decide) (by decide) S hE hG hS hC0 e133 (fun H locs hG hS => ?_)
        refine lv_dup hx hb dX3_told_136 rfl ?_
        refine lv_iload hx hb dX3_told_137 (lv_at hl 4 rfl) ?_
        obtain ⟨G139, e139, h⟩ := g_bd h
        refine c_cI (y := yX28_init) (rest := [.ref qx133.1]) dX3_told_139 q1595 q1596 q170 q1597 hc_X28_init rfl S hE hG hS hC0 hl.1 rfl (wm_X28_init E l qx133.1 x6 qx133.2 _ e139) rfl (Nat.le_of_ble_eq_true rfl) ⟨Nat.le_of_ble_eq_true rfl, Nat.le_of_ble_eq_true rfl⟩ (fun H locs hG hS => ?_)
        cases h
        exact c_xret (v := some (.ref qx133.1)) (G1 := G139) rfl (c_aretW dX3_told_142 (Or.inl ⟨_, rfl⟩) S hr hk hC0 hG hS rfl)
      · have h := g_if c118 h
        obtain ⟨qx121, e121, h⟩ := g_bd h
        refine c_new (n := 1) dX3_told_121 q1583 q1584 q169 rfl in_X27 tyX27_ok rfl (by decide) (by decide) S hE hG hS hC0 e121 (fun H locs hG hS => ?_)
        refine lv_dup hx hb dX3_told_124 rfl ?_
        refine lv_iload hx hb dX3_told_125 (lv_at hl 3 rfl) ?_
        obtain ⟨G127, e127, h⟩ := g_bd h
        refine c_cI (y := yX27_init) (rest := [.ref qx121.1]) dX3_told_127 q1585 q1586 q169 q1587 hc_X27_init rfl S hE hG hS hC0 hl.1 rfl (wm_X27_init E l qx121.1 x5 qx121.2 _ e127) rfl (Nat.le_of_ble_eq_true rfl) ⟨Nat.le_of_ble_eq_true rfl, Nat.le_of_ble_eq_true rfl⟩ (fun H locs hG hS => ?_)
        refine lv_goto (tgt := 142) hx hb dX3_told_130 (by decide) ?_
        cases h
        exact c_xret (v := some (.ref qx121.1)) (G1 := G127) rfl (c_aretW dX3_told_142 (Or.inl ⟨_, rfl⟩) S hr hk hC0 hG hS rfl)
    · have h := g_if c98 h
      obtain ⟨qx101, e101, h⟩ := g_bd h
      refine c_new (n := 4) dX3_told_101 q1561 q1562 q168 rfl in_X26 tyX26_ok rfl (by decide) (by decide) S hE hG hS hC0 e101 (fun H locs hG hS => ?_)
      refine lv_dup hx hb dX3_told_104 rfl ?_
      refine lv_iload hx hb dX3_told_105 (lv_at hl 2 rfl) ?_
      refine lv_lconst (v := 0) hx hb dX3_told_107 rfl ?_
      refine lv_iload_n hx hb dX3_told_108 rfl (lv_at hl 1 rfl) ?_
      obtain ⟨G109, e109, h⟩ := g_bd h
      refine c_cI (y := yX26_init) (rest := [.ref qx101.1]) dX3_told_109 q1563 q1564 q168 q1565 hc_X26_init rfl S hE hG hS hC0 hl.1 rfl (wm_X26_init E l qx101.1 x4 0 x3 qx101.2 _ e109) rfl (Nat.le_of_ble_eq_true rfl) ⟨Nat.le_of_ble_eq_true rfl, Nat.le_of_ble_eq_true rfl⟩ (fun H locs hG hS => ?_)
      refine lv_goto (tgt := 142) hx hb dX3_told_112 (by decide) ?_
      cases h
      exact c_xret (v := some (.ref qx101.1)) (G1 := G109) rfl (c_aretW dX3_told_142 (Or.inl ⟨_, rfl⟩) S hr hk hC0 hG hS rfl)
  have J217 : ∀ (x0 : Nat) (x1 : Int64) (x3 : Int32) (s0 : Int32) (G : GH) (H : Heap) (locs : List Loc) (ls : Array Slot), cm_X3_told_J217 x0 x1 x3 s0 G = some r → gC E G H → va_S (gx_C E) s.heap H locs → lv_has ls 9 [(0, .ref x0), (1, .long x1), (3, .int x3)] → WC E p l e (gRm 9 (cBx Gz) (cBs Gz)) s m args below meth c H locs (gXMQ E below (gRs (fun r => some (.ref r)) r) args s Gz) (F0 m 217 ls [.int s0]) := by
    intro x0 x1 x3 s0 G H locs ls h hG hS hl
    unfold cm_X3_told_J217 at h
    refine lv_istore (lv' := [(4, .int s0), (0, .ref x0), (1, .long x1), (3, .int x3)]) hx hb dX3_told_217 hl (by decide) rfl (fun ls hl => ?_)
    refine lv_iload hx hb dX3_told_219 (lv_at hl 0 rfl) ?_
    refine lv_iconst (v := (-1)) hx hb dX3_told_221 (by decide) ?_
    refine lv_icmp_ne (tgt := 231) hx hb dX3_told_222 (by decide) (fun c222 => ?_) (fun c222 => ?_)
    · have h := g_if c222 h
      refine lv_aload_n hx hb dX3_told_231 rfl (lv_at hl 1 rfl) ?_
      obtain ⟨u232, t232, h⟩ := g_bd h
      obtain ⟨G232, e232, h⟩ := g_bd h
      refine c_cV (y := yX3_go) (rest := []) dX3_told_232 q701 q703 qs2 q125 q704 hc_X3_go rfl S hE hG hS hC0 hl.1 rfl (c_recv hE hG (ci := 10) rfl (by decide) (c_castM t232)) (wm_X3_go E l x0 G _ e232) rfl (Nat.le_of_ble_eq_true rfl) ⟨Nat.le_of_ble_eq_true rfl, Nat.le_of_ble_eq_true rfl⟩ (fun H locs hG hS => ?_)
      obtain ⟨qx235, e235, h⟩ := g_bd h
      refine c_new (n := 4) dX3_told_235 q1561 q1562 q168 rfl in_X26 tyX26_ok rfl (by decide) (by decide) S hE hG hS hC0 e235 (fun H locs hG hS => ?_)
      refine lv_dup hx hb dX3_told_238 rfl ?_
      refine lv_iload hx hb dX3_told_239 (lv_at hl 0 rfl) ?_
      refine lv_lload_n hx hb dX3_told_241 rfl (lv_at hl 2 rfl) ?_
      refine lv_iload_n hx hb dX3_told_242 rfl (lv_at hl 3 rfl) ?_
      obtain ⟨G243, e243, h⟩ := g_bd h
      refine c_cI (y := yX26_init) (rest := [.ref qx235.1]) dX3_told_243 q1563 q1564 q168 q1565 hc_X26_init rfl S hE hG hS hC0 hl.1 rfl (wm_X26_init E l qx235.1 s0 x1 x3 qx235.2 _ e243) rfl (Nat.le_of_ble_eq_true rfl) ⟨Nat.le_of_ble_eq_true rfl, Nat.le_of_ble_eq_true rfl⟩ (fun H locs hG hS => ?_)
      refine lv_astore (lv' := [(8, .ref qx235.1), (4, .int s0), (0, .ref x0), (1, .long x1), (3, .int x3)]) hx hb dX3_told_246 hl (by decide) rfl (fun ls hl => ?_)
      refine lv_aload_n hx hb dX3_told_248 rfl (lv_at hl 2 rfl) ?_
      obtain ⟨v249, e249, h⟩ := g_bd h
      refine cg_X3_18 dX3_told_249 S hE hG e249 ?_
      refine lv_aload hx hb dX3_told_252 (lv_at hl 0 rfl) ?_
      obtain ⟨u254, t254, h⟩ := g_bd h
      obtain ⟨qx254, e254, h⟩ := g_bd h
      refine c_cV (y := yJ6_add) (rest := []) dX3_told_254 q920 q921 q922 q128 q923 hc_J6_add rfl S hE hG hS hC0 hl.1 rfl (c_recv hE hG (ci := 2) rfl (by decide) (c_castM t254)) (wm_J6_add E l v249 qx235.1 G243 _ _ e254) rfl (Nat.le_of_ble_eq_true rfl) ⟨Nat.le_of_ble_eq_true rfl, Nat.le_of_ble_eq_true rfl⟩ (fun H locs hG hS => ?_)
      refine lv_pop hx hb dX3_told_257 rfl ?_
      refine lv_aload hx hb dX3_told_258 (lv_at hl 0 rfl) ?_
      cases h
      exact c_xret (v := some (.ref qx235.1)) (G1 := qx254.2) rfl (c_aretW dX3_told_260 (Or.inl ⟨_, rfl⟩) S hr hk hC0 hG hS rfl)
    · have h := g_it c222 h
      refine lv_aload_n hx hb dX3_told_225 rfl (lv_at hl 1 rfl) ?_
      refine lv_iconst (v := 1) hx hb dX3_told_226 (by decide) ?_
      obtain ⟨u227, t227, h⟩ := g_bd h
      obtain ⟨qx227, e227, h⟩ := g_bd h
      refine c_cV (y := yX3_wrong) (rest := []) dX3_told_227 q817 q819 qs8 q125 q820 hc_X3_wrong rfl S hE hG hS hC0 hl.1 rfl (c_recv hE hG (ci := 10) rfl (by decide) (c_castM t227)) (wm_X3_wrong E l hl9 x0 1 G _ _ e227) rfl (Nat.le_of_ble_eq_true rfl) ⟨Nat.le_of_ble_eq_true rfl, Nat.le_of_ble_eq_true rfl⟩ (fun H locs hG hS => ?_)
      exact c_throwW dX3_told_230 S hE hG hS hC0 hx9 hk h
  have J183 : ∀ (x0 : Nat) (x1 : Int64) (x3 : Int32) (G : GH) (H : Heap) (locs : List Loc) (ls : Array Slot), cm_X3_told_J183 x0 x1 x3 G = some r → gC E G H → va_S (gx_C E) s.heap H locs → lv_has ls 9 [(0, .ref x0), (1, .long x1), (3, .int x3)] → WC E p l e (gRm 9 (cBx Gz) (cBs Gz)) s m args below meth c H locs (gXMQ E below (gRs (fun r => some (.ref r)) r) args s Gz) (F0 m 183 ls []) := by
    intro x0 x1 x3 G H locs ls h hG hS hl
    unfold cm_X3_told_J183 at h
    refine lv_aload_n hx hb dX3_told_183 rfl (lv_at hl 0 rfl) ?_
    obtain ⟨u184, t184, h⟩ := g_bd h
    obtain ⟨G184, e184, h⟩ := g_bd h
    refine c_cV (y := yX3_go) (rest := []) dX3_told_184 q701 q703 qs2 q125 q704 hc_X3_go rfl S hE hG hS hC0 hl.1 rfl (c_recv hE hG (ci := 10) rfl (by decide) (c_castM t184)) (wm_X3_go E l x0 G _ e184) rfl (Nat.le_of_ble_eq_true rfl) ⟨Nat.le_of_ble_eq_true rfl, Nat.le_of_ble_eq_true rfl⟩ (fun H locs hG hS => ?_)
    refine lv_aload_n hx hb dX3_told_187 rfl (lv_at hl 0 rfl) ?_
    refine lv_bipush (v := 46) hx hb dX3_told_188 (by decide) ?_
    obtain ⟨u190, t190, h⟩ := g_bd h
    rcases gXb_e h with ⟨qx190, e190, h⟩ | ⟨xx190, e190, rfl⟩
    rotate_left
    · exact c_xV (r := .inr xx190) (y := yX3_need) (rest := []) dX3_told_190 q848 q850 qs10 q125 q851 hc_X3_need rfl S hE hG hS hC0 hl.1 rfl (c_recv hE hG (ci := 10) rfl (by decide) (c_castM t190)) (wm_X3_need E l hl9 x0 46 G184 _ e190) rfl (Nat.le_of_ble_eq_true rfl) ⟨Nat.le_of_ble_eq_true rfl, Nat.le_of_ble_eq_true rfl⟩ (fun hr9 => c_xthrew hC0 hr9 hS (fun H locs ce hG hS h1 h2 h3 => c_xout rfl hx9 hk hC0 hG hS h1 h2 h3))
    refine c_xV (r := .inl (none, qx190.2)) (y := yX3_need) (rest := []) dX3_told_190 q848 q850 qs10 q125 q851 hc_X3_need rfl S hE hG hS hC0 hl.1 rfl (c_recv hE hG (ci := 10) rfl (by decide) (c_castM t190)) (wm_X3_need E l hl9 x0 46 G184 _ e190) rfl (Nat.le_of_ble_eq_true rfl) ⟨Nat.le_of_ble_eq_true rfl, Nat.le_of_ble_eq_true rfl⟩ (fun hr9 => c_xback hC0 hr9 hS (fun H locs hG hS => ?_))
    refine lv_aload_n hx hb dX3_told_193 rfl (lv_at hl 0 rfl) ?_
    obtain ⟨v194, e194, h⟩ := g_bd h
    refine cg_X3_58 dX3_told_194 S hE hG e194 ?_
    refine c_gets q723 rfl (hE.stat.1 0 (by decide)) dX3_told_197 S hS ?_
    rw [← hG.2.2.2.2.1]
    refine lv_acmp_ne (rx := (some v194)) (ry := (some (cK qx190.2 (10 + 0)))) (tgt := 216) hx hb dX3_told_200 (by decide) (fun c200 => ?_) (fun c200 => ?_)
    · have h := g_if c200 h
      refine lv_iconst (v := (-1)) hx hb dX3_told_216 (by decide) ?_
      exact J217 x0 x1 x3 (-1) qx190.2 _ _ _ h hG hS (lv_sub hl [0, 1, 2] rfl)
    · have h := g_it c200 h
      refine c_ldcW (i := 66) rfl dX3_told_203 S hE hG ?_
      refine lv_aload_n hx hb dX3_told_206 rfl (lv_at hl 0 rfl) ?_
      obtain ⟨v207, e207, h⟩ := g_bd h
      refine cg_X3_77 dX3_told_207 S hE hG e207 ?_
      obtain ⟨qx210, e210, h⟩ := g_bd h
      refine c_cSN (y := yX1_among) (rest := []) dX3_told_210 (lw_nw q995 rfl) q870 q119 q871 hc_X1_among S hE hG hS hC0 hl.1 rfl (wm_X1_among E l (cK qx190.2 (100 + 66)) v207 qx190.2 _ _ e210) rfl (Nat.le_of_ble_eq_true rfl) ⟨Nat.le_of_ble_eq_true rfl, Nat.le_of_ble_eq_true rfl⟩ (fun H locs hG hS => ?_)
      refine lv_goto (tgt := 217) hx hb dX3_told_213 (by decide) ?_
      exact J217 x0 x1 x3 qx210.1 qx210.2 _ _ _ h hG hS (lv_sub hl [0, 1, 2] rfl)
  have J71 : ∀ (x0 : Nat) (x1 : Int64) (x3 : Int32) (x4 : Int32) (x5 : Int32) (s0 : Int32) (G : GH) (H : Heap) (locs : List Loc) (ls : Array Slot), cm_X3_told_J71 x0 x1 x3 x4 x5 s0 G = some r → gC E G H → va_S (gx_C E) s.heap H locs → lv_has ls 9 [(0, .ref x0), (1, .long x1), (3, .int x3), (4, .int x4), (5, .int x5)] → WC E p l e (gRm 9 (cBx Gz) (cBs Gz)) s m args below meth c H locs (gXMQ E below (gRs (fun r => some (.ref r)) r) args s Gz) (F0 m 71 ls [.int s0]) := by
    intro x0 x1 x3 x4 x5 s0 G H locs ls h hG hS hl
    unfold cm_X3_told_J71 at h
    refine lv_istore (lv' := [(6, .int s0), (0, .ref x0), (1, .long x1), (3, .int x3), (4, .int x4), (5, .int x5)]) hx hb dX3_told_71 hl (by decide) rfl (fun ls hl => ?_)
    refine lv_iload hx hb dX3_told_73 (lv_at hl 4 rfl) ?_
    refine lv_iconst (v := (-1)) hx hb dX3_told_75 (by decide) ?_
    refine lv_icmp_ne (tgt := 91) hx hb dX3_told_76 (by decide) (fun c76 => ?_) (fun c76 => ?_)
    · have h := g_if c76 h
      exact J91 x0 x3 x4 x5 s0 G _ _ _ h hG hS (lv_sub hl [1, 3, 4, 5, 0] rfl)
    · have h := g_it c76 h
      refine lv_iload hx hb dX3_told_79 (lv_at hl 5 rfl) ?_
      refine lv_iconst (v := (-1)) hx hb dX3_told_81 (by decide) ?_
      refine lv_icmp_ne (tgt := 91) hx hb dX3_told_82 (by decide) (fun c82 => ?_) (fun c82 => ?_)
      · have h := g_if c82 h
        exact J91 x0 x3 x4 x5 s0 G _ _ _ h hG hS (lv_sub hl [1, 3, 4, 5, 0] rfl)
      · have h := g_it c82 h
        refine lv_iload hx hb dX3_told_85 (lv_at hl 0 rfl) ?_
        refine lv_iconst (v := (-1)) hx hb dX3_told_87 (by decide) ?_
        refine lv_icmp_eq (tgt := 143) hx hb dX3_told_88 (by decide) (fun c88 => ?_) (fun c88 => ?_)
        · have h := g_it c88 h
          refine lv_lload_n hx hb dX3_told_143 rfl (lv_at hl 2 rfl) ?_
          obtain ⟨qx144, e144, h⟩ := g_bd h
          refine c_cSN (y := yX1_isReserved) (rest := []) dX3_told_144 (lw_nw q865 rfl) q866 q119 q867 hc_X1_isReserved S hE hG hS hC0 hl.1 rfl (wm_X1_isReserved E l x1 G _ _ e144) rfl (Nat.le_of_ble_eq_true rfl) ⟨Nat.le_of_ble_eq_true rfl, Nat.le_of_ble_eq_true rfl⟩ (fun H locs hG hS => ?_)
          refine lv_if_eq (tgt := 156) hx hb dX3_told_147 (by decide) (fun c147 => ?_) (fun c147 => ?_)
          · have h := g_it c147 h
            refine lv_aload_n hx hb dX3_told_156 rfl (lv_at hl 1 rfl) ?_
            refine lv_lload_n hx hb dX3_told_157 rfl (lv_at hl 2 rfl) ?_
            obtain ⟨u158, t158, h⟩ := g_bd h
            obtain ⟨v158, e158, h⟩ := g_bd h
            refine c_cV (y := yX3_named) (rest := []) dX3_told_158 q877 q879 qs14 q125 q880 hc_X3_named rfl S hE hG hS hC0 hl.1 rfl (c_recv hE hG (ci := 10) rfl (by decide) (c_castM t158)) (wm_X3_named E l x0 x1 qx144.2 _ e158) rfl (Nat.le_of_ble_eq_true rfl) ⟨Nat.le_of_ble_eq_true rfl, Nat.le_of_ble_eq_true rfl⟩ (fun H locs hG hS => ?_)
            refine c_astoreQ (lv' := [(7, va_rf v158), (6, .int s0), (0, .ref x0), (1, .long x1), (3, .int x3), (4, .int x4), (5, .int x5)]) hx hb dX3_told_161 hl (by decide) (by cases v158 <;> rfl) (fun ls hl => ?_)
            refine c_aloadQ hx hb dX3_told_163 (lv_at hl 0 rfl) ?_
            refine c_ifnull (tgt := 183) hx hb dX3_told_165 (by decide) (fun c165 => ?_) (fun c165 => ?_)
            · have h := g_it c165 h
              exact J183 x0 x1 x3 qx144.2 _ _ _ h hG hS (lv_sub hl [2, 3, 4] rfl)
            · have h := g_if c165 h
              refine c_aloadQ hx hb dX3_told_168 (lv_at hl 0 rfl) ?_
              obtain ⟨b170, eb170, h⟩ := g_bd h
              have rb170 : va_rf v158 = .ref b170 := by rw [eb170]; rfl
              (try rw [rb170] at hl)
              (try rw [rb170])
              obtain ⟨u170, t170, h⟩ := g_bd h
              obtain ⟨v170, e170, h⟩ := g_bd h
              refine c_cV (y := yX5_sort) (rest := []) dX3_told_170 q1382 q1383 q1384 q147 q1385 hc_X5_sort rfl S hE hG hS hC0 hl.1 rfl (c_recv hE hG (ci := 12) rfl (by decide) (c_castM t170)) (wm_X5_sort E l b170 qx144.2 _ e170) rfl (Nat.le_of_ble_eq_true rfl) ⟨Nat.le_of_ble_eq_true rfl, Nat.le_of_ble_eq_true rfl⟩ (fun H locs hG hS => ?_)
              refine lv_iconst (v := 2) hx hb dX3_told_173 (by decide) ?_
              refine lv_icmp_eq (tgt := 183) hx hb dX3_told_174 (by decide) (fun c174 => ?_) (fun c174 => ?_)
              · have h := g_it c174 h
                exact J183 x0 x1 x3 qx144.2 _ _ _ h hG hS (lv_sub hl [2, 3, 4] rfl)
              · have h := g_if c174 h
                refine lv_aload_n hx hb dX3_told_177 rfl (lv_at hl 2 rfl) ?_
                refine lv_iconst (v := 3) hx hb dX3_told_178 (by decide) ?_
                obtain ⟨u179, t179, h⟩ := g_bd h
                obtain ⟨qx179, e179, h⟩ := g_bd h
                refine c_cV (y := yX3_wrong) (rest := []) dX3_told_179 q817 q819 qs8 q125 q820 hc_X3_wrong rfl S hE hG hS hC0 hl.1 rfl (c_recv hE hG (ci := 10) rfl (by decide) (c_castM t179)) (wm_X3_wrong E l hl9 x0 3 qx144.2 _ _ e179) rfl (Nat.le_of_ble_eq_true rfl) ⟨Nat.le_of_ble_eq_true rfl, Nat.le_of_ble_eq_true rfl⟩ (fun H locs hG hS => ?_)
                exact c_throwW dX3_told_182 S hE hG hS hC0 hx9 hk h
          · have h := g_if c147 h
            refine lv_aload_n hx hb dX3_told_150 rfl (lv_at hl 1 rfl) ?_
            refine lv_iconst (v := 1) hx hb dX3_told_151 (by decide) ?_
            obtain ⟨u152, t152, h⟩ := g_bd h
            obtain ⟨qx152, e152, h⟩ := g_bd h
            refine c_cV (y := yX3_wrong) (rest := []) dX3_told_152 q817 q819 qs8 q125 q820 hc_X3_wrong rfl S hE hG hS hC0 hl.1 rfl (c_recv hE hG (ci := 10) rfl (by decide) (c_castM t152)) (wm_X3_wrong E l hl9 x0 1 qx144.2 _ _ e152) rfl (Nat.le_of_ble_eq_true rfl) ⟨Nat.le_of_ble_eq_true rfl, Nat.le_of_ble_eq_true rfl⟩ (fun H locs hG hS => ?_)
            exact c_throwW dX3_told_155 S hE hG hS hC0 hx9 hk h
        · have h := g_if c88 h
          exact J91 x0 x3 x4 x5 s0 G _ _ _ h hG hS (lv_sub hl [1, 3, 4, 5, 0] rfl)
  unfold cm_X3_told at h
  refine lv_aload_n hx hb dX3_told_0 rfl (lv_at hl 0 rfl) ?_
  obtain ⟨v1, e1, h⟩ := g_bd h
  refine cg_X3_77 dX3_told_1 S hE hG e1 ?_
  refine lv_lstore_n (lv' := [(1, .long v1), (0, .ref x0)]) hx hb dX3_told_4 rfl hl (by decide) rfl (fun ls hl => ?_)
  refine lv_aload_n hx hb dX3_told_5 rfl (lv_at hl 1 rfl) ?_
  obtain ⟨v6, e6, h⟩ := g_bd h
  refine cg_X3_45 dX3_told_6 S hE hG e6 ?_
  refine lv_istore_n (lv' := [(3, .int v6), (1, .long v1), (0, .ref x0)]) hx hb dX3_told_9 rfl hl (by decide) rfl (fun ls hl => ?_)
  refine c_ldcW (i := 66) rfl dX3_told_10 S hE hG ?_
  refine lv_lload_n hx hb dX3_told_13 rfl (lv_at hl 1 rfl) ?_
  obtain ⟨qx14, e14, h⟩ := g_bd h
  refine c_cSN (y := yX1_among) (rest := []) dX3_told_14 (lw_nw q995 rfl) q870 q119 q871 hc_X1_among S hE hG hS hC0 hl.1 rfl (wm_X1_among E l (cK Gz (100 + 66)) v1 Gz _ _ e14) rfl (Nat.le_of_ble_eq_true rfl) ⟨Nat.le_of_ble_eq_true rfl, Nat.le_of_ble_eq_true rfl⟩ (fun H locs hG hS => ?_)
  refine lv_istore (lv' := [(4, .int qx14.1), (3, .int v6), (1, .long v1), (0, .ref x0)]) hx hb dX3_told_17 hl (by decide) rfl (fun ls hl => ?_)
  refine lv_lload_n hx hb dX3_told_19 rfl (lv_at hl 2 rfl) ?_
  obtain ⟨qx20, e20, h⟩ := g_bd h
  refine c_cS (y := yX3_registerOf) (rest := []) dX3_told_20 q1456 q1457 q125 q1458 hc_X3_registerOf S hE hG hS hC0 hl.1 rfl (wm_X3_registerOf E l v1 qx14.2 _ _ e20) rfl (Nat.le_of_ble_eq_true rfl) ⟨Nat.le_of_ble_eq_true rfl, Nat.le_of_ble_eq_true rfl⟩ (fun H locs hG hS => ?_)
  refine lv_istore (lv' := [(5, .int qx20.1), (4, .int qx14.1), (3, .int v6), (1, .long v1), (0, .ref x0)]) hx hb dX3_told_23 hl (by decide) rfl (fun ls hl => ?_)
  refine lv_lload_n hx hb dX3_told_25 rfl (lv_at hl 3 rfl) ?_
  refine c_ldcW (i := 67) rfl dX3_told_26 S hE hG ?_
  obtain ⟨qx29, e29, h⟩ := g_bd h
  refine c_cSN (y := yX1_word) (rest := [.long v1]) dX3_told_29 (lw_nw q793 rfl) q794 q119 q795 hc_X1_word S hE hG hS hC0 hl.1 rfl (wm_X1_word E l (cK qx20.2 (100 + 67)) qx20.2 _ _ e29) rfl (Nat.le_of_ble_eq_true rfl) ⟨Nat.le_of_ble_eq_true rfl, Nat.le_of_ble_eq_true rfl⟩ (fun H locs hG hS => ?_)
  refine W.lcmp hx hb dX3_told_32 ?_
  refine lv_if_ne (tgt := 40) hx hb dX3_told_33 (by decide) (fun c33 => ?_) (fun c33 => ?_)
  · have h := g_if c33 h
    refine lv_lload_n hx hb dX3_told_40 rfl (lv_at hl 3 rfl) ?_
    refine c_ldcW (i := 68) rfl dX3_told_41 S hE hG ?_
    obtain ⟨qx44, e44, h⟩ := g_bd h
    refine c_cSN (y := yX1_word) (rest := [.long v1]) dX3_told_44 (lw_nw q793 rfl) q794 q119 q795 hc_X1_word S hE hG hS hC0 hl.1 rfl (wm_X1_word E l (cK qx29.2 (100 + 68)) qx29.2 _ _ e44) rfl (Nat.le_of_ble_eq_true rfl) ⟨Nat.le_of_ble_eq_true rfl, Nat.le_of_ble_eq_true rfl⟩ (fun H locs hG hS => ?_)
    refine W.lcmp hx hb dX3_told_47 ?_
    refine lv_if_ne (tgt := 55) hx hb dX3_told_48 (by decide) (fun c48 => ?_) (fun c48 => ?_)
    · have h := g_if c48 h
      refine lv_lload_n hx hb dX3_told_55 rfl (lv_at hl 3 rfl) ?_
      refine c_ldcW (i := 69) rfl dX3_told_56 S hE hG ?_
      obtain ⟨qx59, e59, h⟩ := g_bd h
      refine c_cSN (y := yX1_word) (rest := [.long v1]) dX3_told_59 (lw_nw q793 rfl) q794 q119 q795 hc_X1_word S hE hG hS hC0 hl.1 rfl (wm_X1_word E l (cK qx44.2 (100 + 69)) qx44.2 _ _ e59) rfl (Nat.le_of_ble_eq_true rfl) ⟨Nat.le_of_ble_eq_true rfl, Nat.le_of_ble_eq_true rfl⟩ (fun H locs hG hS => ?_)
      refine W.lcmp hx hb dX3_told_62 ?_
      refine lv_if_ne (tgt := 70) hx hb dX3_told_63 (by decide) (fun c63 => ?_) (fun c63 => ?_)
      · have h := g_if c63 h
        refine lv_iconst (v := (-1)) hx hb dX3_told_70 (by decide) ?_
        exact J71 x0 v1 v6 qx14.1 qx20.1 (-1) qx59.2 _ _ _ h hG hS (lv_sub hl [4, 3, 2, 1, 0] rfl)
      · have h := g_it c63 h
        refine lv_iconst (v := 2) hx hb dX3_told_66 (by decide) ?_
        refine lv_goto (tgt := 71) hx hb dX3_told_67 (by decide) ?_
        exact J71 x0 v1 v6 qx14.1 qx20.1 2 qx59.2 _ _ _ h hG hS (lv_sub hl [4, 3, 2, 1, 0] rfl)
    · have h := g_it c48 h
      refine lv_iconst (v := 1) hx hb dX3_told_51 (by decide) ?_
      refine lv_goto (tgt := 71) hx hb dX3_told_52 (by decide) ?_
      exact J71 x0 v1 v6 qx14.1 qx20.1 1 qx44.2 _ _ _ h hG hS (lv_sub hl [4, 3, 2, 1, 0] rfl)
  · have h := g_it c33 h
    refine lv_iconst (v := 0) hx hb dX3_told_36 (by decide) ?_
    refine lv_goto (tgt := 71) hx hb dX3_told_37 (by decide) ?_
    exact J71 x0 v1 v6 qx14.1 qx20.1 0 qx29.2 _ _ _ h hG hS (lv_sub hl [4, 3, 2, 1, 0] rfl)
theorem hc_X3_sum : cHd yX3_sum 0 := by decide +kernel
theorem hc_X3_product : cHd yX3_product 0 := by decide +kernel
theorem hc_X3_factor : cHd yX3_factor 0 := by decide +kernel
set_option maxHeartbeats 4000000 in
set_option maxRecDepth 100000 in
theorem wm_S221 (E : gX) (l : Launch) (hl9 : l.stackTraces = false) : ∀ d : Nat, (∀ (x0 : Nat) (Gz : GH) (r : (GX Nat)), (cm_S221 d).1 x0 Gz = some r → gMetX E l yX3_sum cX3_sum 4 (some (Jvm.ClassFile.FieldType.object "FairHouse$Exp\x72")) (10 + d) [.ref x0] Gz (gRs (fun r => some (.ref r)) r)) ∧ (∀ (x0 : Nat) (Gz : GH) (r : (GX Nat)), (cm_S221 d).2.1 x0 Gz = some r → gMetX E l yX3_product cX3_product 4 (some (Jvm.ClassFile.FieldType.object "FairHouse$Exp\x72")) (10 + d) [.ref x0] Gz (gRs (fun r => some (.ref r)) r)) ∧ (∀ (x0 : Nat) (Gz : GH) (r : (GX Nat)), (cm_S221 d).2.2 x0 Gz = some r → gMetX E l yX3_factor cX3_factor 3 (some (Jvm.ClassFile.FieldType.object "FairHouse$Exp\x72")) (10 + d) [.ref x0] Gz (gRs (fun r => some (.ref r)) r)) := by
  intro d
  induction d with
  | zero =>
    exact ⟨fun _ _ _ h => (nomatch (show (none : Option (GX Nat)) = some _ from h)), fun _ _ _ h => (nomatch (show (none : Option (GX Nat)) = some _ from h)), fun _ _ _ h => (nomatch (show (none : Option (GX Nat)) = some _ from h))⟩
  | succ d ihd =>
    refine ⟨?_, ?_, ?_⟩
    · intro x0 Gz r h
      refine gMetX.of (own := RX3) (by decide +kernel) (Nat.le_of_ble_eq_true rfl) rfl ?_
      intro p e s m args below meth c S hr hk hx9 hE hC0 hG hS ls hl
      have hl : lv_has ls 4 [(0, .ref x0)] := hl
      have hx := S.1
      have hb := S.2.1
      have L7 : ∀ (n : Nat) (x0 : Nat) (x1 : Nat) (x2 : Option Nat) (G : GH) (H : Heap) (locs : List Loc) (ls : Array Slot), cm_X3_sum_L7 (cm_S221 d) n x0 x1 x2 G = some r → gC E G H → va_S (gx_C E) s.heap H locs → lv_has ls 4 [(0, .ref x0), (1, .ref x1), (2, va_rf x2)] → WC E p l e (gRm (10 + (d + 1)) (cBx Gz) (cBs Gz)) s m args below meth c H locs (gXMQ E below (gRs (fun r => some (.ref r)) r) args s Gz) (F0 m 7 ls []) := by
        intro n7
        induction n7 with
        | zero =>
          intro x0 x1 x2 G H locs ls h
          cases h
        | succ n7 ih7 =>
          have J38 : ∀ (x0 : Nat) (x1 : Nat) (x2 : Option Nat) (G : GH) (H : Heap) (locs : List Loc) (ls : Array Slot), cm_X3_sum_J38 (cm_S221 d) (cm_X3_sum_L7 (cm_S221 d) n7) x0 x1 x2 G = some r → gC E G H → va_S (gx_C E) s.heap H locs → lv_has ls 4 [(0, .ref x0), (1, .ref x1), (2, va_rf x2)] → WC E p l e (gRm (10 + (d + 1)) (cBx Gz) (cBs Gz)) s m args below meth c H locs (gXMQ E below (gRs (fun r => some (.ref r)) r) args s Gz) (F0 m 38 ls []) := by
            intro x0 x1 x2 G H locs ls h hG hS hl
            unfold cm_X3_sum_J38 at h
            refine lv_aload_n hx hb dX3_sum_38 rfl (lv_at hl 0 rfl) ?_
            obtain ⟨v39, e39, h⟩ := g_bd h
            refine cg_X3_96 dX3_sum_39 S hE hG e39 ?_
            refine lv_istore_n (lv' := [(3, .int v39), (0, .ref x0), (1, .ref x1), (2, va_rf x2)]) hx hb dX3_sum_42 rfl hl (by decide) (by cases x2 <;> rfl) (fun ls hl => ?_)
            refine lv_aload_n hx hb dX3_sum_43 rfl (lv_at hl 1 rfl) ?_
            obtain ⟨u44, t44, h⟩ := g_bd h
            obtain ⟨G44, e44, h⟩ := g_bd h
            refine c_cV (y := yX3_go) (rest := []) dX3_sum_44 q701 q703 qs2 q125 q704 hc_X3_go rfl S hE hG hS hC0 hl.1 rfl (c_recv hE hG (ci := 10) rfl (by decide) (c_castM t44)) (wm_X3_go E l x0 G _ e44) rfl (Nat.le_of_ble_eq_true rfl) ⟨by omega, by omega⟩ (fun H locs hG hS => ?_)
            refine c_aloadQ_n hx hb dX3_sum_47 rfl (lv_at hl 3 rfl) ?_
            refine lv_iload_n hx hb dX3_sum_48 rfl (lv_at hl 0 rfl) ?_
            refine lv_aload_n hx hb dX3_sum_49 rfl (lv_at hl 1 rfl) ?_
            obtain ⟨u50, t50, h⟩ := g_bd h
            rcases gXb_e h with ⟨qx50, e50, h⟩ | ⟨xx50, e50, rfl⟩
            rotate_left
            · exact c_xV (r := .inr xx50) (y := yX3_product) (rest := [.int v39, va_rf x2]) dX3_sum_50 q1522 q1524 qs27 q125 q1525 hc_X3_product rfl S hE hG hS hC0 hl.1 rfl (c_recv hE hG (ci := 10) rfl (by decide) (c_castM t50)) (ihd.2.1 x0 G44 _ e50) rfl (by cases x2 <;> exact Nat.le_of_ble_eq_true rfl) ⟨by omega, by omega⟩ (fun hr9 => c_xthrew hC0 hr9 hS (fun H locs ce hG hS h1 h2 h3 => c_xout rfl hx9 hk hC0 hG hS h1 h2 h3))
            refine c_xV (r := .inl (some (.ref qx50.1), qx50.2)) (y := yX3_product) (rest := [.int v39, va_rf x2]) dX3_sum_50 q1522 q1524 qs27 q125 q1525 hc_X3_product rfl S hE hG hS hC0 hl.1 rfl (c_recv hE hG (ci := 10) rfl (by decide) (c_castM t50)) (ihd.2.1 x0 G44 _ e50) rfl (by cases x2 <;> exact Nat.le_of_ble_eq_true rfl) ⟨by omega, by omega⟩ (fun hr9 => c_xback hC0 hr9 hS (fun H locs hG hS => ?_))
            obtain ⟨b53, eb53, h⟩ := g_bd h
            have rb53 : va_rf x2 = .ref b53 := by rw [eb53]; rfl
            (try rw [rb53] at hl)
            (try rw [rb53])
            obtain ⟨u53, t53, h⟩ := g_bd h
            obtain ⟨G53, e53, h⟩ := g_bd h
            refine c_cV (y := yX29_add) (rest := []) dX3_sum_53 q1621 q1622 q1623 q171 q1624 hc_X29_add rfl S hE hG hS hC0 hl.1 rfl (c_recv hE hG (ci := 34) rfl (by decide) (c_castM t53)) (wm_X29_add E l b53 v39 qx50.1 qx50.2 _ e53) rfl (Nat.le_of_ble_eq_true rfl) ⟨by omega, by omega⟩ (fun H locs hG hS => ?_)
            refine lv_goto (tgt := 7) hx hb dX3_sum_56 (by decide) ?_
            exact ih7 x0 x1 (some b53) G53 _ _ _ h hG hS (lv_sub hl [1, 2, 3] rfl)
          have J25 : ∀ (x0 : Nat) (x1 : Nat) (x2 : Option Nat) (G : GH) (H : Heap) (locs : List Loc) (ls : Array Slot), cm_X3_sum_J25 (cm_S221 d) (cm_X3_sum_L7 (cm_S221 d) n7) x0 x1 x2 G = some r → gC E G H → va_S (gx_C E) s.heap H locs → lv_has ls 4 [(0, .ref x0), (1, .ref x1), (2, va_rf x2)] → WC E p l e (gRm (10 + (d + 1)) (cBx Gz) (cBs Gz)) s m args below meth c H locs (gXMQ E below (gRs (fun r => some (.ref r)) r) args s Gz) (F0 m 25 ls []) := by
            intro x0 x1 x2 G H locs ls h hG hS hl
            unfold cm_X3_sum_J25 at h
            refine c_aloadQ_n hx hb dX3_sum_25 rfl (lv_at hl 2 rfl) ?_
            refine c_ifnonnull (tgt := 38) hx hb dX3_sum_26 (by decide) (fun c26 => ?_) (fun c26 => ?_)
            · have h := g_if c26 h
              exact J38 x0 x1 x2 G _ _ _ h hG hS (lv_sub hl [0, 1, 2] rfl)
            · have h := g_it c26 h
              obtain ⟨qx29, e29, h⟩ := g_bd h
              refine c_new (n := 3) dX3_sum_29 q1603 q1604 q171 rfl in_X29 tyX29_ok rfl (by decide) (by decide) S hE hG hS hC0 e29 (fun H locs hG hS => ?_)
              refine lv_dup hx hb dX3_sum_32 rfl ?_
              refine lv_aload_n hx hb dX3_sum_33 rfl (lv_at hl 1 rfl) ?_
              obtain ⟨G34, e34, h⟩ := g_bd h
              refine c_cI (y := yX29_init) (rest := [.ref qx29.1]) dX3_sum_34 q1605 q1606 q171 q1607 hc_X29_init rfl S hE hG hS hC0 hl.1 rfl (wm_X29_init E l qx29.1 x1 qx29.2 _ e34) rfl (Nat.le_of_ble_eq_true rfl) ⟨by omega, by omega⟩ (fun H locs hG hS => ?_)
              refine lv_astore_n (lv' := [(2, .ref qx29.1), (0, .ref x0), (1, .ref x1)]) hx hb dX3_sum_37 rfl hl (by decide) rfl (fun ls hl => ?_)
              exact J38 x0 x1 (some qx29.1) G34 _ _ _ h hG hS (lv_sub hl [1, 2, 0] rfl)
          intro x0 x1 x2 G H locs ls h hG hS hl
          have h : cm_X3_sum_B7 (cm_S221 d) (cm_X3_sum_L7 (cm_S221 d) n7) x0 x1 x2 G = some r := h
          unfold cm_X3_sum_B7 at h
          refine lv_aload_n hx hb dX3_sum_7 rfl (lv_at hl 0 rfl) ?_
          refine lv_bipush (v := 43) hx hb dX3_sum_8 (by decide) ?_
          obtain ⟨u10, t10, h⟩ := g_bd h
          obtain ⟨v10, e10, h⟩ := g_bd h
          refine c_cV (y := yX3_isSign) (rest := []) dX3_sum_10 q852 q854 qs11 q125 q855 hc_X3_isSign rfl S hE hG hS hC0 hl.1 rfl (c_recv hE hG (ci := 10) rfl (by decide) (c_castM t10)) (wm_X3_isSign E l x0 43 G _ e10) rfl (Nat.le_of_ble_eq_true rfl) ⟨by omega, by omega⟩ (fun H locs hG hS => ?_)
          refine lv_if_ne (tgt := 25) hx hb dX3_sum_13 (by decide) (fun c13 => ?_) (fun c13 => ?_)
          · have h := g_if c13 h
            exact J25 x0 x1 x2 G _ _ _ h hG hS (lv_sub hl [0, 1, 2] rfl)
          · have h := g_it c13 h
            refine lv_aload_n hx hb dX3_sum_16 rfl (lv_at hl 0 rfl) ?_
            refine lv_bipush (v := 45) hx hb dX3_sum_17 (by decide) ?_
            obtain ⟨u19, t19, h⟩ := g_bd h
            obtain ⟨v19, e19, h⟩ := g_bd h
            refine c_cV (y := yX3_isSign) (rest := []) dX3_sum_19 q852 q854 qs11 q125 q855 hc_X3_isSign rfl S hE hG hS hC0 hl.1 rfl (c_recv hE hG (ci := 10) rfl (by decide) (c_castM t19)) (wm_X3_isSign E l x0 45 G _ e19) rfl (Nat.le_of_ble_eq_true rfl) ⟨by omega, by omega⟩ (fun H locs hG hS => ?_)
            refine lv_if_eq (tgt := 59) hx hb dX3_sum_22 (by decide) (fun c22 => ?_) (fun c22 => ?_)
            · have h := g_it c22 h
              refine c_aloadQ_n hx hb dX3_sum_59 rfl (lv_at hl 2 rfl) ?_
              refine c_ifnonnull (tgt := 67) hx hb dX3_sum_60 (by decide) (fun c60 => ?_) (fun c60 => ?_)
              · have h := g_if c60 h
                refine c_aloadQ_n hx hb dX3_sum_67 rfl (lv_at hl 2 rfl) ?_
                obtain ⟨b68, eb68, h⟩ := g_bd h
                have rb68 : va_rf x2 = .ref b68 := by rw [eb68]; rfl
                (try rw [rb68] at hl)
                (try rw [rb68])
                cases h
                exact c_xret (v := some (.ref b68)) (G1 := G) rfl (c_aretW dX3_sum_68 (Or.inl ⟨_, rfl⟩) S hr hk hC0 hG hS rfl)
              · have h := g_it c60 h
                refine lv_aload_n hx hb dX3_sum_63 rfl (lv_at hl 1 rfl) ?_
                refine lv_goto (tgt := 68) hx hb dX3_sum_64 (by decide) ?_
                cases h
                exact c_xret (v := some (.ref x1)) (G1 := G) rfl (c_aretW dX3_sum_68 (Or.inl ⟨_, rfl⟩) S hr hk hC0 hG hS rfl)
            · have h := g_if c22 h
              exact J25 x0 x1 x2 G _ _ _ h hG hS (lv_sub hl [0, 1, 2] rfl)
      have h : cm_X3_sum_B (cm_S221 d) x0 Gz = some r := h
      unfold cm_X3_sum_B at h
      refine lv_aload_n hx hb dX3_sum_0 rfl (lv_at hl 0 rfl) ?_
      obtain ⟨u1, t1, h⟩ := g_bd h
      rcases gXb_e h with ⟨qx1, e1, h⟩ | ⟨xx1, e1, rfl⟩
      rotate_left
      · exact c_xV (r := .inr xx1) (y := yX3_product) (rest := []) dX3_sum_1 q1522 q1524 qs27 q125 q1525 hc_X3_product rfl S hE hG hS hC0 hl.1 rfl (c_recv hE hG (ci := 10) rfl (by decide) (c_castM t1)) (ihd.2.1 x0 Gz _ e1) rfl (Nat.le_of_ble_eq_true rfl) ⟨by omega, by omega⟩ (fun hr9 => c_xthrew hC0 hr9 hS (fun H locs ce hG hS h1 h2 h3 => c_xout rfl hx9 hk hC0 hG hS h1 h2 h3))
      refine c_xV (r := .inl (some (.ref qx1.1), qx1.2)) (y := yX3_product) (rest := []) dX3_sum_1 q1522 q1524 qs27 q125 q1525 hc_X3_product rfl S hE hG hS hC0 hl.1 rfl (c_recv hE hG (ci := 10) rfl (by decide) (c_castM t1)) (ihd.2.1 x0 Gz _ e1) rfl (Nat.le_of_ble_eq_true rfl) ⟨by omega, by omega⟩ (fun hr9 => c_xback hC0 hr9 hS (fun H locs hG hS => ?_))
      refine lv_astore_n (lv' := [(1, .ref qx1.1), (0, .ref x0)]) hx hb dX3_sum_4 rfl hl (by decide) rfl (fun ls hl => ?_)
      refine lv_null hx hb dX3_sum_5 ?_
      refine lv_astore_nN (lv' := [(2, .null), (1, .ref qx1.1), (0, .ref x0)]) hx hb dX3_sum_6 rfl hl (by decide) rfl (fun ls hl => ?_)
      exact L7 gF x0 qx1.1 none qx1.2 _ _ _ h hG hS (lv_sub hl [2, 1, 0] rfl)
    · intro x0 Gz r h
      refine gMetX.of (own := RX3) (by decide +kernel) (Nat.le_of_ble_eq_true rfl) rfl ?_
      intro p e s m args below meth c S hr hk hx9 hE hC0 hG hS ls hl
      have hl : lv_has ls 4 [(0, .ref x0)] := hl
      have hx := S.1
      have hb := S.2.1
      have L7 : ∀ (n : Nat) (x0 : Nat) (x1 : Nat) (x2 : Option Nat) (G : GH) (H : Heap) (locs : List Loc) (ls : Array Slot), cm_X3_product_L7 (cm_S221 d) n x0 x1 x2 G = some r → gC E G H → va_S (gx_C E) s.heap H locs → lv_has ls 4 [(0, .ref x0), (1, .ref x1), (2, va_rf x2)] → WC E p l e (gRm (10 + (d + 1)) (cBx Gz) (cBs Gz)) s m args below meth c H locs (gXMQ E below (gRs (fun r => some (.ref r)) r) args s Gz) (F0 m 7 ls []) := by
        intro n7
        induction n7 with
        | zero =>
          intro x0 x1 x2 G H locs ls h
          cases h
        | succ n7 ih7 =>
          have J38 : ∀ (x0 : Nat) (x1 : Nat) (x2 : Option Nat) (G : GH) (H : Heap) (locs : List Loc) (ls : Array Slot), cm_X3_product_J38 (cm_S221 d) (cm_X3_product_L7 (cm_S221 d) n7) x0 x1 x2 G = some r → gC E G H → va_S (gx_C E) s.heap H locs → lv_has ls 4 [(0, .ref x0), (1, .ref x1), (2, va_rf x2)] → WC E p l e (gRm (10 + (d + 1)) (cBx Gz) (cBs Gz)) s m args below meth c H locs (gXMQ E below (gRs (fun r => some (.ref r)) r) args s Gz) (F0 m 38 ls []) := by
            intro x0 x1 x2 G H locs ls h hG hS hl
            unfold cm_X3_product_J38 at h
            refine lv_aload_n hx hb dX3_product_38 rfl (lv_at hl 0 rfl) ?_
            obtain ⟨v39, e39, h⟩ := g_bd h
            refine cg_X3_96 dX3_product_39 S hE hG e39 ?_
            refine lv_istore_n (lv' := [(3, .int v39), (0, .ref x0), (1, .ref x1), (2, va_rf x2)]) hx hb dX3_product_42 rfl hl (by decide) (by cases x2 <;> rfl) (fun ls hl => ?_)
            refine lv_aload_n hx hb dX3_product_43 rfl (lv_at hl 1 rfl) ?_
            obtain ⟨u44, t44, h⟩ := g_bd h
            obtain ⟨G44, e44, h⟩ := g_bd h
            refine c_cV (y := yX3_go) (rest := []) dX3_product_44 q701 q703 qs2 q125 q704 hc_X3_go rfl S hE hG hS hC0 hl.1 rfl (c_recv hE hG (ci := 10) rfl (by decide) (c_castM t44)) (wm_X3_go E l x0 G _ e44) rfl (Nat.le_of_ble_eq_true rfl) ⟨by omega, by omega⟩ (fun H locs hG hS => ?_)
            refine c_aloadQ_n hx hb dX3_product_47 rfl (lv_at hl 3 rfl) ?_
            refine lv_iload_n hx hb dX3_product_48 rfl (lv_at hl 0 rfl) ?_
            refine lv_aload_n hx hb dX3_product_49 rfl (lv_at hl 1 rfl) ?_
            obtain ⟨u50, t50, h⟩ := g_bd h
            rcases gXb_e h with ⟨qx50, e50, h⟩ | ⟨xx50, e50, rfl⟩
            rotate_left
            · exact c_xV (r := .inr xx50) (y := yX3_factor) (rest := [.int v39, va_rf x2]) dX3_product_50 q1526 q1528 qs28 q125 q1529 hc_X3_factor rfl S hE hG hS hC0 hl.1 rfl (c_recv hE hG (ci := 10) rfl (by decide) (c_castM t50)) (ihd.2.2 x0 G44 _ e50) rfl (by cases x2 <;> exact Nat.le_of_ble_eq_true rfl) ⟨by omega, by omega⟩ (fun hr9 => c_xthrew hC0 hr9 hS (fun H locs ce hG hS h1 h2 h3 => c_xout rfl hx9 hk hC0 hG hS h1 h2 h3))
            refine c_xV (r := .inl (some (.ref qx50.1), qx50.2)) (y := yX3_factor) (rest := [.int v39, va_rf x2]) dX3_product_50 q1526 q1528 qs28 q125 q1529 hc_X3_factor rfl S hE hG hS hC0 hl.1 rfl (c_recv hE hG (ci := 10) rfl (by decide) (c_castM t50)) (ihd.2.2 x0 G44 _ e50) rfl (by cases x2 <;> exact Nat.le_of_ble_eq_true rfl) ⟨by omega, by omega⟩ (fun hr9 => c_xback hC0 hr9 hS (fun H locs hG hS => ?_))
            obtain ⟨b53, eb53, h⟩ := g_bd h
            have rb53 : va_rf x2 = .ref b53 := by rw [eb53]; rfl
            (try rw [rb53] at hl)
            (try rw [rb53])
            obtain ⟨u53, t53, h⟩ := g_bd h
            obtain ⟨G53, e53, h⟩ := g_bd h
            refine c_cV (y := yX29_add) (rest := []) dX3_product_53 q1621 q1622 q1623 q171 q1624 hc_X29_add rfl S hE hG hS hC0 hl.1 rfl (c_recv hE hG (ci := 34) rfl (by decide) (c_castM t53)) (wm_X29_add E l b53 v39 qx50.1 qx50.2 _ e53) rfl (Nat.le_of_ble_eq_true rfl) ⟨by omega, by omega⟩ (fun H locs hG hS => ?_)
            refine lv_goto (tgt := 7) hx hb dX3_product_56 (by decide) ?_
            exact ih7 x0 x1 (some b53) G53 _ _ _ h hG hS (lv_sub hl [1, 2, 3] rfl)
          have J25 : ∀ (x0 : Nat) (x1 : Nat) (x2 : Option Nat) (G : GH) (H : Heap) (locs : List Loc) (ls : Array Slot), cm_X3_product_J25 (cm_S221 d) (cm_X3_product_L7 (cm_S221 d) n7) x0 x1 x2 G = some r → gC E G H → va_S (gx_C E) s.heap H locs → lv_has ls 4 [(0, .ref x0), (1, .ref x1), (2, va_rf x2)] → WC E p l e (gRm (10 + (d + 1)) (cBx Gz) (cBs Gz)) s m args below meth c H locs (gXMQ E below (gRs (fun r => some (.ref r)) r) args s Gz) (F0 m 25 ls []) := by
            intro x0 x1 x2 G H locs ls h hG hS hl
            unfold cm_X3_product_J25 at h
            refine c_aloadQ_n hx hb dX3_product_25 rfl (lv_at hl 2 rfl) ?_
            refine c_ifnonnull (tgt := 38) hx hb dX3_product_26 (by decide) (fun c26 => ?_) (fun c26 => ?_)
            · have h := g_if c26 h
              exact J38 x0 x1 x2 G _ _ _ h hG hS (lv_sub hl [0, 1, 2] rfl)
            · have h := g_it c26 h
              obtain ⟨qx29, e29, h⟩ := g_bd h
              refine c_new (n := 3) dX3_product_29 q1603 q1604 q171 rfl in_X29 tyX29_ok rfl (by decide) (by decide) S hE hG hS hC0 e29 (fun H locs hG hS => ?_)
              refine lv_dup hx hb dX3_product_32 rfl ?_
              refine lv_aload_n hx hb dX3_product_33 rfl (lv_at hl 1 rfl) ?_
              obtain ⟨G34, e34, h⟩ := g_bd h
              refine c_cI (y := yX29_init) (rest := [.ref qx29.1]) dX3_product_34 q1605 q1606 q171 q1607 hc_X29_init rfl S hE hG hS hC0 hl.1 rfl (wm_X29_init E l qx29.1 x1 qx29.2 _ e34) rfl (Nat.le_of_ble_eq_true rfl) ⟨by omega, by omega⟩ (fun H locs hG hS => ?_)
              refine lv_astore_n (lv' := [(2, .ref qx29.1), (0, .ref x0), (1, .ref x1)]) hx hb dX3_product_37 rfl hl (by decide) rfl (fun ls hl => ?_)
              exact J38 x0 x1 (some qx29.1) G34 _ _ _ h hG hS (lv_sub hl [1, 2, 0] rfl)
          intro x0 x1 x2 G H locs ls h hG hS hl
          have h : cm_X3_product_B7 (cm_S221 d) (cm_X3_product_L7 (cm_S221 d) n7) x0 x1 x2 G = some r := h
          unfold cm_X3_product_B7 at h
          refine lv_aload_n hx hb dX3_product_7 rfl (lv_at hl 0 rfl) ?_
          refine lv_bipush (v := 42) hx hb dX3_product_8 (by decide) ?_
          obtain ⟨u10, t10, h⟩ := g_bd h
          obtain ⟨v10, e10, h⟩ := g_bd h
          refine c_cV (y := yX3_isSign) (rest := []) dX3_product_10 q852 q854 qs11 q125 q855 hc_X3_isSign rfl S hE hG hS hC0 hl.1 rfl (c_recv hE hG (ci := 10) rfl (by decide) (c_castM t10)) (wm_X3_isSign E l x0 42 G _ e10) rfl (Nat.le_of_ble_eq_true rfl) ⟨by omega, by omega⟩ (fun H locs hG hS => ?_)
          refine lv_if_ne (tgt := 25) hx hb dX3_product_13 (by decide) (fun c13 => ?_) (fun c13 => ?_)
          · have h := g_if c13 h
            exact J25 x0 x1 x2 G _ _ _ h hG hS (lv_sub hl [0, 1, 2] rfl)
          · have h := g_it c13 h
            refine lv_aload_n hx hb dX3_product_16 rfl (lv_at hl 0 rfl) ?_
            refine lv_bipush (v := 47) hx hb dX3_product_17 (by decide) ?_
            obtain ⟨u19, t19, h⟩ := g_bd h
            obtain ⟨v19, e19, h⟩ := g_bd h
            refine c_cV (y := yX3_isSign) (rest := []) dX3_product_19 q852 q854 qs11 q125 q855 hc_X3_isSign rfl S hE hG hS hC0 hl.1 rfl (c_recv hE hG (ci := 10) rfl (by decide) (c_castM t19)) (wm_X3_isSign E l x0 47 G _ e19) rfl (Nat.le_of_ble_eq_true rfl) ⟨by omega, by omega⟩ (fun H locs hG hS => ?_)
            refine lv_if_eq (tgt := 59) hx hb dX3_product_22 (by decide) (fun c22 => ?_) (fun c22 => ?_)
            · have h := g_it c22 h
              refine c_aloadQ_n hx hb dX3_product_59 rfl (lv_at hl 2 rfl) ?_
              refine c_ifnonnull (tgt := 67) hx hb dX3_product_60 (by decide) (fun c60 => ?_) (fun c60 => ?_)
              · have h := g_if c60 h
                refine c_aloadQ_n hx hb dX3_product_67 rfl (lv_at hl 2 rfl) ?_
                obtain ⟨b68, eb68, h⟩ := g_bd h
                have rb68 : va_rf x2 = .ref b68 := by rw [eb68]; rfl
                (try rw [rb68] at hl)
                (try rw [rb68])
                cases h
                exact c_xret (v := some (.ref b68)) (G1 := G) rfl (c_aretW dX3_product_68 (Or.inl ⟨_, rfl⟩) S hr hk hC0 hG hS rfl)
              · have h := g_it c60 h
                refine lv_aload_n hx hb dX3_product_63 rfl (lv_at hl 1 rfl) ?_
                refine lv_goto (tgt := 68) hx hb dX3_product_64 (by decide) ?_
                cases h
                exact c_xret (v := some (.ref x1)) (G1 := G) rfl (c_aretW dX3_product_68 (Or.inl ⟨_, rfl⟩) S hr hk hC0 hG hS rfl)
            · have h := g_if c22 h
              exact J25 x0 x1 x2 G _ _ _ h hG hS (lv_sub hl [0, 1, 2] rfl)
      have h : cm_X3_product_B (cm_S221 d) x0 Gz = some r := h
      unfold cm_X3_product_B at h
      refine lv_aload_n hx hb dX3_product_0 rfl (lv_at hl 0 rfl) ?_
      obtain ⟨u1, t1, h⟩ := g_bd h
      rcases gXb_e h with ⟨qx1, e1, h⟩ | ⟨xx1, e1, rfl⟩
      rotate_left
      · exact c_xV (r := .inr xx1) (y := yX3_factor) (rest := []) dX3_product_1 q1526 q1528 qs28 q125 q1529 hc_X3_factor rfl S hE hG hS hC0 hl.1 rfl (c_recv hE hG (ci := 10) rfl (by decide) (c_castM t1)) (ihd.2.2 x0 Gz _ e1) rfl (Nat.le_of_ble_eq_true rfl) ⟨by omega, by omega⟩ (fun hr9 => c_xthrew hC0 hr9 hS (fun H locs ce hG hS h1 h2 h3 => c_xout rfl hx9 hk hC0 hG hS h1 h2 h3))
      refine c_xV (r := .inl (some (.ref qx1.1), qx1.2)) (y := yX3_factor) (rest := []) dX3_product_1 q1526 q1528 qs28 q125 q1529 hc_X3_factor rfl S hE hG hS hC0 hl.1 rfl (c_recv hE hG (ci := 10) rfl (by decide) (c_castM t1)) (ihd.2.2 x0 Gz _ e1) rfl (Nat.le_of_ble_eq_true rfl) ⟨by omega, by omega⟩ (fun hr9 => c_xback hC0 hr9 hS (fun H locs hG hS => ?_))
      refine lv_astore_n (lv' := [(1, .ref qx1.1), (0, .ref x0)]) hx hb dX3_product_4 rfl hl (by decide) rfl (fun ls hl => ?_)
      refine lv_null hx hb dX3_product_5 ?_
      refine lv_astore_nN (lv' := [(2, .null), (1, .ref qx1.1), (0, .ref x0)]) hx hb dX3_product_6 rfl hl (by decide) rfl (fun ls hl => ?_)
      exact L7 gF x0 qx1.1 none qx1.2 _ _ _ h hG hS (lv_sub hl [2, 1, 0] rfl)
    · intro x0 Gz r h
      refine gMetX.of (own := RX3) (by decide +kernel) (Nat.le_of_ble_eq_true rfl) rfl ?_
      intro p e s m args below meth c S hr hk hx9 hE hC0 hG hS ls hl
      have hl : lv_has ls 3 [(0, .ref x0)] := hl
      have hx := S.1
      have hb := S.2.1
      have J95 : ∀ (x0 : Nat) (x2 : Nat) (G : GH) (H : Heap) (locs : List Loc) (ls : Array Slot), cm_X3_factor_J95 (cm_S221 d) x0 x2 G = some r → gC E G H → va_S (gx_C E) s.heap H locs → lv_has ls 3 [(0, .ref x0), (2, .ref x2)] → WC E p l e (gRm (10 + (d + 1)) (cBx Gz) (cBs Gz)) s m args below meth c H locs (gXMQ E below (gRs (fun r => some (.ref r)) r) args s Gz) (F0 m 95 ls []) := by
        intro x0 x2 G H locs ls h hG hS hl
        unfold cm_X3_factor_J95 at h
        refine lv_aload_n hx hb dX3_factor_95 rfl (lv_at hl 0 rfl) ?_
        refine lv_dup hx hb dX3_factor_96 rfl ?_
        obtain ⟨v97, e97, h⟩ := g_bd h
        refine cg_X3_358 dX3_factor_97 S hE hG e97 ?_
        refine lv_iconst (v := 1) hx hb dX3_factor_100 (by decide) ?_
        refine lv_isub hx hb dX3_factor_101 ?_
        obtain ⟨G102, e102, h⟩ := g_bd h
        refine cp_X3_358 dX3_factor_102 S hE hG hS hC0 e102 (fun H locs hG hS => ?_)
        refine lv_aload_n hx hb dX3_factor_105 rfl (lv_at hl 1 rfl) ?_
        cases h
        exact c_xret (v := some (.ref x2)) (G1 := G102) rfl (c_aretW dX3_factor_106 (Or.inl ⟨_, rfl⟩) S hr hk hC0 hG hS rfl)
      have J84 : ∀ (x0 : Nat) (x1 : Int32) (s0 : Nat) (G : GH) (H : Heap) (locs : List Loc) (ls : Array Slot), cm_X3_factor_J84 (cm_S221 d) x0 x1 s0 G = some r → gC E G H → va_S (gx_C E) s.heap H locs → lv_has ls 3 [(0, .ref x0), (1, .int x1)] → WC E p l e (gRm (10 + (d + 1)) (cBx Gz) (cBs Gz)) s m args below meth c H locs (gXMQ E below (gRs (fun r => some (.ref r)) r) args s Gz) (F0 m 84 ls [.ref s0]) := by
        intro x0 x1 s0 G H locs ls h hG hS hl
        unfold cm_X3_factor_J84 at h
        refine lv_astore_n (lv' := [(2, .ref s0), (0, .ref x0), (1, .int x1)]) hx hb dX3_factor_84 rfl hl (by decide) rfl (fun ls hl => ?_)
        refine lv_iload_n hx hb dX3_factor_85 rfl (lv_at hl 2 rfl) ?_
        refine lv_if_ne (tgt := 95) hx hb dX3_factor_86 (by decide) (fun c86 => ?_) (fun c86 => ?_)
        · have h := g_if c86 h
          exact J95 x0 s0 G _ _ _ h hG hS (lv_sub hl [1, 0] rfl)
        · have h := g_it c86 h
          refine lv_aload_n hx hb dX3_factor_89 rfl (lv_at hl 1 rfl) ?_
          refine lv_bipush (v := 41) hx hb dX3_factor_90 (by decide) ?_
          obtain ⟨u92, t92, h⟩ := g_bd h
          rcases gXb_e h with ⟨qx92, e92, h⟩ | ⟨xx92, e92, rfl⟩
          rotate_left
          · exact c_xV (r := .inr xx92) (y := yX3_need) (rest := []) dX3_factor_92 q848 q850 qs10 q125 q851 hc_X3_need rfl S hE hG hS hC0 hl.1 rfl (c_recv hE hG (ci := 10) rfl (by decide) (c_castM t92)) (wm_X3_need E l hl9 x0 41 G _ e92) rfl (Nat.le_of_ble_eq_true rfl) ⟨by omega, by omega⟩ (fun hr9 => c_xthrew hC0 hr9 hS (fun H locs ce hG hS h1 h2 h3 => c_xout rfl hx9 hk hC0 hG hS h1 h2 h3))
          refine c_xV (r := .inl (none, qx92.2)) (y := yX3_need) (rest := []) dX3_factor_92 q848 q850 qs10 q125 q851 hc_X3_need rfl S hE hG hS hC0 hl.1 rfl (c_recv hE hG (ci := 10) rfl (by decide) (c_castM t92)) (wm_X3_need E l hl9 x0 41 G _ e92) rfl (Nat.le_of_ble_eq_true rfl) ⟨by omega, by omega⟩ (fun hr9 => c_xback hC0 hr9 hS (fun H locs hG hS => ?_))
          exact J95 x0 s0 qx92.2 _ _ _ h hG hS (lv_sub hl [1, 0] rfl)
      have J32 : ∀ (x0 : Nat) (s0 : Int32) (G : GH) (H : Heap) (locs : List Loc) (ls : Array Slot), cm_X3_factor_J32 (cm_S221 d) x0 s0 G = some r → gC E G H → va_S (gx_C E) s.heap H locs → lv_has ls 3 [(0, .ref x0)] → WC E p l e (gRm (10 + (d + 1)) (cBx Gz) (cBs Gz)) s m args below meth c H locs (gXMQ E below (gRs (fun r => some (.ref r)) r) args s Gz) (F0 m 32 ls [.int s0]) := by
        intro x0 s0 G H locs ls h hG hS hl
        unfold cm_X3_factor_J32 at h
        refine lv_istore_n (lv' := [(1, .int s0), (0, .ref x0)]) hx hb dX3_factor_32 rfl hl (by decide) rfl (fun ls hl => ?_)
        refine lv_aload_n hx hb dX3_factor_33 rfl (lv_at hl 1 rfl) ?_
        obtain ⟨v34, e34, h⟩ := g_bd h
        refine cg_X3_358 dX3_factor_34 S hE hG e34 ?_
        refine lv_bipush (v := 12) hx hb dX3_factor_37 (by decide) ?_
        refine lv_icmp_ne (tgt := 48) hx hb dX3_factor_39 (by decide) (fun c39 => ?_) (fun c39 => ?_)
        · have h := g_if c39 h
          refine lv_aload_n hx hb dX3_factor_48 rfl (lv_at hl 1 rfl) ?_
          refine lv_dup hx hb dX3_factor_49 rfl ?_
          obtain ⟨v50, e50, h⟩ := g_bd h
          refine cg_X3_358 dX3_factor_50 S hE hG e50 ?_
          refine lv_iconst (v := 1) hx hb dX3_factor_53 (by decide) ?_
          refine lv_iadd hx hb dX3_factor_54 ?_
          obtain ⟨G55, e55, h⟩ := g_bd h
          refine cp_X3_358 dX3_factor_55 S hE hG hS hC0 e55 (fun H locs hG hS => ?_)
          refine lv_aload_n hx hb dX3_factor_58 rfl (lv_at hl 1 rfl) ?_
          obtain ⟨u59, t59, h⟩ := g_bd h
          obtain ⟨G59, e59, h⟩ := g_bd h
          refine c_cV (y := yX3_go) (rest := []) dX3_factor_59 q701 q703 qs2 q125 q704 hc_X3_go rfl S hE hG hS hC0 hl.1 rfl (c_recv hE hG (ci := 10) rfl (by decide) (c_castM t59)) (wm_X3_go E l x0 G55 _ e59) rfl (Nat.le_of_ble_eq_true rfl) ⟨by omega, by omega⟩ (fun H locs hG hS => ?_)
          refine lv_iload_n hx hb dX3_factor_62 rfl (lv_at hl 0 rfl) ?_
          refine lv_if_eq (tgt := 80) hx hb dX3_factor_63 (by decide) (fun c63 => ?_) (fun c63 => ?_)
          · have h := g_it c63 h
            refine lv_aload_n hx hb dX3_factor_80 rfl (lv_at hl 1 rfl) ?_
            obtain ⟨u81, t81, h⟩ := g_bd h
            rcases gXb_e h with ⟨qx81, e81, h⟩ | ⟨xx81, e81, rfl⟩
            rotate_left
            · exact c_xV (r := .inr xx81) (y := yX3_sum) (rest := []) dX3_factor_81 q1518 q1520 qs26 q125 q1521 hc_X3_sum rfl S hE hG hS hC0 hl.1 rfl (c_recv hE hG (ci := 10) rfl (by decide) (c_castM t81)) (ihd.1 x0 G59 _ e81) rfl (Nat.le_of_ble_eq_true rfl) ⟨by omega, by omega⟩ (fun hr9 => c_xthrew hC0 hr9 hS (fun H locs ce hG hS h1 h2 h3 => c_xout rfl hx9 hk hC0 hG hS h1 h2 h3))
            refine c_xV (r := .inl (some (.ref qx81.1), qx81.2)) (y := yX3_sum) (rest := []) dX3_factor_81 q1518 q1520 qs26 q125 q1521 hc_X3_sum rfl S hE hG hS hC0 hl.1 rfl (c_recv hE hG (ci := 10) rfl (by decide) (c_castM t81)) (ihd.1 x0 G59 _ e81) rfl (Nat.le_of_ble_eq_true rfl) ⟨by omega, by omega⟩ (fun hr9 => c_xback hC0 hr9 hS (fun H locs hG hS => ?_))
            exact J84 x0 s0 qx81.1 qx81.2 _ _ _ h hG hS (lv_sub hl [1, 0] rfl)
          · have h := g_if c63 h
            obtain ⟨qx66, e66, h⟩ := g_bd h
            refine c_new (n := 1) dX3_factor_66 q1530 q1531 q166 rfl in_X24 tyX24_ok rfl (by decide) (by decide) S hE hG hS hC0 e66 (fun H locs hG hS => ?_)
            refine lv_dup hx hb dX3_factor_69 rfl ?_
            refine lv_aload_n hx hb dX3_factor_70 rfl (lv_at hl 1 rfl) ?_
            obtain ⟨u71, t71, h⟩ := g_bd h
            rcases gXb_e h with ⟨qx71, e71, h⟩ | ⟨xx71, e71, rfl⟩
            rotate_left
            · exact c_xV (r := .inr xx71) (y := yX3_factor) (rest := [.ref qx66.1, .ref qx66.1]) dX3_factor_71 q1526 q1528 qs28 q125 q1529 hc_X3_factor rfl S hE hG hS hC0 hl.1 rfl (c_recv hE hG (ci := 10) rfl (by decide) (c_castM t71)) (ihd.2.2 x0 qx66.2 _ e71) rfl (Nat.le_of_ble_eq_true rfl) ⟨by omega, by omega⟩ (fun hr9 => c_xthrew hC0 hr9 hS (fun H locs ce hG hS h1 h2 h3 => c_xout rfl hx9 hk hC0 hG hS h1 h2 h3))
            refine c_xV (r := .inl (some (.ref qx71.1), qx71.2)) (y := yX3_factor) (rest := [.ref qx66.1, .ref qx66.1]) dX3_factor_71 q1526 q1528 qs28 q125 q1529 hc_X3_factor rfl S hE hG hS hC0 hl.1 rfl (c_recv hE hG (ci := 10) rfl (by decide) (c_castM t71)) (ihd.2.2 x0 qx66.2 _ e71) rfl (Nat.le_of_ble_eq_true rfl) ⟨by omega, by omega⟩ (fun hr9 => c_xback hC0 hr9 hS (fun H locs hG hS => ?_))
            obtain ⟨G74, e74, h⟩ := g_bd h
            refine c_cI (y := yX24_init) (rest := [.ref qx66.1]) dX3_factor_74 q1532 q1533 q166 q1534 hc_X24_init rfl S hE hG hS hC0 hl.1 rfl (wm_X24_init E l qx66.1 qx71.1 qx71.2 _ e74) rfl (Nat.le_of_ble_eq_true rfl) ⟨by omega, by omega⟩ (fun H locs hG hS => ?_)
            refine lv_goto (tgt := 84) hx hb dX3_factor_77 (by decide) ?_
            exact J84 x0 s0 qx66.1 G74 _ _ _ h hG hS (lv_sub hl [1, 0] rfl)
        · have h := g_it c39 h
          refine lv_aload_n hx hb dX3_factor_42 rfl (lv_at hl 1 rfl) ?_
          refine lv_iconst (v := 4) hx hb dX3_factor_43 (by decide) ?_
          obtain ⟨u44, t44, h⟩ := g_bd h
          obtain ⟨qx44, e44, h⟩ := g_bd h
          refine c_cV (y := yX3_wrong) (rest := []) dX3_factor_44 q817 q819 qs8 q125 q820 hc_X3_wrong rfl S hE hG hS hC0 hl.1 rfl (c_recv hE hG (ci := 10) rfl (by decide) (c_castM t44)) (wm_X3_wrong E l hl9 x0 4 G _ _ e44) rfl (Nat.le_of_ble_eq_true rfl) ⟨by omega, by omega⟩ (fun H locs hG hS => ?_)
          exact c_throwW dX3_factor_47 S hE hG hS hC0 hx9 hk h
      have J18 : ∀ (x0 : Nat) (G : GH) (H : Heap) (locs : List Loc) (ls : Array Slot), cm_X3_factor_J18 (cm_S221 d) x0 G = some r → gC E G H → va_S (gx_C E) s.heap H locs → lv_has ls 3 [(0, .ref x0)] → WC E p l e (gRm (10 + (d + 1)) (cBx Gz) (cBs Gz)) s m args below meth c H locs (gXMQ E below (gRs (fun r => some (.ref r)) r) args s Gz) (F0 m 18 ls []) := by
        intro x0 G H locs ls h hG hS hl
        unfold cm_X3_factor_J18 at h
        refine lv_aload_n hx hb dX3_factor_18 rfl (lv_at hl 0 rfl) ?_
        obtain ⟨v19, e19, h⟩ := g_bd h
        refine cg_X3_96 dX3_factor_19 S hE hG e19 ?_
        refine lv_bipush (v := 45) hx hb dX3_factor_22 (by decide) ?_
        refine lv_icmp_ne (tgt := 31) hx hb dX3_factor_24 (by decide) (fun c24 => ?_) (fun c24 => ?_)
        · have h := g_if c24 h
          refine lv_iconst (v := 0) hx hb dX3_factor_31 (by decide) ?_
          exact J32 x0 0 G _ _ _ h hG hS (lv_sub hl [0] rfl)
        · have h := g_it c24 h
          refine lv_iconst (v := 1) hx hb dX3_factor_27 (by decide) ?_
          refine lv_goto (tgt := 32) hx hb dX3_factor_28 (by decide) ?_
          exact J32 x0 1 G _ _ _ h hG hS (lv_sub hl [0] rfl)
      have h : cm_X3_factor_B (cm_S221 d) x0 Gz = some r := h
      unfold cm_X3_factor_B at h
      refine lv_aload_n hx hb dX3_factor_0 rfl (lv_at hl 0 rfl) ?_
      refine lv_bipush (v := 45) hx hb dX3_factor_1 (by decide) ?_
      obtain ⟨u3, t3, h⟩ := g_bd h
      obtain ⟨v3, e3, h⟩ := g_bd h
      refine c_cV (y := yX3_isSign) (rest := []) dX3_factor_3 q852 q854 qs11 q125 q855 hc_X3_isSign rfl S hE hG hS hC0 hl.1 rfl (c_recv hE hG (ci := 10) rfl (by decide) (c_castM t3)) (wm_X3_isSign E l x0 45 Gz _ e3) rfl (Nat.le_of_ble_eq_true rfl) ⟨by omega, by omega⟩ (fun H locs hG hS => ?_)
      refine lv_if_ne (tgt := 18) hx hb dX3_factor_6 (by decide) (fun c6 => ?_) (fun c6 => ?_)
      · have h := g_if c6 h
        exact J18 x0 Gz _ _ _ h hG hS (lv_sub hl [0] rfl)
      · have h := g_it c6 h
        refine lv_aload_n hx hb dX3_factor_9 rfl (lv_at hl 0 rfl) ?_
        refine lv_bipush (v := 40) hx hb dX3_factor_10 (by decide) ?_
        obtain ⟨u12, t12, h⟩ := g_bd h
        obtain ⟨v12, e12, h⟩ := g_bd h
        refine c_cV (y := yX3_isSign) (rest := []) dX3_factor_12 q852 q854 qs11 q125 q855 hc_X3_isSign rfl S hE hG hS hC0 hl.1 rfl (c_recv hE hG (ci := 10) rfl (by decide) (c_castM t12)) (wm_X3_isSign E l x0 40 Gz _ e12) rfl (Nat.le_of_ble_eq_true rfl) ⟨by omega, by omega⟩ (fun H locs hG hS => ?_)
        refine lv_if_eq (tgt := 107) hx hb dX3_factor_15 (by decide) (fun c15 => ?_) (fun c15 => ?_)
        · have h := g_it c15 h
          refine lv_aload_n hx hb dX3_factor_107 rfl (lv_at hl 0 rfl) ?_
          obtain ⟨v108, e108, h⟩ := g_bd h
          refine cg_X3_58 dX3_factor_108 S hE hG e108 ?_
          refine c_gets q729 rfl (hE.stat.1 1 (by decide)) dX3_factor_111 S hS ?_
          rw [← hG.2.2.2.2.1]
          refine lv_acmp_ne (rx := (some v108)) (ry := (some (cK Gz (10 + 1)))) (tgt := 135) hx hb dX3_factor_114 (by decide) (fun c114 => ?_) (fun c114 => ?_)
          · have h := g_if c114 h
            refine lv_aload_n hx hb dX3_factor_135 rfl (lv_at hl 0 rfl) ?_
            obtain ⟨u136, t136, h⟩ := g_bd h
            rcases gXb_e h with ⟨qx136, e136, h⟩ | ⟨xx136, e136, rfl⟩
            rotate_left
            · exact c_xV (r := .inr xx136) (y := yX3_needWord) (rest := []) dX3_factor_136 q861 q863 qs13 q125 q864 hc_X3_needWord rfl S hE hG hS hC0 hl.1 rfl (c_recv hE hG (ci := 10) rfl (by decide) (c_castM t136)) (wm_X3_needWord E l hl9 x0 Gz _ e136) rfl (Nat.le_of_ble_eq_true rfl) ⟨by omega, by omega⟩ (fun hr9 => c_xthrew hC0 hr9 hS (fun H locs ce hG hS h1 h2 h3 => c_xout rfl hx9 hk hC0 hG hS h1 h2 h3))
            refine c_xV (r := .inl (none, qx136.2)) (y := yX3_needWord) (rest := []) dX3_factor_136 q861 q863 qs13 q125 q864 hc_X3_needWord rfl S hE hG hS hC0 hl.1 rfl (c_recv hE hG (ci := 10) rfl (by decide) (c_castM t136)) (wm_X3_needWord E l hl9 x0 Gz _ e136) rfl (Nat.le_of_ble_eq_true rfl) ⟨by omega, by omega⟩ (fun hr9 => c_xback hC0 hr9 hS (fun H locs hG hS => ?_))
            refine lv_aload_n hx hb dX3_factor_139 rfl (lv_at hl 0 rfl) ?_
            obtain ⟨u140, t140, h⟩ := g_bd h
            rcases gXb_e h with ⟨qx140, e140, h⟩ | ⟨xx140, e140, rfl⟩
            rotate_left
            · exact c_xV (r := .inr xx140) (y := yX3_told) (rest := []) dX3_factor_140 q1553 q1555 qs29 q125 q1556 hc_X3_told rfl S hE hG hS hC0 hl.1 rfl (c_recv hE hG (ci := 10) rfl (by decide) (c_castM t140)) (wm_X3_told E l hl9 x0 qx136.2 _ e140) rfl (Nat.le_of_ble_eq_true rfl) ⟨by omega, by omega⟩ (fun hr9 => c_xthrew hC0 hr9 hS (fun H locs ce hG hS h1 h2 h3 => c_xout rfl hx9 hk hC0 hG hS h1 h2 h3))
            refine c_xV (r := .inl (some (.ref qx140.1), qx140.2)) (y := yX3_told) (rest := []) dX3_factor_140 q1553 q1555 qs29 q125 q1556 hc_X3_told rfl S hE hG hS hC0 hl.1 rfl (c_recv hE hG (ci := 10) rfl (by decide) (c_castM t140)) (wm_X3_told E l hl9 x0 qx136.2 _ e140) rfl (Nat.le_of_ble_eq_true rfl) ⟨by omega, by omega⟩ (fun hr9 => c_xback hC0 hr9 hS (fun H locs hG hS => ?_))
            cases h
            exact c_xret (v := some (.ref qx140.1)) (G1 := qx140.2) rfl (c_aretW dX3_factor_143 (Or.inl ⟨_, rfl⟩) S hr hk hC0 hG hS rfl)
          · have h := g_it c114 h
            obtain ⟨qx117, e117, h⟩ := g_bd h
            refine c_new (n := 1) dX3_factor_117 q1543 q1544 q167 rfl in_X25 tyX25_ok rfl (by decide) (by decide) S hE hG hS hC0 e117 (fun H locs hG hS => ?_)
            refine lv_dup hx hb dX3_factor_120 rfl ?_
            refine lv_aload_n hx hb dX3_factor_121 rfl (lv_at hl 0 rfl) ?_
            obtain ⟨v122, e122, h⟩ := g_bd h
            refine cg_X3_87 dX3_factor_122 S hE hG e122 ?_
            obtain ⟨G125, e125, h⟩ := g_bd h
            refine c_cI (y := yX25_init) (rest := [.ref qx117.1]) dX3_factor_125 q1545 q1546 q167 q1547 hc_X25_init rfl S hE hG hS hC0 hl.1 rfl (wm_X25_init E l qx117.1 v122 qx117.2 _ e125) rfl (Nat.le_of_ble_eq_true rfl) ⟨by omega, by omega⟩ (fun H locs hG hS => ?_)
            refine lv_astore_n (lv' := [(1, .ref qx117.1), (0, .ref x0)]) hx hb dX3_factor_128 rfl hl (by decide) rfl (fun ls hl => ?_)
            refine lv_aload_n hx hb dX3_factor_129 rfl (lv_at hl 1 rfl) ?_
            obtain ⟨u130, t130, h⟩ := g_bd h
            obtain ⟨G130, e130, h⟩ := g_bd h
            refine c_cV (y := yX3_go) (rest := []) dX3_factor_130 q701 q703 qs2 q125 q704 hc_X3_go rfl S hE hG hS hC0 hl.1 rfl (c_recv hE hG (ci := 10) rfl (by decide) (c_castM t130)) (wm_X3_go E l x0 G125 _ e130) rfl (Nat.le_of_ble_eq_true rfl) ⟨by omega, by omega⟩ (fun H locs hG hS => ?_)
            refine lv_aload_n hx hb dX3_factor_133 rfl (lv_at hl 0 rfl) ?_
            cases h
            exact c_xret (v := some (.ref qx117.1)) (G1 := G130) rfl (c_aretW dX3_factor_134 (Or.inl ⟨_, rfl⟩) S hr hk hC0 hG hS rfl)
        · have h := g_if c15 h
          exact J18 x0 Gz _ _ _ h hG hS (lv_sub hl [0] rfl)
theorem wm_X3_sum (E : gX) (l : Launch) (hl9 : l.stackTraces = false) (d : Nat) (x0 : Nat) (Gz : GH) (r : (GX Nat)) (h : cm_X3_sum d x0 Gz = some r) : gMetX E l yX3_sum cX3_sum 4 (some (Jvm.ClassFile.FieldType.object "FairHouse$Exp\x72")) (10 + d) [.ref x0] Gz (gRs (fun r => some (.ref r)) r) := (wm_S221 E l hl9 d).1 x0 Gz r h
theorem wm_X3_product (E : gX) (l : Launch) (hl9 : l.stackTraces = false) (d : Nat) (x0 : Nat) (Gz : GH) (r : (GX Nat)) (h : cm_X3_product d x0 Gz = some r) : gMetX E l yX3_product cX3_product 4 (some (Jvm.ClassFile.FieldType.object "FairHouse$Exp\x72")) (10 + d) [.ref x0] Gz (gRs (fun r => some (.ref r)) r) := (wm_S221 E l hl9 d).2.1 x0 Gz r h
theorem wm_X3_factor (E : gX) (l : Launch) (hl9 : l.stackTraces = false) (d : Nat) (x0 : Nat) (Gz : GH) (r : (GX Nat)) (h : cm_X3_factor d x0 Gz = some r) : gMetX E l yX3_factor cX3_factor 3 (some (Jvm.ClassFile.FieldType.object "FairHouse$Exp\x72")) (10 + d) [.ref x0] Gz (gRs (fun r => some (.ref r)) r) := (wm_S221 E l hl9 d).2.2 x0 Gz r h
