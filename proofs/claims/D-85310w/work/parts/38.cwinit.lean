/-! THE OWN EXCEPTION's CONSTRUCTOR; the words of what is thrown (printed by w38.py) -/
set_option maxRecDepth 100000
def dkwX4_init_0 : List UInt8 := [42, 183, 0, 1, 42, 27, 181, 0, 7, 42, 28, 181, 0, 13, 177]
abbrev dktX4_init_0 : List UInt8 := dkwX4_init_0 ++ []
theorem dksX4_init_0 : cX4_init.data.toList.drop 0 = dktX4_init_0 := by decide +kernel
theorem dX4_init_0 : decode cX4_init 0 = .ok (.aload_n 0, 1) := dk_42 (dk_at dksX4_init_0 0 rfl rfl)
theorem dX4_init_1 : decode cX4_init 1 = .ok (.invokespecial 1, 3) := dk_183 0 1 (dk_at dksX4_init_0 1 rfl rfl)
theorem dX4_init_4 : decode cX4_init 4 = .ok (.aload_n 0, 1) := dk_42 (dk_at dksX4_init_0 4 rfl rfl)
theorem dX4_init_5 : decode cX4_init 5 = .ok (.iload_n 1, 1) := dk_27 (dk_at dksX4_init_0 5 rfl rfl)
theorem dX4_init_6 : decode cX4_init 6 = .ok (.putfield 7, 3) := dk_181 0 7 (dk_at dksX4_init_0 6 rfl rfl)
theorem dX4_init_9 : decode cX4_init 9 = .ok (.aload_n 0, 1) := dk_42 (dk_at dksX4_init_0 9 rfl rfl)
theorem dX4_init_10 : decode cX4_init 10 = .ok (.iload_n 2, 1) := dk_28 (dk_at dksX4_init_0 10 rfl rfl)
theorem dX4_init_11 : decode cX4_init 11 = .ok (.putfield 13, 3) := dk_181 0 13 (dk_at dksX4_init_0 11 rfl rfl)
theorem dX4_init_14 : decode cX4_init 14 = .ok (.return_, 1) := dk_177 (dk_at dksX4_init_0 14 rfl rfl)
def gXsup : List String := ["java/lang/RuntimeException", "java/lang/Exception"]
theorem lw_nwin (ws : List Cond) (ps : List Nat) (hp : ws = ps.filterMap (fun i => gNwL[i]?)) : ∀ w ∈ ws, w ∈ gNwL := by
  intro w hw
  subst hp
  obtain ⟨i, -, hi⟩ := List.mem_filterMap.mp hw
  exact List.mem_of_getElem? hi
theorem hin_IAE : ∀ w ∈ (vx_at0 "FairHouse" 74 (gXN 0) gXsup).filter goodWord, w ∈ lw_all := lw_in _ [121, 287, 296, 302, 305, 307, 288, 289, 185, 186, 290, 295, 303, 320, 277, 321, 279, 322, 281, 291, 293, 283, 309, 310, 311, 312, 312, 313, 314, 315, 315, 316, 317, 288, 308, 266, 274, 275, 276, 278, 280, 282, 286, 285, 284] (by decide +kernel) (by decide +kernel)
theorem hnw_IAE : ∀ w ∈ (vx_at0 "FairHouse" 74 (gXN 0) gXsup).filter (fun w => !goodWord w), w ∈ gNwL := lw_nwin _ [7, 9, 11, 6] (by decide +kernel)
theorem hin_ISE : ∀ w ∈ (vx_at0 "FairHouse" 126 (gXN 1) gXsup).filter goodWord, w ∈ lw_all := lw_in _ [121, 287, 296, 302, 305, 307, 288, 289, 185, 186, 290, 295, 303, 320, 277, 321, 279, 322, 281, 291, 293, 283, 1943, 1944, 1945, 312, 312, 313, 314, 315, 315, 316, 317, 288, 1942, 1934, 1936, 300, 1937, 1938, 1939, 1940, 286, 285, 1941] (by decide +kernel) (by decide +kernel)
theorem hnw_ISE : ∀ w ∈ (vx_at0 "FairHouse" 126 (gXN 1) gXsup).filter (fun w => !goodWord w), w ∈ gNwL := lw_nwin _ [7, 9, 11, 135] (by decide +kernel)
theorem hin_IOO : ∀ w ∈ (vx_at0 "FairHouse" 123 (gXN 2) gXsup).filter goodWord, w ∈ lw_all := lw_in _ [121, 287, 296, 302, 305, 307, 288, 289, 185, 186, 290, 295, 303, 320, 277, 321, 279, 322, 281, 291, 293, 283, 1909, 1910, 1911, 312, 312, 313, 314, 315, 315, 316, 317, 288, 1908, 1900, 1902, 301, 1903, 1904, 1905, 1906, 286, 285, 1907] (by decide +kernel) (by decide +kernel)
theorem hnw_IOO : ∀ w ∈ (vx_at0 "FairHouse" 123 (gXN 2) gXsup).filter (fun w => !goodWord w), w ∈ gNwL := lw_nwin _ [7, 9, 11, 134] (by decide +kernel)
theorem hgd_IAE : ∀ w ∈ Cond.classLink "FairHouse" 72 (gXN 0) :: Cond.initialized (gXN 0) :: vx_at0 "FairHouse" 74 (gXN 0) gXsup, vx_ot w = true := by decide +kernel
theorem hgd_ISE : ∀ w ∈ Cond.classLink "FairHouse" 124 (gXN 1) :: Cond.initialized (gXN 1) :: vx_at0 "FairHouse" 126 (gXN 1) gXsup, vx_ot w = true := by decide +kernel
theorem hgd_IOO : ∀ w ∈ Cond.classLink "FairHouse" 121 (gXN 2) :: Cond.initialized (gXN 2) :: vx_at0 "FairHouse" 123 (gXN 2) gXsup, vx_ot w = true := by decide +kernel
theorem hin_W : ∀ w ∈ ((vx_supAtoms RX4 1 "java/lang/Exception" RX4 8 []).filter vx_no).filter goodWord, w ∈ lw_all := lw_in _ [121, 287, 296, 302, 305, 307, 288, 289, 185, 186, 290, 295, 303, 320, 277, 321, 279, 322, 281, 291, 293, 283, 315, 316, 317, 288, 833, 822, 824, 298, 825, 826, 827, 828, 286, 285, 829] (by decide +kernel) (by decide +kernel)
theorem hnw_W : ∀ w ∈ ((vx_supAtoms RX4 1 "java/lang/Exception" RX4 8 []).filter vx_no).filter (fun w => !goodWord w), w ∈ gNwL := lw_nwin _ [11] (by decide +kernel)
theorem hgd_W : ∀ w ∈ (vx_supAtoms RX4 1 "java/lang/Exception" RX4 8 []).filter vx_no, vx_ot w = true := by decide +kernel
theorem in_XW : ∀ w ∈ wsXW0, w ∈ lw_all := lw_in wsXW0 [838, 840] (by decide +kernel) (by decide +kernel)
theorem gXsup_ok : ∀ n ∈ gXsup, Bundle.fit n = true := by decide +kernel
def cm_X4_init (x0 : Nat) (x1 x2 : Int32) (Gz : GH) : Option GH := Option.bind (cPutI Gz [39] x0 0 x1) fun G => cPutI G [39] x0 1 x2
theorem hc_X4_init : cHd yX4_init 2 := by decide +kernel
section W38
variable {p : Program} {l : Launch} {e : Env} {R : Room} {s : State} {m : MethodId} {args : Array Value} {below : List Frame} {meth : Method} {c : Code} {H : Heap} {locs : List Loc} {cells slots : Nat} {Q : State → Prop}
variable {cc : ByteArray} {pc nL lev0 : Nat} {ls : Array Slot} {rest st : List Value} {own : String} {E : gX} {G G0 Gz G1 : GH} {rv : Option Value} {g : JFrame}
theorem c_putW {a k idx : Nat} {v : Int32} (hk : k < 2) (hdg : decode cc pc = .ok (.putfield idx, 3)) (q : Cond.fieldLink RX4 idx RX4 (TXW k).2.1 (TXW k).2.2.1 ∈ lw_all) (S : CallFix p m c cc nL s args lw_all RX4) (hE : gEnv E s) (hG : gC E G H) (hS : va_S (gx_C E) s.heap H locs) (hC0 : gC E Gz s.heap) (hnm : meth.name = "<init>") (hv : cPutI G [39] a k v = some G1) (kk : ∀ (H1 : Heap) (locs1 : List Loc), gC E G1 H1 → va_S (gx_C E) s.heap H1 locs1 → WC E p l e R s m args below meth c H1 locs1 Q (F0 m (pc + 3) ls rest)) : WC E p l e R s m args below meth c H locs Q (F0 m pc ls (.int v :: .ref a :: rest)) := by
  unfold cPutI at hv
  split at hv
  · next ht =>
    cases hv
    have ht := List.mem_singleton.mp ht
    have h1 : (TXW k).1 = RX4 := by rcases (show k = 0 ∨ k = 1 by omega) with rfl | rfl <;> rfl
    exact c_putv (ci := 38) (k := k) (v := .int v) (G' := cSetI G a k v) hdg (Or.inl q) rfl in_XW tyXW_ok nmXW hk (Or.inl h1) (by decide) (Or.inr ⟨hnm, h1, q⟩) (tyXW_ok k hk) rfl rfl S hE hG hS ht (by decide) rfl rfl rfl rfl rfl rfl c_othI (c_hvI (fun _ _ _ => rfl)) hC0.2.2.2.2.2 kk
  · cases hv
/-- a Wrong is thrown out of the method -/
def cThrowW {τ : Type} (G : GH) (a : Nat) : Option (GX τ) := if cT G a = 39 then some (.inr (3, a, G)) else none
theorem c_throwW {τ : Type} {f : τ → Option Value} {r : GX τ} {a : Nat} (hdg : decode cc pc = .ok (.athrow, 1)) (S : CallFix p m c cc nL s args lw_all own) (hE : gEnv E s) (hG : gC E G H) (hS : va_S (gx_C E) s.heap H locs) (hC0 : gC E G0 s.heap) (hx : ∀ x ∈ c.exceptionTable.toList, False) (hlk : meth.locks = false) (hv : cThrowW G a = some r) : WC E p l e R s m args below meth c H locs (gXMQ E below (gRs f r) args s G0) (F0 m pc ls (.ref a :: rest)) := by
  unfold cThrowW at hv
  split at hv
  · next ht =>
    cases hv
    obtain ⟨cell, q1, q2, q3, q4⟩ := (hG.1 a (by omega)).1 38 (RX4, TXW, 2) ht (by decide) rfl
    exact vx_athrow S.1 S.2.1 hdg (c_xout (x := (3, a, G)) rfl hx hlk hC0 hG hS q1 q3 (by rw [q2]; exact (hE.K.1 38 (RX4, TXW, 2) rfl).2.1))
  · cases hv
end W38
theorem wm_X4_init (E : gX) (l : Launch) (hl9 : l.stackTraces = false) (x0 : Nat) (x1 x2 : Int32) (Gz G' : GH) (h : cm_X4_init x0 x1 x2 Gz = some G') : gMet E l yX4_init cX4_init 3 none 6 (cBx Gz) (cBs Gz) (gx_C E) [.ref x0, .int x1, .int x2] (fun H => gC E Gz H ∧ gFresh E x0 H) (gC E G') none := by
  refine gMet.of (own := RX4) (by decide +kernel) (Nat.le_of_ble_eq_true rfl) rfl ?_
  intro p e s m args below meth c S hr hk hnm hE hP hS ls hl
  obtain ⟨hC0, hF⟩ := hP
  have hG := hC0
  have hl : lv_has ls 3 [(0, .ref x0), (1, .int x1), (2, .int x2)] := hl
  have hx := S.1
  have hb := S.2.1
  unfold cm_X4_init at h
  obtain ⟨G9, e9, h⟩ := g_bd h
  have ht : cT Gz x0 = 39 := by
    unfold cPutI at e9
    split at e9
    · next ht => exact List.mem_singleton.mp ht
    · cases e9
  refine g_sync hC0.2.2.2.2.2 ?_
  refine lv_aload_n hx hb dX4_init_0 rfl (lv_at hl 0 rfl) ?_
  refine c_superW hl9 hin_W hnw_W hgd_W in_XW S hE hG hF ht hS hC0 hl.1 dX4_init_1 (Nat.le_of_ble_eq_true rfl) (Nat.le_of_ble_eq_true rfl) (fun H locs hG hS => ?_)
  refine lv_aload_n hx hb dX4_init_4 rfl (lv_at hl 0 rfl) ?_
  refine lv_iload_n hx hb dX4_init_5 rfl (lv_at hl 1 rfl) ?_
  refine c_putW (k := 0) (by decide) dX4_init_6 q834 S hE hG hS hC0 hnm e9 (fun H locs hG hS => ?_)
  refine lv_aload_n hx hb dX4_init_9 rfl (lv_at hl 0 rfl) ?_
  refine lv_iload_n hx hb dX4_init_10 rfl (lv_at hl 2 rfl) ?_
  refine c_putW (k := 1) (by decide) dX4_init_11 q836 S hE hG hS hC0 hnm h (fun H locs hG hS => ?_)
  exact c_vretW dX4_init_14 S hr hk hC0 hG hS rfl
