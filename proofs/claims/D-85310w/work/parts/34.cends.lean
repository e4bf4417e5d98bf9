/-! THE COMPONENT's ENDS, REFERENCES, CONSTANTS, FIELDS BY KIND, NEW ARRAYS -/
set_option maxRecDepth 100000
section CE
variable {p : Program} {l : Launch} {e : Env} {R : Room} {s : State} {m : MethodId} {args : Array Value} {below : List Frame} {meth : Method} {c : Code} {H : Heap} {locs : List Loc} {cells slots : Nat} {Q : State → Prop}
variable {cc : ByteArray} {pc nL lev0 : Nat} {ls : Array Slot} {rest st : List Value} {own : String} {E : gX} {G G0 G1 : GH} {rv : Option Value} {g : JFrame}
theorem c_end (hC0 : gC E G0 s.heap) (hG : gC E G H) (hS : va_S (gx_C E) s.heap H locs) (k : W p l e R s m args below meth c H locs (cBx G0) (cBs G0) Q g) : WC E p l e R s m args below meth c H locs Q g :=
  c_know hC0.2.2.2.2.2 fun hsl => W.widen (by have := c_room hC0 hG hS; omega) (by have := c_roomS hC0 hG hsl; omega) k
theorem c_iretW {v r : Int32} (hdg : decode cc pc = .ok (.ireturn, 1)) (S : CallFix p m c cc nL s args lw_all own) (hr : meth.sig.returnType = some .int) (hk : meth.locks = false) (hC0 : gC E G0 s.heap) (hG : gC E G H) (hS : va_S (gx_C E) s.heap H locs) (h : some (v, G) = some (r, G1)) : WC E p l e R s m args below meth c H locs (MQ below (gQ (some (.int r)) (gC E G1) (gx_C E)) args s (cBx G0) (cBs G0) (gx_C E)) (F0 m pc ls [.int v]) := by
  cases h
  exact c_end hC0 hG hS (g_iret S hr hk hG hS hdg (fun _ h => h))
theorem c_iretR {v r : Int32} (hdg : decode cc pc = .ok (.ireturn, 1)) (S : CallFix p m c cc nL s args lw_all own) (hr : meth.sig.returnType = some .int) (hk : meth.locks = false) (hC0 : gC E G0 s.heap) (hG : gC E G H) (hS : va_S (gx_C E) s.heap H locs) (h : some v = some r) : WC E p l e R s m args below meth c H locs (MQ below (gQ (some (.int r)) (gC E G) (gx_C E)) args s (cBx G0) (cBs G0) (gx_C E)) (F0 m pc ls [.int v]) := by
  cases h
  exact c_end hC0 hG hS (g_iret S hr hk hG hS hdg (fun _ h => h))
theorem c_zretW {v r : Int32} (hdg : decode cc pc = .ok (.ireturn, 1)) (S : CallFix p m c cc nL s args lw_all own) (hr : meth.sig.returnType = some .boolean) (hk : meth.locks = false) (hC0 : gC E G0 s.heap) (hG : gC E G H) (hS : va_S (gx_C E) s.heap H locs) (h : mZr v (v, G) = some (r, G1)) : WC E p l e R s m args below meth c H locs (MQ below (gQ (some (.int r)) (gC E G1) (gx_C E)) args s (cBx G0) (cBs G0) (gx_C E)) (F0 m pc ls [.int v]) := by
  obtain ⟨h01, h⟩ := m_zr h
  cases h
  exact c_end hC0 hG hS (g_zret S hr h01 hk hG hS hdg (fun _ h => h))
theorem c_zretR {v r : Int32} (hdg : decode cc pc = .ok (.ireturn, 1)) (S : CallFix p m c cc nL s args lw_all own) (hr : meth.sig.returnType = some .boolean) (hk : meth.locks = false) (hC0 : gC E G0 s.heap) (hG : gC E G H) (hS : va_S (gx_C E) s.heap H locs) (h : mZr v v = some r) : WC E p l e R s m args below meth c H locs (MQ below (gQ (some (.int r)) (gC E G) (gx_C E)) args s (cBx G0) (cBs G0) (gx_C E)) (F0 m pc ls [.int v]) := by
  obtain ⟨h01, h⟩ := m_zr h
  cases h
  exact c_end hC0 hG hS (g_zret S hr h01 hk hG hS hdg (fun _ h => h))
theorem c_cretR {v r : Int32} (hdg : decode cc pc = .ok (.ireturn, 1)) (S : CallFix p m c cc nL s args lw_all own) (hr : meth.sig.returnType = some .char) (hk : meth.locks = false) (hC0 : gC E G0 s.heap) (hG : gC E G H) (hS : va_S (gx_C E) s.heap H locs) (h : cCr v v = some r) : WC E p l e R s m args below meth c H locs (MQ below (gQ (some (.int r)) (gC E G) (gx_C E)) args s (cBx G0) (cBs G0) (gx_C E)) (F0 m pc ls [.int v]) := by
  unfold cCr at h
  split at h
  · next hc =>
    cases h
    refine c_end hC0 hG hS (W.zret S.1 S.2.1 hr ?_ (fun t ht hW => ⟨⟨rfl, by rw [ht]; exact hG⟩, hS.F ht⟩) (fun q h => hS.2.2 q h) hdg hk)
    obtain ⟨j, hj, rfl⟩ := nI_of2 (M := 65535) (n := 65535) (by decide) hc.1 hc.2
    exact (pk_charN (by omega)).1
  · cases h
theorem c_cretW {v r : Int32} (hdg : decode cc pc = .ok (.ireturn, 1)) (S : CallFix p m c cc nL s args lw_all own) (hr : meth.sig.returnType = some .char) (hk : meth.locks = false) (hC0 : gC E G0 s.heap) (hG : gC E G H) (hS : va_S (gx_C E) s.heap H locs) (h : cCr v (v, G) = some (r, G1)) : WC E p l e R s m args below meth c H locs (MQ below (gQ (some (.int r)) (gC E G1) (gx_C E)) args s (cBx G0) (cBs G0) (gx_C E)) (F0 m pc ls [.int v]) := by
  unfold cCr at h
  split at h
  · next hc =>
    cases h
    refine c_end hC0 hG hS (W.zret S.1 S.2.1 hr ?_ (fun t ht hW => ⟨⟨rfl, by rw [ht]; exact hG⟩, hS.F ht⟩) (fun q h => hS.2.2 q h) hdg hk)
    obtain ⟨j, hj, rfl⟩ := nI_of2 (M := 65535) (n := 65535) (by decide) hc.1 hc.2
    exact (pk_charN (by omega)).1
  · cases h
theorem c_bretR {v r : Int32} (hdg : decode cc pc = .ok (.ireturn, 1)) (S : CallFix p m c cc nL s args lw_all own) (hr : meth.sig.returnType = some .byte) (hk : meth.locks = false) (hC0 : gC E G0 s.heap) (hG : gC E G H) (hS : va_S (gx_C E) s.heap H locs) (h : cBr v v = some r) : WC E p l e R s m args below meth c H locs (MQ below (gQ (some (.int r)) (gC E G) (gx_C E)) args s (cBx G0) (cBs G0) (gx_C E)) (F0 m pc ls [.int v]) := by
  unfold cBr at h
  split at h
  · next hc =>
    cases h
    refine c_end hC0 hG hS (W.zret S.1 S.2.1 hr ?_ (fun t ht hW => ⟨⟨rfl, by rw [ht]; exact hG⟩, hS.F ht⟩) (fun q h => hS.2.2 q h) hdg hk)
    have := pk_nb v
    rw [hc] at this
    exact this
  · cases h
theorem c_lretR {v r : Int64} (hdg : decode cc pc = .ok (.lreturn, 1)) (S : CallFix p m c cc nL s args lw_all own) (hr : meth.sig.returnType = some .long) (hk : meth.locks = false) (hC0 : gC E G0 s.heap) (hG : gC E G H) (hS : va_S (gx_C E) s.heap H locs) (h : some v = some r) : WC E p l e R s m args below meth c H locs (MQ below (gQ (some (.long r)) (gC E G) (gx_C E)) args s (cBx G0) (cBs G0) (gx_C E)) (F0 m pc ls [.long v]) := by
  cases h
  exact c_end hC0 hG hS (W.lret S.1 S.2.1 hr (fun t ht hW => ⟨⟨rfl, by rw [ht]; exact hG⟩, hS.F ht⟩) (fun q h => hS.2.2 q h) hdg hk)
theorem c_lretW {v r : Int64} (hdg : decode cc pc = .ok (.lreturn, 1)) (S : CallFix p m c cc nL s args lw_all own) (hr : meth.sig.returnType = some .long) (hk : meth.locks = false) (hC0 : gC E G0 s.heap) (hG : gC E G H) (hS : va_S (gx_C E) s.heap H locs) (h : some (v, G) = some (r, G1)) : WC E p l e R s m args below meth c H locs (MQ below (gQ (some (.long r)) (gC E G1) (gx_C E)) args s (cBx G0) (cBs G0) (gx_C E)) (F0 m pc ls [.long v]) := by
  cases h
  exact c_end hC0 hG hS (W.lret S.1 S.2.1 hr (fun t ht hW => ⟨⟨rfl, by rw [ht]; exact hG⟩, hS.F ht⟩) (fun q h => hS.2.2 q h) hdg hk)
theorem c_vretW (hdg : decode cc pc = .ok (.return_, 1)) (S : CallFix p m c cc nL s args lw_all own) (hr : meth.sig.returnType = none) (hk : meth.locks = false) (hC0 : gC E G0 s.heap) (hG : gC E G H) (hS : va_S (gx_C E) s.heap H locs) (h : some G = some G1) : WC E p l e R s m args below meth c H locs (MQ below (gQ none (gC E G1) (gx_C E)) args s (cBx G0) (cBs G0) (gx_C E)) (F0 m pc ls []) := by
  cases h
  exact c_end hC0 hG hS (g_vret S hr hk hG hS hdg (fun _ h => h))
theorem g_aret {mc ms : Nat} {o : Option Nat} {rt : FieldType} (S : CallFix p m c cc nL s args lw_all own) (hr : meth.sig.returnType = some rt) (hrt : (∃ n, rt = .object n) ∨ ∃ t, rt = .array t) (hk : meth.locks = false) (hG : gC E G H) (hS : va_S (gx_C E) s.heap H locs) (hdg : decode cc pc = .ok (.areturn, 1)) : W p l e R s m args below meth c H locs mc ms (MQ below (gQ (some (va_rf o)) (gC E G) (gx_C E)) args s mc ms (gx_C E)) (F0 m pc ls [va_rf o]) :=
  W.aret S.1 S.2.1 hr hrt (by cases o with | none => exact Or.inl rfl | some a => exact Or.inr ⟨a, rfl⟩) (fun t ht hW => ⟨⟨rfl, by rw [ht]; exact hG⟩, hS.F ht⟩) (fun q h => hS.2.2 q h) hdg hk
theorem c_aretW {v r : Nat} {rt : FieldType} (hdg : decode cc pc = .ok (.areturn, 1)) (hrt : (∃ n, rt = .object n) ∨ ∃ t, rt = .array t) (S : CallFix p m c cc nL s args lw_all own) (hr : meth.sig.returnType = some rt) (hk : meth.locks = false) (hC0 : gC E G0 s.heap) (hG : gC E G H) (hS : va_S (gx_C E) s.heap H locs) (h : some (v, G) = some (r, G1)) : WC E p l e R s m args below meth c H locs (MQ below (gQ (some (.ref r)) (gC E G1) (gx_C E)) args s (cBx G0) (cBs G0) (gx_C E)) (F0 m pc ls [.ref v]) := by
  obtain rfl : v = r := by cases h; rfl
  cases h
  exact c_end hC0 hG hS (g_aret (o := some v) S hr hrt hk hG hS hdg)
theorem c_aretR {v r : Nat} {rt : FieldType} (hdg : decode cc pc = .ok (.areturn, 1)) (hrt : (∃ n, rt = .object n) ∨ ∃ t, rt = .array t) (S : CallFix p m c cc nL s args lw_all own) (hr : meth.sig.returnType = some rt) (hk : meth.locks = false) (hC0 : gC E G0 s.heap) (hG : gC E G H) (hS : va_S (gx_C E) s.heap H locs) (h : some v = some r) : WC E p l e R s m args below meth c H locs (MQ below (gQ (some (.ref r)) (gC E G) (gx_C E)) args s (cBx G0) (cBs G0) (gx_C E)) (F0 m pc ls [.ref v]) := by
  obtain rfl : v = r := by cases h; rfl
  cases h
  exact c_end hC0 hG hS (g_aret (o := some v) S hr hrt hk hG hS hdg)
theorem c_qretW {v r : Option Nat} {rt : FieldType} (hdg : decode cc pc = .ok (.areturn, 1)) (hrt : (∃ n, rt = .object n) ∨ ∃ t, rt = .array t) (S : CallFix p m c cc nL s args lw_all own) (hr : meth.sig.returnType = some rt) (hk : meth.locks = false) (hC0 : gC E G0 s.heap) (hG : gC E G H) (hS : va_S (gx_C E) s.heap H locs) (h : some (v, G) = some (r, G1)) : WC E p l e R s m args below meth c H locs (MQ below (gQ (some (va_rf r)) (gC E G1) (gx_C E)) args s (cBx G0) (cBs G0) (gx_C E)) (F0 m pc ls [va_rf v]) := by
  cases h
  exact c_end hC0 hG hS (g_aret S hr hrt hk hG hS hdg)
theorem c_qretR {v r : Option Nat} {rt : FieldType} (hdg : decode cc pc = .ok (.areturn, 1)) (hrt : (∃ n, rt = .object n) ∨ ∃ t, rt = .array t) (S : CallFix p m c cc nL s args lw_all own) (hr : meth.sig.returnType = some rt) (hk : meth.locks = false) (hC0 : gC E G0 s.heap) (hG : gC E G H) (hS : va_S (gx_C E) s.heap H locs) (h : some v = some r) : WC E p l e R s m args below meth c H locs (MQ below (gQ (some (va_rf r)) (gC E G) (gx_C E)) args s (cBx G0) (cBs G0) (gx_C E)) (F0 m pc ls [va_rf v]) := by
  cases h
  exact c_end hC0 hG hS (g_aret S hr hrt hk hG hS hdg)
/-! references that may be null -/
theorem c_aloadQ_n {k : Fin 4} {i : Nat} {o : Option Nat} (hx : p.tables.exec = Jvm.exec) (hb : c.code = cc) (hdg : decode cc pc = .ok (.aload_n k, 1)) (hi : (k : Nat) = i) (hl : ls[i]? = some (.val (va_rf o))) (kk : W p l e R s m args below meth c H locs cells slots Q (F0 m (pc + 1) ls (va_rf o :: rest))) : W p l e R s m args below meth c H locs cells slots Q (F0 m pc ls rest) := by
  cases o with
  | none => exact lv_aload_nN hx hb hdg hi hl kk
  | some a => exact lv_aload_n hx hb hdg hi hl kk
theorem c_aloadQ {i : Nat} {o : Option Nat} (hx : p.tables.exec = Jvm.exec) (hb : c.code = cc) (hdg : decode cc pc = .ok (.aload i, 2)) (hl : ls[i]? = some (.val (va_rf o))) (kk : W p l e R s m args below meth c H locs cells slots Q (F0 m (pc + 2) ls (va_rf o :: rest))) : W p l e R s m args below meth c H locs cells slots Q (F0 m pc ls rest) := by
  cases o with
  | none => exact lv_aloadN hx hb hdg hl kk
  | some a => exact lv_aload hx hb hdg hl kk
theorem c_astoreQ_n {k : Fin 4} {i nl : Nat} {o : Option Nat} {lv lv' : List (Nat × Value)} (hx : p.tables.exec = Jvm.exec) (hb : c.code = cc) (hdg : decode cc pc = .ok (.astore_n k, 1)) (hi : (k : Nat) = i) (h : lv_has ls nl lv) (hn : i < nl) (hl : (i, va_rf o) :: lv.filter (fun q => !(q.1 == i) && !(q.1 + 1 == i && q.2.category == 2)) = lv')
    (kk : ∀ ls' : Array Slot, lv_has ls' nl lv' → W p l e R s m args below meth c H locs cells slots Q (F0 m (pc + 1) ls' rest)) : W p l e R s m args below meth c H locs cells slots Q (F0 m pc ls (va_rf o :: rest)) := by
  cases o with
  | none => exact lv_astore_nN hx hb hdg hi h hn hl kk
  | some a => exact lv_astore_n hx hb hdg hi h hn hl kk
theorem c_astoreQ {i nl : Nat} {o : Option Nat} {lv lv' : List (Nat × Value)} (hx : p.tables.exec = Jvm.exec) (hb : c.code = cc) (hdg : decode cc pc = .ok (.astore i, 2)) (h : lv_has ls nl lv) (hn : i < nl) (hl : (i, va_rf o) :: lv.filter (fun q => !(q.1 == i) && !(q.1 + 1 == i && q.2.category == 2)) = lv')
    (kk : ∀ ls' : Array Slot, lv_has ls' nl lv' → W p l e R s m args below meth c H locs cells slots Q (F0 m (pc + 2) ls' rest)) : W p l e R s m args below meth c H locs cells slots Q (F0 m pc ls (va_rf o :: rest)) := by
  cases o with
  | none => exact lv_astoreN hx hb hdg h hn hl kk
  | some a => exact lv_astore hx hb hdg h hn hl kk
theorem c_ifnull {o : Option Nat} {off : Int} {tgt : Nat} (hx : p.tables.exec = Jvm.exec) (hb : c.code = cc) (hdg : decode cc pc = .ok (.ifnull off, 3)) (ht : (pc : Int) + off = (tgt : Int)) (kt : o = none → W p l e R s m args below meth c H locs cells slots Q (F0 m tgt ls rest)) (kf : ¬ o = none → W p l e R s m args below meth c H locs cells slots Q (F0 m (pc + 3) ls rest)) : W p l e R s m args below meth c H locs cells slots Q (F0 m pc ls (va_rf o :: rest)) := by
  cases o with
  | none => exact lv_ifnullN hx hb hdg ht (kt rfl)
  | some a => exact lv_ifnull hx hb hdg (kf (fun h => by cases h))
theorem c_ifnonnull {o : Option Nat} {off : Int} {tgt : Nat} (hx : p.tables.exec = Jvm.exec) (hb : c.code = cc) (hdg : decode cc pc = .ok (.ifnonnull off, 3)) (ht : (pc : Int) + off = (tgt : Int)) (kt : ¬ o = none → W p l e R s m args below meth c H locs cells slots Q (F0 m tgt ls rest)) (kf : o = none → W p l e R s m args below meth c H locs cells slots Q (F0 m (pc + 3) ls rest)) : W p l e R s m args below meth c H locs cells slots Q (F0 m pc ls (va_rf o :: rest)) := by
  cases o with
  | none => exact lv_ifnonnullN hx hb hdg (kf rfl)
  | some a => exact lv_ifnonnull hx hb hdg ht (kt (fun h => by cases h))
/-! casts -/
theorem c_castY {ci a idx : Nat} {C nm : String} {T : u_T} {N : Nat} (hc : gCl[ci]? = some (C, T, N)) (h4 : ci ≠ 4) (w : Cond.classLink own idx nm ∈ lw_all) (hcs : Cond.castable C nm ∈ gNwL) (hdg : decode cc pc = .ok (.checkcast idx, 3)) (S : CallFix p m c cc nL s args lw_all own) (hE : gEnv E s) (hG : gC E G H) (ht : cT G a = ci + 1) (kk : W p l e R s m args below meth c H locs cells slots Q (F0 m (pc + 3) ls (.ref a :: rest))) : W p l e R s m args below meth c H locs cells slots Q (F0 m pc ls (.ref a :: rest)) :=
  va_castY S.1 S.2.1 S.2.2.2.1 (S.2.2.2.2 _ w) (hE.nw hcs) (c_recv hE hG hc h4 ht) hdg kk
theorem c_castS {ci a idx : Nat} {C : String} {T : u_T} {N : Nat} (hc : gCl[ci]? = some (C, T, N)) (h4 : ci ≠ 4) (w : Cond.classLink own idx C ∈ lw_all) (hdg : decode cc pc = .ok (.checkcast idx, 3)) (S : CallFix p m c cc nL s args lw_all own) (hE : gEnv E s) (hG : gC E G H) (ht : cT G a = ci + 1) (kk : W p l e R s m args below meth c H locs cells slots Q (F0 m (pc + 3) ls (.ref a :: rest))) : W p l e R s m args below meth c H locs cells slots Q (F0 m pc ls (.ref a :: rest)) :=
  va_castS S.1 S.2.1 S.2.2.2.1 (S.2.2.2.2 _ w) (hE.K.1 ci _ hc).2 (c_recv hE hG hc h4 ht) hdg kk
theorem c_instY {ci a idx : Nat} {C nm : String} {T : u_T} {N : Nat} (hc : gCl[ci]? = some (C, T, N)) (h4 : ci ≠ 4) (w : Cond.classLink own idx nm ∈ lw_all) (hcs : Cond.castable C nm ∈ gNwL) (hdg : decode cc pc = .ok (.instanceof idx, 3)) (S : CallFix p m c cc nL s args lw_all own) (hE : gEnv E s) (hG : gC E G H) (ht : cT G a = ci + 1) (kk : W p l e R s m args below meth c H locs cells slots Q (F0 m (pc + 3) ls (.int 1 :: rest))) : W p l e R s m args below meth c H locs cells slots Q (F0 m pc ls (.ref a :: rest)) :=
  va_instY S.1 S.2.1 S.2.2.2.1 (S.2.2.2.2 _ w) (hE.nw hcs) (c_recv hE hG hc h4 ht) hdg kk
theorem c_instNo {ci a idx : Nat} {C nm : String} {T : u_T} {N : Nat} (hc : gCl[ci]? = some (C, T, N)) (h4 : ci ≠ 4) (w : Cond.classLink own idx nm ∈ lw_all) (i : Nat) (hi : gNcL[i]? = some (C, nm)) (hdg : decode cc pc = .ok (.instanceof idx, 3)) (S : CallFix p m c cc nL s args lw_all own) (hE : gEnv E s) (hG : gC E G H) (ht : cT G a = ci + 1) (kk : W p l e R s m args below meth c H locs cells slots Q (F0 m (pc + 3) ls (.int 0 :: rest))) : W p l e R s m args below meth c H locs cells slots Q (F0 m pc ls (.ref a :: rest)) :=
  va_instNo S.1 S.2.1 S.2.2.2.1 (S.2.2.2.2 _ w) (hE.nc i hi) (c_recv hE hG hc h4 ht) hdg kk
/-! constants -/
theorem c_ldcS {idx i : Nat} {tx : String} (hi : gStrL[i]? = some (own, idx, tx)) (hdg : decode cc pc = .ok (.ldc idx, 2)) (S : CallFix p m c cc nL s args lw_all own) (hE : gEnv E s) (hG : gC E G H) (kk : W p l e R s m args below meth c H locs cells slots Q (F0 m (pc + 2) ls (.ref (cK G (100 + i)) :: rest))) : W p l e R s m args below meth c H locs cells slots Q (F0 m pc ls rest) := by
  rw [hG.2.2.2.2.1] at kk
  exact va_ldcS S.1 S.2.1 S.2.2.2.1 (hE.str i hi) hdg kk
theorem c_ldcW {idx i : Nat} {tx : String} (hi : gStrL[i]? = some (own, idx, tx)) (hdg : decode cc pc = .ok (.ldc_w idx, 3)) (S : CallFix p m c cc nL s args lw_all own) (hE : gEnv E s) (hG : gC E G H) (kk : W p l e R s m args below meth c H locs cells slots Q (F0 m (pc + 3) ls (.ref (cK G (100 + i)) :: rest))) : W p l e R s m args below meth c H locs cells slots Q (F0 m pc ls rest) := by
  rw [hG.2.2.2.2.1] at kk
  have hZ := hE.str i hi
  intro T hT X
  obtain ⟨t, a1, b1⟩ := kk T hT X
  exact ⟨t, X.ldcStringW S.1 S.2.2.2.1 (text := tx) hZ.1 hZ.2 (g := F0 m pc ls rest) rfl (by rw [S.2.1]; exact hdg) t a1, b1⟩
theorem c_gets {C n d ref : String} {v : Value} {idx : Nat} (w : Cond.fieldLink own idx ref n d ∈ lw_all) (hr : ref = C) (hZ : va_Z C n d v (gB E) s s.heap) (hdg : decode cc pc = .ok (.getstatic idx, 3)) (S : CallFix p m c cc nL s args lw_all own) (hS : va_S (gx_C E) s.heap H locs) (kk : W p l e R s m args below meth c H locs cells slots Q (F0 m (pc + 3) ls (v :: rest))) : W p l e R s m args below meth c H locs cells slots Q (F0 m pc ls rest) := by
  subst hr
  exact va_gets S.1 S.2.1 (va_Z.narrow hZ (fun _ h => h.1)) hS S.2.2.2.1 (S.2.2.2.2 _ w) (fun _ h => h) hdg kk
/-! fields by kind -/
theorem c_hvI {ci a k N : Nat} {v : Int32} (hk : ∀ (i : Int32) (j : Int64) (r : Option Nat), cFv (gTy ci k) i j r = .int i) : ∀ j, j < N → updV (cVal G a ci) k (.int v) j = cVal (cSetI G a k v) a ci j := by
  intro j _
  by_cases h : j = k
  · subst h
    simp only [updV, if_true, cVal, hk]
    simp [cSetI, cI, cUp]
  · simp only [updV, if_neg h, cVal]
    simp [cSetI, cI, cJ, cR, cUp, h]
theorem c_hvJ {ci a k N : Nat} {v : Int64} (hk : ∀ (i : Int32) (j : Int64) (r : Option Nat), cFv (gTy ci k) i j r = .long j) : ∀ j, j < N → updV (cVal G a ci) k (.long v) j = cVal (cSetJ G a k v) a ci j := by
  intro j _
  by_cases h : j = k
  · subst h
    simp only [updV, if_true, cVal, hk]
    simp [cSetJ, cJ, cUp]
  · simp only [updV, if_neg h, cVal]
    simp [cSetJ, cI, cJ, cR, cUp, h]
theorem c_hvR {ci a k N : Nat} {v : Option Nat} (hk : ∀ (i : Int32) (j : Int64) (r : Option Nat), cFv (gTy ci k) i j r = va_rf r) : ∀ j, j < N → updV (cVal G a ci) k (va_rf v) j = cVal (cSetR G a k v) a ci j := by
  intro j _
  by_cases h : j = k
  · subst h
    simp only [updV, if_true, cVal, hk]
    simp [cSetR, cR, cUp]
  · simp only [updV, if_neg h, cVal]
    simp [cSetR, cI, cJ, cR, cUp, h]
theorem c_othI {a k : Nat} {v : Int32} : ∀ b, b ≠ a → cI (cSetI G a k v) b = cI G b ∧ cJ (cSetI G a k v) b = cJ G b ∧ cR (cSetI G a k v) b = cR G b := fun b hb => ⟨cUp_ne _ _ _ hb, rfl, rfl⟩
theorem c_othJ {a k : Nat} {v : Int64} : ∀ b, b ≠ a → cI (cSetJ G a k v) b = cI G b ∧ cJ (cSetJ G a k v) b = cJ G b ∧ cR (cSetJ G a k v) b = cR G b := fun b hb => ⟨rfl, cUp_ne _ _ _ hb, rfl⟩
theorem c_othR {a k : Nat} {v : Option Nat} : ∀ b, b ≠ a → cI (cSetR G a k v) b = cI G b ∧ cJ (cSetR G a k v) b = cJ G b ∧ cR (cSetR G a k v) b = cR G b := fun b hb => ⟨rfl, rfl, cUp_ne _ _ _ hb⟩
theorem c_narR {ty : FieldType} (o : Option Nat) (h : (∃ n, ty = .object n) ∨ ∃ t, ty = .array t) : narrow ty (va_rf o) = va_rf o ∧ fits ty (va_rf o) = true := by
  rcases h with ⟨n, rfl⟩ | ⟨t, rfl⟩ <;> cases o <;> exact ⟨rfl, rfl⟩
/-! new arrays -/
theorem c_newA {q idx t j : Nat} {at0 : ArrayType} {n : Int32} {ty : FieldType} (hj : (gTys E)[j]? = some (E.2.1 j, ty)) (hty : newarray.typeOf at0 = ty) (hp : va_RA s (E.2.1 j) ty ↔ s.vm.findClass ("[" ++ ty.toString) = some (E.2.1 j)) (ht : 100 ≤ t ∧ t < 110)
    (hcl : cArr E (cMk G t n.toNatClampNeg n.toNatClampNeg) (cX G) = some (arrV (E.2.1 j) n.toNatClampNeg (fun _ => defaultValue ty))) (hcb : componentBytes ty ≤ 8) (w : Cond.arrayClass ty ∈ lw_all) (hdg : decode cc pc = .ok (.newarray at0, 2)) (S : CallFix p m c cc nL s args lw_all own) (hE : gEnv E s) (hG : gC E G H) (hS : va_S (gx_C E) s.heap H locs) (hC0 : gC E G0 s.heap) (hv : cNewA G t n = some (q, G1))
    (kk : ∀ (H1 : Heap) (locs1 : List Loc), gC E G1 H1 → va_S (gx_C E) s.heap H1 locs1 → WC E p l e (gRm lev0 (cBx G0) (cBs G0)) s m args below meth c H1 locs1 Q (F0 m (pc + 2) ls (.ref q :: rest))) : WC E p l e (gRm lev0 (cBx G0) (cBs G0)) s m args below meth c H locs Q (F0 m pc ls (.int n :: rest)) := by
  unfold cNewA at hv
  split at hv
  · next hh =>
    obtain ⟨ho, hn, hx, hs, hbig⟩ := hh
    cases hv
    subst hty
    have hb := hC0.2.2.2.2.2
    have hz := hG.2.1
    refine c_know hb fun hsl => ?_
    have hr1 := c_room hC0 hG hS
    have hr2 := c_roomS hC0 hG hsl
    refine W.newa S.1 S.2.1 (S.2.2.2.2 _ w) rfl hdg rfl hn (Nat.le_trans (Nat.mul_le_mul hbig hcb) (by decide)) (by show _ ≤ cBx G0; omega) (by show _ ≤ cBs G0; omega) fun cA kA comp f1 f2 f3 => ?_
    have hcA : cA = E.2.1 j := Option.some.inj (f1.symm.trans (hp.mp (hE.K.2 j _ hj).2))
    subst hcA
    rw [hz]
    have eT : cT (cMk G t n.toNatClampNeg n.toNatClampNeg) H.size = t := by simp [cMk, cT, hz]
    refine g_sync hb (kk _ _ (c_mk hG (by simp) hx hs ?_) hS.push)
    refine ⟨fun cj r hj _ hr => ?_, fun x hx => ?_, fun _ _ => c_newX hG ho, by rw [Array.size_push]; omega, fun h9 => absurd h9 (by rw [eT]; omega)⟩
    · rw [eT] at hj
      have : gCl[cj]? = none := List.getElem?_eq_none (by show 39 ≤ cj; omega)
      rw [this] at hr
      cases hr
    · rw [hz] at hx ⊢
      rw [hcl] at hx
      rw [← hz, Array.getElem?_push_size]
      cases hx
      rw [arrV_new]
  · cases hv
theorem c_newR {q idx t j : Nat} {C : String} {n : Int32} (hj : (gTys E)[j]? = some (E.2.1 j, .object C)) (hao : va_AO C s) (ht : 100 ≤ t ∧ t < 110)
    (hcl : cArr E (cMk G t n.toNatClampNeg n.toNatClampNeg) (cX G) = some (arrV (E.2.1 j) n.toNatClampNeg (fun _ => .null))) (w : Cond.classLink own idx C ∈ lw_all) (hdg : decode cc pc = .ok (.anewarray idx, 3)) (S : CallFix p m c cc nL s args lw_all own) (hE : gEnv E s) (hG : gC E G H) (hS : va_S (gx_C E) s.heap H locs) (hC0 : gC E G0 s.heap) (hv : cNewA G t n = some (q, G1))
    (kk : ∀ (H1 : Heap) (locs1 : List Loc), gC E G1 H1 → va_S (gx_C E) s.heap H1 locs1 → WC E p l e (gRm lev0 (cBx G0) (cBs G0)) s m args below meth c H1 locs1 Q (F0 m (pc + 3) ls (.ref q :: rest))) : WC E p l e (gRm lev0 (cBx G0) (cBs G0)) s m args below meth c H locs Q (F0 m pc ls (.int n :: rest)) := by
  unfold cNewA at hv
  split at hv
  · next hh =>
    obtain ⟨ho, hn, hx, hs, hbig⟩ := hh
    cases hv
    have hb := hC0.2.2.2.2.2
    have hz := hG.2.1
    refine c_know hb fun hsl => ?_
    have hr1 := c_room hC0 hG hS
    have hr2 := c_roomS hC0 hG hsl
    refine W.anew S.1 S.2.1 S.2.2.2.1 (S.2.2.2.2 _ w) (va_AO.use hao) rfl hdg rfl hn (by omega) (by show _ ≤ cBx G0; omega) (by show _ ≤ cBs G0; omega) fun cA kA comp f1 f2 f3 f4 => ?_
    have hcA : cA = E.2.1 j := by
      obtain ⟨kA', comp', g1, g2, g3, g4⟩ := (hE.K.2 j _ hj).2
      exact Option.some.inj (f1.symm.trans g4)
    subst hcA
    rw [hz]
    have eT : cT (cMk G t n.toNatClampNeg n.toNatClampNeg) H.size = t := by simp [cMk, cT, hz]
    refine g_sync hb (kk _ _ (c_mk hG (by simp) hx hs ?_) hS.push)
    refine ⟨fun cj r hj _ hr => ?_, fun x hx => ?_, fun _ _ => c_newX hG ho, by rw [Array.size_push]; omega, fun h9 => absurd h9 (by rw [eT]; omega)⟩
    · rw [eT] at hj
      have : gCl[cj]? = none := List.getElem?_eq_none (by show 39 ≤ cj; omega)
      rw [this] at hr
      cases hr
    · rw [hz] at hx ⊢
      rw [hcl] at hx
      rw [← hz, Array.getElem?_push_size]
      cases hx
      rw [arrV_new]
  · cases hv
theorem c_newI {q : Nat} {n : Int32} (w : Cond.arrayClass .int ∈ lw_all) (hdg : decode cc pc = .ok (.newarray .int, 2)) (S : CallFix p m c cc nL s args lw_all own) (hE : gEnv E s) (hG : gC E G H) (hS : va_S (gx_C E) s.heap H locs) (hC0 : gC E G0 s.heap) (hv : cNewA G 100 n = some (q, G1))
    (kk : ∀ (H1 : Heap) (locs1 : List Loc), gC E G1 H1 → va_S (gx_C E) s.heap H1 locs1 → WC E p l e (gRm lev0 (cBx G0) (cBs G0)) s m args below meth c H1 locs1 Q (F0 m (pc + 2) ls (.ref q :: rest))) : WC E p l e (gRm lev0 (cBx G0) (cBs G0)) s m args below meth c H locs Q (F0 m pc ls (.int n :: rest)) :=
  c_newA (idx := 0) (j := 0) (ty := .int) rfl rfl Iff.rfl ⟨by decide, by decide⟩ (by simp [cArr, cMk, cT, cN, cI, vp_cell_i]; rfl) (by decide) w hdg S hE hG hS hC0 hv kk
theorem c_newZ {q : Nat} {n : Int32} (w : Cond.arrayClass .boolean ∈ lw_all) (hdg : decode cc pc = .ok (.newarray .boolean, 2)) (S : CallFix p m c cc nL s args lw_all own) (hE : gEnv E s) (hG : gC E G H) (hS : va_S (gx_C E) s.heap H locs) (hC0 : gC E G0 s.heap) (hv : cNewA G 101 n = some (q, G1))
    (kk : ∀ (H1 : Heap) (locs1 : List Loc), gC E G1 H1 → va_S (gx_C E) s.heap H1 locs1 → WC E p l e (gRm lev0 (cBx G0) (cBs G0)) s m args below meth c H1 locs1 Q (F0 m (pc + 2) ls (.ref q :: rest))) : WC E p l e (gRm lev0 (cBx G0) (cBs G0)) s m args below meth c H locs Q (F0 m pc ls (.int n :: rest)) :=
  c_newA (idx := 0) (j := 1) (ty := .boolean) rfl rfl Iff.rfl ⟨by decide, by decide⟩ (by simp [cArr, cMk, cT, cN, cI, vp_cell_i]; rfl) (by decide) w hdg S hE hG hS hC0 hv kk
theorem c_newB {q : Nat} {n : Int32} (w : Cond.arrayClass .byte ∈ lw_all) (hdg : decode cc pc = .ok (.newarray .byte, 2)) (S : CallFix p m c cc nL s args lw_all own) (hE : gEnv E s) (hG : gC E G H) (hS : va_S (gx_C E) s.heap H locs) (hC0 : gC E G0 s.heap) (hv : cNewA G 102 n = some (q, G1))
    (kk : ∀ (H1 : Heap) (locs1 : List Loc), gC E G1 H1 → va_S (gx_C E) s.heap H1 locs1 → WC E p l e (gRm lev0 (cBx G0) (cBs G0)) s m args below meth c H1 locs1 Q (F0 m (pc + 2) ls (.ref q :: rest))) : WC E p l e (gRm lev0 (cBx G0) (cBs G0)) s m args below meth c H locs Q (F0 m pc ls (.int n :: rest)) :=
  c_newA (idx := 0) (j := 2) (ty := .byte) rfl rfl Iff.rfl ⟨by decide, by decide⟩ (by simp [cArr, cMk, cT, cN, cI, vp_cell_i]; rfl) (by decide) w hdg S hE hG hS hC0 hv kk
theorem c_newO {q idx : Nat} {n : Int32} (w : Cond.classLink own idx "java/lang/Object" ∈ lw_all) (hdg : decode cc pc = .ok (.anewarray idx, 3)) (S : CallFix p m c cc nL s args lw_all own) (hE : gEnv E s) (hG : gC E G H) (hS : va_S (gx_C E) s.heap H locs) (hC0 : gC E G0 s.heap) (hv : cNewA G 104 n = some (q, G1))
    (kk : ∀ (H1 : Heap) (locs1 : List Loc), gC E G1 H1 → va_S (gx_C E) s.heap H1 locs1 → WC E p l e (gRm lev0 (cBx G0) (cBs G0)) s m args below meth c H1 locs1 Q (F0 m (pc + 3) ls (.ref q :: rest))) : WC E p l e (gRm lev0 (cBx G0) (cBs G0)) s m args below meth c H locs Q (F0 m pc ls (.int n :: rest)) :=
  c_newR (idx := idx) (j := 4) (C := "java/lang/Object") rfl hE.aoO ⟨by decide, by decide⟩ (by simp [cArr, cMk, cT, cN, cR, vp_cell_q]; rfl) w hdg S hE hG hS hC0 hv kk
/-! divisions by what may be 0, the greater, the smaller -/
end CE
