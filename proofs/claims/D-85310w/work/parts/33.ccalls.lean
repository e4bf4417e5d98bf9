/-! THE COMPONENT's CALLS, ENDS, REFERENCES -/
set_option maxRecDepth 100000
section CC
variable {p : Program} {l : Launch} {e : Env} {R : Room} {s : State} {m : MethodId} {args : Array Value} {below : List Frame} {meth : Method} {c : Code} {H : Heap} {locs : List Loc} {cells slots : Nat} {Q : State → Prop}
variable {cc : ByteArray} {pc nL lev0 : Nat} {ls : Array Slot} {rest st : List Value} {own : String} {E : gX} {G G0 G1 : GH} {rv : Option Value}
theorem c_hb : ∀ q, gx_C E q → gx_b E ≤ q := fun _ h => h.1
theorem c_fit (hC0 : gC E G0 s.heap) (hG : gC E G H) (hS : va_S (gx_C E) s.heap H locs) (h : gSl E s.heap ≤ gSl E H) : (H.size - s.heap.size) + cBx G ≤ (gRm lev0 (cBx G0) (cBs G0)).cells ∧ (gSl E H - gSl E s.heap) + cBs G ≤ (gRm lev0 (cBx G0) (cBs G0)).slots :=
  ⟨Nat.le_of_eq (c_room hC0 hG hS), Nat.le_of_eq (c_roomS hC0 hG h)⟩
theorem c_back3 {a : Array Value} {st0 : List Value} (hC0 : gC E G0 s.heap) (hr : va_Run p l e R s m args below meth c H locs (H.size - s.heap.size) (gSl E H - gSl E s.heap) (cBx G) (cBs G) (F0 m pc ls st0) rest (gQ rv (gC E G1) (gx_C E) a) (gx_C E)) (hS : va_S (gx_C E) s.heap H locs)
    (kk : ∀ (H1 : Heap) (locs1 : List Loc), gC E G1 H1 → va_S (gx_C E) s.heap H1 locs1 → WC E p l e R s m args below meth c H1 locs1 Q (F0 m (pc + 3) ls (rv.toList ++ rest))) : WC E p l e R s m args below meth c H locs Q (F0 m pc ls st0) :=
  g_back hr hS (fun _ h => h) (fun H1 locs1 h1 h2 _ _ => g_sync hC0.2.2.2.2.2 (kk H1 locs1 h1 h2))
theorem c_back5 {a : Array Value} {st0 : List Value} (hC0 : gC E G0 s.heap) (hr : va_Run5 p l e R s m args below meth c H locs (H.size - s.heap.size) (gSl E H - gSl E s.heap) (cBx G) (cBs G) (F0 m pc ls st0) rest (gQ rv (gC E G1) (gx_C E) a) (gx_C E)) (hS : va_S (gx_C E) s.heap H locs)
    (kk : ∀ (H1 : Heap) (locs1 : List Loc), gC E G1 H1 → va_S (gx_C E) s.heap H1 locs1 → WC E p l e R s m args below meth c H1 locs1 Q (F0 m (pc + 5) ls (rv.toList ++ rest))) : WC E p l e R s m args below meth c H locs Q (F0 m pc ls st0) := by
  intro T hT X
  obtain ⟨v, st₀, t, T', L, h0, X', hL, e1, e2, ⟨⟨hv, hp⟩, hz, hk⟩, st⟩ := hr T hT X
  cases hv
  rw [h0] at hz hk
  obtain ⟨t2, a1, b1⟩ := g_sync hC0.2.2.2.2.2 (kk T'.heap (locs ++ L) (by rw [e1]; exact hp) ⟨Nat.le_trans hS.1 (by rw [e1]; exact hz), fun q h1 h2 => by rw [e1, hk q (Nat.lt_of_lt_of_le h1 hS.1) h2]; exact hS.2.1 q h1 h2, fun q hq => by
      rcases List.mem_append.mp hq with h | h
      · exact hS.2.2 q h
      · exact hL q h⟩) T' rfl X'
  exact ⟨t2, st t2 a1, b1⟩
/-- the common head of a call -/
abbrev cHd (y : MethodName) (n : Nat) : Prop := y.cls ≠ "java/lang/invoke/MethodHandle" ∧ y.cls ≠ "java/lang/invoke/VarHandle" ∧ (parseMethodDescriptor y.desc).map (fun d => d.parameters.length) = some n
theorem c_cV {b n index maxL lev : Nat} {C : String} {y : MethodName} {bytes : ByteArray} {ret : Option FieldType} {As : List Value} (hdg : decode cc pc = .ok (.invokevirtual index, 3)) (w1 : Cond.methodLink own index y ∈ lw_all) (w2 : Cond.instanceMethod y ∈ lw_all) (w3 : Cond.selects C y y ∈ lw_all) (w4 : Cond.initialized C ∈ lw_all) (w5 : Cond.code y bytes maxL ret ∈ lw_all)
    (hd : cHd y n) (hyC : y.cls = C) (S : CallFix p m c cc nL s args lw_all own) (hE : gEnv E s) (hG : gC E G H) (hS : va_S (gx_C E) s.heap H locs) (hC0 : gC E G0 s.heap) (hls : ls.size = nL) (hn : As.length = n) (hr : ∃ cell : Cell, H[b]? = some cell ∧ cell.vm.isStatics = false ∧ s.vm.findClass C = some cell.cls)
    (hM : gMetC E l y bytes maxL ret lev (.ref b :: As) G G1 rv) (hst : st = As.reverse ++ .ref b :: rest) (hW : (rest.map fun v => v.category).sum ≤ 8) (hroom : lev + 1 ≤ lev0 ∧ 8 + (maxL + 11) + 64 * lev ≤ 64 * lev0)
    (kk : ∀ (H1 : Heap) (locs1 : List Loc), gC E G1 H1 → va_S (gx_C E) s.heap H1 locs1 → WC E p l e (gRm lev0 (cBx G0) (cBs G0)) s m args below meth c H1 locs1 Q (F0 m (pc + 3) ls (rv.toList ++ rest))) : WC E p l e (gRm lev0 (cBx G0) (cBs G0)) s m args below meth c H locs Q (F0 m pc ls st) := by
  subst hn
  refine c_know hC0.2.2.2.2.2 fun hsl => ?_
  exact c_back3 hC0 (va_runV S hM (cwV As.length S.2.2.2.2 (lw_V w1 w2 w3 w4 w5) rfl rfl rfl ⟨hyC, hd⟩ hroom) ⟨gBlind, hr, (g_pre hE hG hS c_hb).2⟩ rfl rfl hls hst (lv_room hW) hdg (c_fit hC0 hG hS hsl)) hS kk
theorem c_cS {n index maxL lev : Nat} {y : MethodName} {bytes : ByteArray} {ret : Option FieldType} {As : List Value} (hdg : decode cc pc = .ok (.invokestatic index, 3)) (w1 : Cond.methodLink own index y ∈ lw_all) (w2 : Cond.static y ∈ lw_all) (w4 : Cond.initialized y.cls ∈ lw_all) (w5 : Cond.code y bytes maxL ret ∈ lw_all)
    (hd : cHd y n) (S : CallFix p m c cc nL s args lw_all own) (hE : gEnv E s) (hG : gC E G H) (hS : va_S (gx_C E) s.heap H locs) (hC0 : gC E G0 s.heap) (hls : ls.size = nL) (hn : As.length = n)
    (hM : gMetC E l y bytes maxL ret lev As G G1 rv) (hst : st = As.reverse ++ rest) (hW : (rest.map fun v => v.category).sum ≤ 8) (hroom : lev + 1 ≤ lev0 ∧ 8 + (maxL + 11) + 64 * lev ≤ 64 * lev0)
    (kk : ∀ (H1 : Heap) (locs1 : List Loc), gC E G1 H1 → va_S (gx_C E) s.heap H1 locs1 → WC E p l e (gRm lev0 (cBx G0) (cBs G0)) s m args below meth c H1 locs1 Q (F0 m (pc + 3) ls (rv.toList ++ rest))) : WC E p l e (gRm lev0 (cBx G0) (cBs G0)) s m args below meth c H locs Q (F0 m pc ls st) := by
  subst hn
  refine c_know hC0.2.2.2.2.2 fun hsl => ?_
  exact c_back3 hC0 (va_runS S hM (va_cwS As.length S.2.2.2.2 (lw_S w1 w2 w4 w5) rfl rfl rfl hd hroom) (g_pre hE hG hS c_hb) rfl rfl hls hst (lv_room hW) hdg (c_fit hC0 hG hS hsl)) hS kk
/-- a constructor -/
theorem c_cI {b n index maxL lev : Nat} {y : MethodName} {bytes : ByteArray} {As : List Value} (hdg : decode cc pc = .ok (.invokespecial index, 3)) (w1 : Cond.methodLink own index y ∈ lw_all) (w2 : Cond.instanceMethod y ∈ lw_all) (w4 : Cond.initialized y.cls ∈ lw_all) (w5 : Cond.code y bytes maxL none ∈ lw_all)
    (hd : cHd y n) (hy1 : y.name = "<init>") (S : CallFix p m c cc nL s args lw_all own) (hE : gEnv E s) (hG : gC E G H) (hS : va_S (gx_C E) s.heap H locs) (hC0 : gC E G0 s.heap) (hls : ls.size = nL) (hn : As.length = n)
    (hM : gMetC E l y bytes maxL none lev (.ref b :: As) G G1 none) (hst : st = As.reverse ++ .ref b :: rest) (hW : (rest.map fun v => v.category).sum ≤ 8) (hroom : lev + 1 ≤ lev0 ∧ 8 + (maxL + 11) + 64 * lev ≤ 64 * lev0)
    (kk : ∀ (H1 : Heap) (locs1 : List Loc), gC E G1 H1 → va_S (gx_C E) s.heap H1 locs1 → WC E p l e (gRm lev0 (cBx G0) (cBs G0)) s m args below meth c H1 locs1 Q (F0 m (pc + 3) ls rest)) : WC E p l e (gRm lev0 (cBx G0) (cBs G0)) s m args below meth c H locs Q (F0 m pc ls st) := by
  subst hn
  refine c_know hC0.2.2.2.2.2 fun hsl => ?_
  exact c_back3 (rv := none) hC0 (va_runI S hM (cwI As.length S.2.2.2.2 (lw_meth w5) rfl rfl rfl (S.2.2.2.2 _ w4) (S.2.2.2.2 _ w1) (S.2.2.2.2 _ w2) hy1 hd hroom) (g_pre hE hG hS c_hb) rfl rfl hls hst (lv_room hW) hdg (c_fit hC0 hG hS hsl)) hS kk
/-- nest mates' private methods -/
theorem c_cSN {n index maxL lev : Nat} {host : String} {y : MethodName} {bytes : ByteArray} {ret : Option FieldType} {As : List Value} (hdg : decode cc pc = .ok (.invokestatic index, 3)) (w1 : Cond.methodLinkNest own index y host ∈ gNwL) (w2 : Cond.static y ∈ lw_all) (w4 : Cond.initialized y.cls ∈ lw_all) (w5 : Cond.code y bytes maxL ret ∈ lw_all)
    (hd : cHd y n) (S : CallFix p m c cc nL s args lw_all own) (hE : gEnv E s) (hG : gC E G H) (hS : va_S (gx_C E) s.heap H locs) (hC0 : gC E G0 s.heap) (hls : ls.size = nL) (hn : As.length = n)
    (hM : gMetC E l y bytes maxL ret lev As G G1 rv) (hst : st = As.reverse ++ rest) (hW : (rest.map fun v => v.category).sum ≤ 8) (hroom : lev + 1 ≤ lev0 ∧ 8 + (maxL + 11) + 64 * lev ≤ 64 * lev0)
    (kk : ∀ (H1 : Heap) (locs1 : List Loc), gC E G1 H1 → va_S (gx_C E) s.heap H1 locs1 → WC E p l e (gRm lev0 (cBx G0) (cBs G0)) s m args below meth c H1 locs1 Q (F0 m (pc + 3) ls (rv.toList ++ rest))) : WC E p l e (gRm lev0 (cBx G0) (cBs G0)) s m args below meth c H locs Q (F0 m pc ls st) := by
  subst hn
  refine c_know hC0.2.2.2.2.2 fun hsl => ?_
  exact c_back3 hC0 (va_runSN S hM ⟨va_cnB As.length S.2.2.2.2 (lw_meth w5) rfl rfl rfl (hE.nw w1) (S.2.2.2.2 _ w4) hd hroom, S.2.2.2.2 _ w2, trivial⟩ (g_pre hE hG hS c_hb) rfl rfl hls hst (lv_room hW) hdg (c_fit hC0 hG hS hsl)) hS kk
theorem c_cIN {b n index maxL lev : Nat} {host : String} {y : MethodName} {bytes : ByteArray} {As : List Value} (hdg : decode cc pc = .ok (.invokespecial index, 3)) (w1 : Cond.methodLinkNest own index y host ∈ gNwL) (w2 : Cond.instanceMethod y ∈ lw_all) (w4 : Cond.initialized y.cls ∈ lw_all) (w5 : Cond.code y bytes maxL none ∈ lw_all)
    (hd : cHd y n) (hy1 : y.name = "<init>") (S : CallFix p m c cc nL s args lw_all own) (hE : gEnv E s) (hG : gC E G H) (hS : va_S (gx_C E) s.heap H locs) (hC0 : gC E G0 s.heap) (hls : ls.size = nL) (hn : As.length = n)
    (hM : gMetC E l y bytes maxL none lev (.ref b :: As) G G1 none) (hst : st = As.reverse ++ .ref b :: rest) (hW : (rest.map fun v => v.category).sum ≤ 8) (hroom : lev + 1 ≤ lev0 ∧ 8 + (maxL + 11) + 64 * lev ≤ 64 * lev0)
    (kk : ∀ (H1 : Heap) (locs1 : List Loc), gC E G1 H1 → va_S (gx_C E) s.heap H1 locs1 → WC E p l e (gRm lev0 (cBx G0) (cBs G0)) s m args below meth c H1 locs1 Q (F0 m (pc + 3) ls rest)) : WC E p l e (gRm lev0 (cBx G0) (cBs G0)) s m args below meth c H locs Q (F0 m pc ls st) := by
  subst hn
  refine c_know hC0.2.2.2.2.2 fun hsl => ?_
  exact c_back3 (rv := none) hC0 (va_runIN S hM ⟨va_cnB As.length S.2.2.2.2 (lw_meth w5) rfl rfl rfl (hE.nw w1) (S.2.2.2.2 _ w4) hd hroom, hy1, S.2.2.2.2 _ w2⟩ (g_pre hE hG hS c_hb) rfl rfl hls hst (lv_room hW) hdg (c_fit hC0 hG hS hsl)) hS kk
/-- an abstract class's method, at a class that has its own -/
theorem c_cA {b n index maxL lev : Nat} {C owner : String} {x y : MethodName} {bytes : ByteArray} {ret : Option FieldType} {As : List Value} (hdg : decode cc pc = .ok (.invokevirtual index, 3)) (hw : GoodIn lw_all (va_wsU own index C owner x y (ws_ y bytes maxL ret))) (hz : Cond.declares ⟨owner, x.name, x.desc⟩ ∈ gNwL)
    (hd : owner ≠ "java/lang/invoke/MethodHandle" ∧ owner ≠ "java/lang/invoke/VarHandle" ∧ (parseMethodDescriptor x.desc).map (fun d => d.parameters.length) = some n) (S : CallFix p m c cc nL s args lw_all own) (hE : gEnv E s) (hG : gC E G H) (hS : va_S (gx_C E) s.heap H locs) (hC0 : gC E G0 s.heap) (hls : ls.size = nL) (hn : As.length = n) (hr : ∃ cell : Cell, H[b]? = some cell ∧ cell.vm.isStatics = false ∧ s.vm.findClass C = some cell.cls)
    (hM : gMetC E l y bytes maxL ret lev (.ref b :: As) G G1 rv) (hst : st = As.reverse ++ .ref b :: rest) (hW : (rest.map fun v => v.category).sum ≤ 8) (hroom : lev + 1 ≤ lev0 ∧ 8 + (maxL + 11) + 64 * lev ≤ 64 * lev0)
    (kk : ∀ (H1 : Heap) (locs1 : List Loc), gC E G1 H1 → va_S (gx_C E) s.heap H1 locs1 → WC E p l e (gRm lev0 (cBx G0) (cBs G0)) s m args below meth c H1 locs1 Q (F0 m (pc + 3) ls (rv.toList ++ rest))) : WC E p l e (gRm lev0 (cBx G0) (cBs G0)) s m args below meth c H locs Q (F0 m pc ls st) := by
  subst hn
  refine c_know hC0.2.2.2.2.2 fun hsl => ?_
  exact c_back3 hC0 (va_runU S hM (va_cwA As.length S.2.2.2.2 hw rfl rfl rfl (hE.nw hz) hd hroom) ⟨gBlind, hr, (g_pre hE hG hS c_hb).2⟩ rfl rfl hls hst (lv_room hW) hdg (c_fit hC0 hG hS hsl)) hS kk
set_option maxHeartbeats 1000000 in
/-- an interface's method, at a class that has its own -/
theorem c_cF {b n index count maxL lev : Nat} {C : String} {x y : MethodName} {bytes : ByteArray} {ret : Option FieldType} {As : List Value} {cC : ClassId} (i : Nat) (hi : gFwL[i]? = some (C, x, y)) (hdg : decode cc pc = .ok (.invokeinterface index count, 5)) (w1 : Cond.methodLink own index x ∈ lw_all) (w2 : Cond.instanceMethod y ∈ lw_all) (w3 : Cond.selects C x y ∈ lw_all) (w4 : Cond.initialized y.cls ∈ lw_all) (w5 : Cond.code y bytes maxL ret ∈ lw_all)
    (hd : cHd x n) (S : CallFix p m c cc nL s args lw_all own) (hE : gEnv E s) (hG : gC E G H) (hS : va_S (gx_C E) s.heap H locs) (hC0 : gC E G0 s.heap) (hls : ls.size = nL) (hn : As.length = n) (hat : ClassAt s C cC) (hr : ∃ cell : Cell, H[b]? = some cell ∧ cell.vm.isStatics = false ∧ s.vm.findClass C = some cell.cls)
    (hM : gMetC E l y bytes maxL ret lev (.ref b :: As) G G1 rv) (hst : st = As.reverse ++ .ref b :: rest) (hW : (rest.map fun v => v.category).sum ≤ 8) (hroom : lev + 1 ≤ lev0 ∧ 8 + (maxL + 11) + 64 * lev ≤ 64 * lev0)
    (kk : ∀ (H1 : Heap) (locs1 : List Loc), gC E G1 H1 → va_S (gx_C E) s.heap H1 locs1 → WC E p l e (gRm lev0 (cBx G0) (cBs G0)) s m args below meth c H1 locs1 Q (F0 m (pc + 5) ls (rv.toList ++ rest))) : WC E p l e (gRm lev0 (cBx G0) (cBs G0)) s m args below meth c H locs Q (F0 m pc ls st) := by
  subst hn
  refine c_know hC0.2.2.2.2.2 fun hsl => ?_
  have hg : GoodIn lw_all (va_wsF own index C x y (ws_ y bytes maxL ret)) := lw_app (by
    intro w hw
    simp only [List.mem_cons, List.not_mem_nil, or_false] at hw
    rcases hw with e | e | e | e <;> rw [e] <;> assumption) (lw_meth w5)
  exact c_back5 hC0 (va_runF hat S hM (va_cwF As.length S.2.2.2.2 hg rfl rfl rfl (hE.fw i hi) hd hroom) ⟨gBlind, hr, (g_pre hE hG hS c_hb).2⟩ rfl rfl hls hst (lv_room hW) hdg (c_fit hC0 hG hS hsl)) hS kk
set_option maxHeartbeats 1000000 in
/-- an interface's method, at a class where a default stands -/
theorem c_cD {b n index count maxL lev : Nat} {C : String} {x y : MethodName} {bytes : ByteArray} {ret : Option FieldType} {As : List Value} {cC : ClassId} (i : Nat) (hi : gLdL[i]? = some (C, x, y)) (hdg : decode cc pc = .ok (.invokeinterface index count, 5)) (w1 : Cond.methodLink own index x ∈ lw_all) (w2 : Cond.instanceMethod y ∈ lw_all) (w4 : Cond.initialized y.cls ∈ lw_all) (w5 : Cond.code y bytes maxL ret ∈ lw_all)
    (hd : cHd x n) (S : CallFix p m c cc nL s args lw_all own) (hE : gEnv E s) (hG : gC E G H) (hS : va_S (gx_C E) s.heap H locs) (hC0 : gC E G0 s.heap) (hls : ls.size = nL) (hn : As.length = n) (hat : ClassAt s C cC) (hr : ∃ cell : Cell, H[b]? = some cell ∧ cell.vm.isStatics = false ∧ s.vm.findClass C = some cell.cls)
    (hM : gMetC E l y bytes maxL ret lev (.ref b :: As) G G1 rv) (hst : st = As.reverse ++ .ref b :: rest) (hW : (rest.map fun v => v.category).sum ≤ 8) (hroom : lev + 1 ≤ lev0 ∧ 8 + (maxL + 11) + 64 * lev ≤ 64 * lev0)
    (kk : ∀ (H1 : Heap) (locs1 : List Loc), gC E G1 H1 → va_S (gx_C E) s.heap H1 locs1 → WC E p l e (gRm lev0 (cBx G0) (cBs G0)) s m args below meth c H1 locs1 Q (F0 m (pc + 5) ls (rv.toList ++ rest))) : WC E p l e (gRm lev0 (cBx G0) (cBs G0)) s m args below meth c H locs Q (F0 m pc ls st) := by
  subst hn
  refine c_know hC0.2.2.2.2.2 fun hsl => ?_
  obtain ⟨k1, k2, k3, k4, k5⟩ := hE.ld i hi
  have hfit := c_fit (lev0 := lev0) hC0 hG hS hsl
  have hK : Back l (gRm lev0 (cBx G0) (cBs G0)) p e below s args y 5 8 (PreOf (gRm lev0 (cBx G0) (cBs G0)) (cBx G) (cBs G) (va_Pc (.ref b :: As) (fun U => gEnv E U ∧ gC E G U.heap))) (PostOf (gQ rv (gC E G1) (gx_C E)) (cBx G) (cBs G) (gx_C E)) :=
    back_of (bytes := bytes) (maxL := maxL) (ret := ret) hM gBlind rfl rfl hroom.1 hroom.2 (pay_in S.2.2.2.2 (lw_meth w5)) (List.mem_cons_self) (fun a' U hW => word_at hW (Or.inl (by first | rfl | simp [Cond.onTables, Cond.keeps, Cond.steady])) (S.2.2.2.2 _ w4))
  obtain ⟨hx, hb, hml, ho, hts⟩ := S
  obtain ⟨cell, hc1, hc2, hc3⟩ := hr
  obtain ⟨hfc, kB, hkB, -⟩ := hat
  cases hfc.symm.trans hc3
  refine c_back5 (G := G) (a := (.ref b :: As).toArray) hC0 (fun T hT X => ?_) hS kk
  have hlen : ∀ sig, parseMethodDescriptor x.desc = some sig → As.length = sig.parameters.length := fun sig h => by
    have h2 := hd.2.2
    rw [h] at h2
    exact (Option.some.inj h2).symm
  obtain ⟨v, vm₁, ⟨U', l2, c2, s2⟩, hW₁, X', ⟨g', mk, t, L, e1, e2, hq, h1, hL, h2, h3⟩, stp⟩ := X.interfaceBackD hx (C := C) ho (hts _ w1) (va_any rfl k1) (va_any rfl k2) k3 (hts _ w2) (va_any rfl k4) (va_any rfl k5) ⟨hd.1, hd.2.1⟩ hK hfc hkB (by first | exact ⟨cell, by rw [hT]; exact hc1, hc2, rfl⟩ | exact ⟨cell, by rw [hT]; exact hc1, rfl, hc2⟩ | (rw [IsOf]; exact ⟨cell, by rw [hT]; exact hc1, hc2, rfl⟩)) (g := F0 m pc ls st) rfl (hls.trans hml.symm) (Steps.refl _) (argsL := As) (rest := rest) hlen hst (lv_room hW) (by rw [hb]; exact hdg)
    (fun vm₁ hW₁ => ⟨hfit.1, hfit.2, (g_pre hE hG hS c_hb).2 (T.setVm vm₁) hT hW₁⟩)
  dsimp only [Pt.U, Pt.locs, Pt.cells, Pt.slots] at X' e1 e2 h1 h2 h3 stp
  subst h1; subst h2; subst h3
  exact ⟨v, (T.setVm vm₁).calling g' mk (Value.ref b :: As).toArray, t, U', L, hT, X', hL, e1, e2, hq, fun target h => stp.trans h⟩
end CC
section CU
variable {p : Program} {l : Launch} {e : Env} {R : Room} {s : State} {m : MethodId} {args : Array Value} {below : List Frame} {meth : Method} {c : Code} {H : Heap} {locs : List Loc} {cells slots : Nat} {Q : State → Prop}
variable {cc : ByteArray} {pc nL lev0 : Nat} {ls : Array Slot} {rest st : List Value} {E : gX} {G G0 G1 : GH} {rv : Option Value}
/-- where a call of Turns' method lands, at an object of class C -/
def gSel (C nm ds : String) (y : MethodName) (U : State) : Prop := ∃ (r0 : MethodId) (r : Method) (c2 : ClassId) (m2 : MethodId), U.methodNamed? ⟨"FairHouse$Turns", nm, ds⟩ = some r0 ∧ U.vm.method? r0 = some r ∧ U.vm.findClass C = some c2 ∧ selectMethod {} U.vm c2 r0 = .method m2 ∧ U.methodNamed? y = some m2 ∧
  ((c2 :: U.vm.superclasses c2).any fun k => (declaredIn U.vm r.name r.desc k).any fun (_, z) => z.isPrivate || z.isStatic) = false ∧ (Cond.publicMethod y).before #[] U = true
theorem gSel.ofF {C nm ds : String} {y : MethodName} (hE : gEnv E s) (i : Nat) (hi : gFwL[i]? = some (C, ⟨"FairHouse$Turns", nm, ds⟩, y)) (hsel : (Cond.selects C ⟨"FairHouse$Turns", nm, ds⟩ y).before args s = true) : gSel C nm ds y s := by
  obtain ⟨h1, h2, h3, h4, h5⟩ := hE.fw i hi
  obtain ⟨r0, r, hn, hrm, -, -⟩ := Cond.declares_spec h1
  obtain ⟨c2, r2, m2, q1, q2, q3, q4, -⟩ := Cond.selects_spec hsel
  cases (State.methodFound?_of_named hn ⟨(by decide : "FairHouse$Turns" ≠ "java/lang/invoke/MethodHandle"), (by decide : "FairHouse$Turns" ≠ "java/lang/invoke/VarHandle")⟩).symm.trans q2
  obtain ⟨e1, e2⟩ := name_of_methodNamed hn hrm
  exact ⟨r0, r, c2, m2, hn, hrm, q1, q4, q3, by rw [e1, e2]; exact Cond.unhidden_spec q1 h4, h3⟩
theorem gSel.ofD {C nm ds : String} {y : MethodName} (hE : gEnv E s) (i : Nat) (hi : gLdL[i]? = some (C, ⟨"FairHouse$Turns", nm, ds⟩, y)) : gSel C nm ds y s := by
  obtain ⟨h1, h2, h3, h4, h5⟩ := hE.ld i hi
  obtain ⟨r0, r, hn, hrm, -, -⟩ := Cond.declares_spec h1
  obtain ⟨c2, r2, m2, rm, q1, q2, q3, q5, q4, -, q6, -⟩ := Cond.landsInDefault_spec h3
  cases (State.methodFound?_of_named hn ⟨(by decide : "FairHouse$Turns" ≠ "java/lang/invoke/MethodHandle"), (by decide : "FairHouse$Turns" ≠ "java/lang/invoke/VarHandle")⟩).symm.trans q2
  cases hrm.symm.trans q5
  exact ⟨r0, r, c2, m2, hn, hrm, q1, q4, q3, q6, h4⟩
/-- Hitched calls a method of Turns' through its own name -/
theorem c_cU {b n index count maxL lev : Nat} {C nm ds : String} {y : MethodName} {bytes : ByteArray} {ret : Option FieldType} {As : List Value} (iu : Nat) (hiu : gUpL[iu]? = some (index, nm, ds)) (hdg : decode cc pc = .ok (.invokeinterface index count, 5)) (hcs : Cond.castable C "FairHouse$Hitched" ∈ gNwL) (w2 : Cond.instanceMethod y ∈ lw_all) (w4 : Cond.initialized y.cls ∈ lw_all) (w5 : Cond.code y bytes maxL ret ∈ lw_all)
    (hds : (parseMethodDescriptor ds).map (fun d => d.parameters.length) = some n) (S : CallFix p m c cc nL s args lw_all "FairHouse$Hitched") (hE : gEnv E s) (hsel : gSel C nm ds y s) (hG : gC E G H) (hS : va_S (gx_C E) s.heap H locs) (hC0 : gC E G0 s.heap) (hls : ls.size = nL) (hn : As.length = n) (hr : ∃ cell : Cell, H[b]? = some cell ∧ cell.vm.isStatics = false ∧ s.vm.findClass C = some cell.cls)
    (hM : gMetC E l y bytes maxL ret lev (.ref b :: As) G G1 rv) (hst : st = As.reverse ++ .ref b :: rest) (hW : (rest.map fun v => v.category).sum ≤ 8) (hroom : lev + 1 ≤ lev0 ∧ 8 + (maxL + 11) + 64 * lev ≤ 64 * lev0)
    (kk : ∀ (H1 : Heap) (locs1 : List Loc), gC E G1 H1 → va_S (gx_C E) s.heap H1 locs1 → WC E p l e (gRm lev0 (cBx G0) (cBs G0)) s m args below meth c H1 locs1 Q (F0 m (pc + 5) ls (rv.toList ++ rest))) : WC E p l e (gRm lev0 (cBx G0) (cBs G0)) s m args below meth c H locs Q (F0 m pc ls st) := by
  subst hn
  refine c_know hC0.2.2.2.2.2 fun hsl => ?_
  obtain ⟨k1, k2, k3, k4⟩ := hE.up _ (List.mem_of_getElem? hiu)
  obtain ⟨r0, r, c2, m2, p1, p2, p3, p4, p5, p6, p7⟩ := hsel
  have hfit := c_fit (lev0 := lev0) hC0 hG hS hsl
  have hK : Back l (gRm lev0 (cBx G0) (cBs G0)) p e below s args y 5 8 (PreOf (gRm lev0 (cBx G0) (cBs G0)) (cBx G) (cBs G) (va_Pc (.ref b :: As) (fun U => gEnv E U ∧ gC E G U.heap))) (PostOf (gQ rv (gC E G1) (gx_C E)) (cBx G) (cBs G) (gx_C E)) :=
    back_of (bytes := bytes) (maxL := maxL) (ret := ret) hM gBlind rfl rfl hroom.1 hroom.2 (pay_in S.2.2.2.2 (lw_meth w5)) (List.mem_cons_self) (fun a' U hW => word_at hW (Or.inl (by first | rfl | simp [Cond.onTables, Cond.keeps, Cond.steady])) (S.2.2.2.2 _ w4))
  obtain ⟨hx, hb, hml, ho, hts⟩ := S
  obtain ⟨cell, hc1, hc2, hc3⟩ := hr
  cases p3.symm.trans hc3
  obtain ⟨kB, hkB, -⟩ := Vm.findClass_spec hc3
  obtain ⟨r0', r', hn', hrm', hstR, hsigR⟩ := Cond.declares_spec k3
  cases p1.symm.trans hn'
  cases p2.symm.trans hrm'
  obtain ⟨mk, methM, hnamed, hmethM, -, habM⟩ := Cond.instanceMethod_spec (hts _ w2)
  cases p5.symm.trans hnamed
  have hpubM : hasFlag methM.accessFlags Acc.public_ = true := Cond.publicMethod_spec hnamed hmethM p7
  obtain ⟨c3, t3, x1, x2, x3⟩ := Cond.castable_spec (va_Nw.use (A := #[]) rfl (hE.nw hcs))
  cases hc3.symm.trans x1
  refine c_back5 (G := G) (a := (.ref b :: As).toArray) hC0 (fun T hT X => ?_) hS kk
  have hlen : As.length = r.sig.parameters.length := by
    rw [hsigR] at hds
    exact (Option.some.inj hds).symm
  have hselP : selectMethod e.platform s.vm cell.cls r0 = .method m2 := by rw [Launch.admits_selectMethod X.admits]; exact p4
  obtain ⟨vm₁, X₁, hstep₁⟩ := X.invokeinterfaceUp hx (J := "FairHouse$Turns") (x := ⟨"FairHouse$Hitched", nm, ds⟩) ho (va_any rfl k1) (g_iface (Vm.Alike.refl _) k2) (va_any rfl k3) (va_any rfl k4) (by decide : "FairHouse$Hitched" ≠ "FairHouse$Turns") ⟨(by decide : "FairHouse$Hitched" ≠ "java/lang/invoke/MethodHandle"), (by decide : "FairHouse$Hitched" ≠ "java/lang/invoke/VarHandle")⟩ (a := b) (cell := cell) (kcell := kB) x2 (by rw [hT]; exact hc1)
    (fun z h => by rw [h] at hc2; cases hc2) hkB x3 p1 p2 hselP hmethM p6 hpubM habM (g := F0 m pc ls st) rfl (argsL := As) (rest := rest) hlen hst (by rw [hb]; exact hdg)
  obtain ⟨v, B, X', hpost, hsteps⟩ := hK m meth c ⟨T.setVm vm₁, locs, _, _⟩ { F0 m pc ls st with stack := rest } (.invokeinterface index count) m2 (Value.ref b :: As).toArray X₁ rfl (hls.trans hml.symm) (by rw [hb]; exact hdg) (lv_room hW) (X₁.named hnamed) ⟨hfit.1, hfit.2, (g_pre hE hG hS c_hb).2 (T.setVm vm₁) hT X₁.warmed⟩
  obtain ⟨g', mk', t, L, e1, e2, hq, h1, hL, h2, h3⟩ := hpost
  dsimp only [Pt.U, Pt.locs, Pt.cells, Pt.slots] at X' e1 e2 h1 h2 h3 hsteps
  rw [h1, h2, h3] at X'
  exact ⟨v, (T.setVm vm₁).calling g' mk' (Value.ref b :: As).toArray, t, B.U, L, hT, X', hL, e1, e2, hq, fun target h => hstep₁ _ fun acts => by rw [doInvoke_state]; exact hsteps.trans h⟩
end CU
