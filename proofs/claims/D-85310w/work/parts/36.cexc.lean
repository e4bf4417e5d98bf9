/-! EXCEPTIONS OVER THE COMPONENT's WORLD: a result is a value and a heap, or an exception's kind and address and a heap -/
set_option maxRecDepth 100000
/-- which exception -/
def gXN (k : Nat) : String := match k with
  | 0 => "java/lang/IllegalArgumentException"
  | 1 => "java/lang/IllegalStateException"
  | 2 => "java/lang/IndexOutOfBoundsException"
  | _ => "FairHouse$Wrong"
abbrev gXr : Type := Nat × Nat × GH
abbrev GX (τ : Type) : Type := (τ × GH) ⊕ gXr
def gXb {σ τ : Type} (o : Option (GX σ)) (f : σ × GH → Option (GX τ)) : Option (GX τ) := Option.bind o fun r => match r with
  | .inl v => f v
  | .inr x => some (.inr x)
theorem gXb_e {σ τ : Type} {o : Option (GX σ)} {f : σ × GH → Option (GX τ)} {r : GX τ} (h : gXb o f = some r) : (∃ v, o = some (.inl v) ∧ f v = some r) ∨ ∃ x, o = some (.inr x) ∧ r = .inr x := by
  unfold gXb at h
  obtain ⟨v, hv, h⟩ := g_bd h
  cases v with
  | inl v => exact Or.inl ⟨v, hv, h⟩
  | inr x => cases h; exact Or.inr ⟨x, hv, rfl⟩
def gRs {τ : Type} (f : τ → Option Value) (r : GX τ) : GX (Option Value) := match r with
  | .inl v => .inl (f v.1, v.2)
  | .inr x => .inr x
def gXQc (E : gX) (r : GX (Option Value)) : Array Value → State → Outcome → State → Prop := match r with
  | .inl v => gQ v.1 (gC E v.2) (gx_C E)
  | .inr _ => fun _ _ _ _ => False
def gXXC (E : gX) (r : GX (Option Value)) : String → Addr → State → State → Prop := match r with
  | .inl _ => fun _ _ _ _ => False
  | .inr x => fun X q st t => (X = gXN x.1 ∧ q = x.2.1 ∧ gC E x.2.2 t.heap) ∧ va_F (gx_C E) st t
def gMetX (E : gX) (l : Launch) (y : MethodName) (b : ByteArray) (L : Nat) (ret : Option FieldType) (lev : Nat) (As : List Value) (G : GH) (r : GX (Option Value)) : Prop :=
  vx_Met l y (ws_ y b L ret) (gRm lev (cBx G) (cBs G)) (va_Pc As (fun U => gEnv E U ∧ gC E G U.heap)) (gXQc E r) (gXXC E r) (cBx G) (cBs G) (gx_C E)
section CX
variable {p : Program} {l : Launch} {e : Env} {R : Room} {s : State} {m : MethodId} {args : Array Value} {below : List Frame} {meth : Method} {c : Code} {H : Heap} {locs : List Loc} {cells slots : Nat} {Q : State → Prop}
variable {cc : ByteArray} {pc nL lev0 : Nat} {ls : Array Slot} {rest st : List Value} {own : String} {E : gX} {G G0 G1 : GH} {rv : Option Value} {g : JFrame}
/-- a body's end that throws, or goes on throwing -/
abbrev WX (E : gX) (p : Program) (l : Launch) (e : Env) (R : Room) (s : State) (m : MethodId) (args : Array Value) (below : List Frame) (meth : Method) (c : Code) (H : Heap) (locs : List Loc) (Q : State → Prop) (g : JFrame) (q : Addr) : Prop :=
  vx_W p l e R s m args below meth c H locs (H.size - s.heap.size) (gSl E H - gSl E s.heap) Q g q
theorem gx_sync {q : Addr} (hb : gx_b E ≤ s.heap.size) (kk : WX E p l e R s m args below meth c H locs Q g q) : vx_W p l e R s m args below meth c H locs cells slots Q g q := by
  intro T hT X
  refine kk T hT { X with same := ?_ }
  obtain ⟨h1, h2, h3, h4, h5, h6⟩ := X.same
  have hh : (T.setVm s.vm).heap = H := hT
  rw [hh] at h2
  have hk : ∀ (a : Nat) (c : Cell), s.heap[a]? = some c → ∃ c' : Cell, H[a]? = some c' ∧ c'.slots.size = c.slots.size := fun a c hc => by
    obtain ⟨c', x1, -, x3, -⟩ := h6 a c hc
    rw [hh] at x1
    exact ⟨c', x1, x3⟩
  refine ⟨h1, by rw [hh]; exact h2, by rw [hh]; omega, h4, ?_, h6⟩
  rw [hh]
  have := gSl_split hb h2 hk
  omega
abbrev gXMQ (E : gX) (below : List Frame) (r : GX (Option Value)) (args : Array Value) (s : State) (G0 : GH) : State → Prop := vx_MQ below (gXQc E r) (gXXC E r) args s (cBx G0) (cBs G0) (gx_C E)
set_option maxHeartbeats 1000000 in
theorem gMetX.of {y : MethodName} {b : ByteArray} {L : Nat} {ret : Option FieldType} {lev : Nat} {As : List Value} {r : GX (Option Value)} (hy : plainName y.cls = true) (hL : (lg_sl As).length ≤ L) (hown : y.cls = own)
    (body : ∀ (p : Program) (e : Env) (s : State) (m : MethodId) (args : Array Value) (below : List Frame) (meth : Method) (c : Code), CallFix p m c b L s args lw_all own → meth.sig.returnType = ret → meth.locks = false → (∀ x ∈ c.exceptionTable.toList, False) → gEnv E s → gC E G s.heap → gC E G s.heap → va_S (gx_C E) s.heap s.heap [] →
      ∀ ls : Array Slot, lv_has ls L (lv_args 0 As) → WC E p l e (gRm lev (cBx G) (cBs G)) s m args below meth c s.heap [] (gXMQ E below r args s G) (F0 m 0 ls [])) : gMetX E l y b L ret lev As G r := by
  refine vx_ofW (cc := b) (maxL := L) (ret := ret) hy rfl ?_
  intro p e s m args below meth c s₁ B hml hx hv
  obtain ⟨rfl, hE, hP⟩ := hv
  have hts := atoms_spec (ws := ws_ y b L ret) B.pre
  have hts : ∀ w ∈ lw_all, w.before _ s = true := fun w h => hts w (List.mem_cons_of_mem _ h)
  have ho : s.vm.findClass own = some m.cls := by rw [← hown]; exact findClass_of_methodNamed B.named
  have hl := lv_entry As (n := L) hL
  rw [lg_entry_eq]
  exact W.widen (Nat.zero_le _) (Nat.zero_le _) (body p e s m _ below meth c ⟨B.exec, B.bytes, hml, ho, hts⟩ B.returns B.notSynchronized hx hE hP hP va_S.rf _ hl)
/-- a plain end -/
theorem c_xret {r : GX (Option Value)} {v : Option Value} {G1 : GH} (hr : r = .inl (v, G1)) (k : WC E p l e R s m args below meth c H locs (MQ below (gQ v (gC E G1) (gx_C E)) args s (cBx G0) (cBs G0) (gx_C E)) g) : WC E p l e R s m args below meth c H locs (gXMQ E below r args s G0) g := by
  subst hr
  exact vx_ret k
/-- it leaves the method throwing -/
theorem c_xout {x : gXr} {r : GX (Option Value)} {ce : Cell} (hr : r = .inr x) (hx : ∀ x ∈ c.exceptionTable.toList, False) (hk : meth.locks = false) (hC0 : gC E G0 s.heap) (hG : gC E x.2.2 H) (hS : va_S (gx_C E) s.heap H locs) (hcell : H[x.2.1]? = some ce) (hv : ce.vm = .none) (hcl : s.vm.findClass (gXN x.1) = some ce.cls) : WX E p l e R s m args below meth c H locs (gXMQ E below r args s G0) (F0 m pc ls rest) x.2.1 := by
  subst hr
  intro T hT X
  have hsl := c_slots hC0.2.2.2.2.2 X hT
  exact vx_out (fun x h => absurd (hx x h) id) hk hcell hv hcl (fun t ht hW => ⟨⟨rfl, rfl, by rw [ht]; exact hG⟩, hS.F ht⟩) (fun q h => hS.2.2 q h) (by have := c_room hC0 hG hS; omega) (by have := c_roomS hC0 hG hsl; omega) T hT X
/-- behind a call that came back -/
theorem c_xback {a : Array Value} {st0 : List Value} (hC0 : gC E G0 s.heap) (hr : vx_Run p l e R s m args below meth c H locs (H.size - s.heap.size) (gSl E H - gSl E s.heap) (cBx G) (cBs G) (F0 m pc ls st0) rest (gXQc E (.inl (rv, G1)) a) (gXXC E (.inl (rv, G1))) (gx_C E)) (hS : va_S (gx_C E) s.heap H locs)
    (kk : ∀ (H1 : Heap) (locs1 : List Loc), gC E G1 H1 → va_S (gx_C E) s.heap H1 locs1 → WC E p l e R s m args below meth c H1 locs1 Q (F0 m (pc + 3) ls (rv.toList ++ rest))) : WC E p l e R s m args below meth c H locs Q (F0 m pc ls st0) := by
  intro T hT X
  rcases hr T hT X with ⟨v, st₀, t, T', L, h0, X', hL, e1, e2, ⟨⟨hv, hp⟩, hz, hk⟩, st⟩ | ⟨q, st₀, t, T', L, E9, ce, h0, X', hL, e1, e2, hx, -⟩
  · cases hv
    rw [h0] at hz hk
    obtain ⟨t2, a1, b1⟩ := g_sync hC0.2.2.2.2.2 (kk T'.heap (locs ++ L) (by rw [e1]; exact hp) ⟨Nat.le_trans hS.1 (by rw [e1]; exact hz), fun q h1 h2 => by rw [e1, hk q (Nat.lt_of_lt_of_le h1 hS.1) h2]; exact hS.2.1 q h1 h2, fun q hq => by
      rcases List.mem_append.mp hq with h | h
      · exact hS.2.2 q h
      · exact hL q h⟩) T' rfl X'
    exact ⟨t2, st t2 a1, b1⟩
  · exact hx.elim
/-- behind a call that threw -/
theorem c_xthrew {x : gXr} {a : Array Value} {st0 : List Value} (hC0 : gC E G0 s.heap) (hr : vx_Run p l e R s m args below meth c H locs (H.size - s.heap.size) (gSl E H - gSl E s.heap) (cBx G) (cBs G) (F0 m pc ls st0) rest (gXQc E (.inr x) a) (gXXC E (.inr x)) (gx_C E)) (hS : va_S (gx_C E) s.heap H locs)
    (kk : ∀ (H1 : Heap) (locs1 : List Loc) (ce : Cell), gC E x.2.2 H1 → va_S (gx_C E) s.heap H1 locs1 → H1[x.2.1]? = some ce → ce.vm = .none → s.vm.findClass (gXN x.1) = some ce.cls → WX E p l e R s m args below meth c H1 locs1 Q (F0 m pc ls rest) x.2.1) : WC E p l e R s m args below meth c H locs Q (F0 m pc ls st0) := by
  intro T hT X
  rcases hr T hT X with ⟨v, st₀, t, T', L, h0, X', hL, e1, e2, hx, -⟩ | ⟨q, st₀, t, T', L, E9, ce, h0, X', hL, e1, e2, ⟨⟨rfl, rfl, hp⟩, hz, hk⟩, hce, hcv, hcl, st⟩
  · exact hx.elim
  · rw [h0] at hz hk
    obtain ⟨t2, a1, b1⟩ := gx_sync hC0.2.2.2.2.2 (kk T'.heap (locs ++ L) ce (by rw [e1]; exact hp) ⟨Nat.le_trans hS.1 (by rw [e1]; exact hz), fun q h1 h2 => by rw [e1, hk q (Nat.lt_of_lt_of_le h1 hS.1) h2]; exact hS.2.1 q h1 h2, fun q hq => by
      rcases List.mem_append.mp hq with h | h
      · exact hS.2.2 q h
      · exact hL q h⟩ (by rw [e1]; exact hce) hcv hcl) T' rfl X'
    exact ⟨t2, st.trans a1, b1⟩
/-- calls: what they run to -/
theorem c_xV {b n index maxL lev : Nat} {C : String} {y : MethodName} {bytes : ByteArray} {ret : Option FieldType} {As : List Value} {r : GX (Option Value)} (hdg : decode cc pc = .ok (.invokevirtual index, 3)) (w1 : Cond.methodLink own index y ∈ lw_all) (w2 : Cond.instanceMethod y ∈ lw_all) (w3 : Cond.selects C y y ∈ lw_all) (w4 : Cond.initialized C ∈ lw_all) (w5 : Cond.code y bytes maxL ret ∈ lw_all)
    (hd : cHd y n) (hyC : y.cls = C) (S : CallFix p m c cc nL s args lw_all own) (hE : gEnv E s) (hG : gC E G H) (hS : va_S (gx_C E) s.heap H locs) (hC0 : gC E G0 s.heap) (hls : ls.size = nL) (hn : As.length = n) (hr : ∃ cell : Cell, H[b]? = some cell ∧ cell.vm.isStatics = false ∧ s.vm.findClass C = some cell.cls)
    (hM : gMetX E l y bytes maxL ret lev (.ref b :: As) G r) (hst : st = As.reverse ++ .ref b :: rest) (hW : (rest.map fun v => v.category).sum ≤ 8) (hroom : lev + 1 ≤ lev0 ∧ 8 + (maxL + 11) + 64 * lev ≤ 64 * lev0)
    (kk : vx_Run p l e (gRm lev0 (cBx G0) (cBs G0)) s m args below meth c H locs (H.size - s.heap.size) (gSl E H - gSl E s.heap) (cBx G) (cBs G) (F0 m pc ls st) rest (gXQc E r (Value.ref b :: As).toArray) (gXXC E r) (gx_C E) → WC E p l e (gRm lev0 (cBx G0) (cBs G0)) s m args below meth c H locs Q (F0 m pc ls st)) : WC E p l e (gRm lev0 (cBx G0) (cBs G0)) s m args below meth c H locs Q (F0 m pc ls st) := by
  subst hn
  refine c_know hC0.2.2.2.2.2 fun hsl => kk ?_
  exact vx_runV S hM (cwV As.length S.2.2.2.2 (lw_V w1 w2 w3 w4 w5) rfl rfl rfl ⟨hyC, hd⟩ hroom) ⟨gBlind, hr, (g_pre hE hG hS c_hb).2⟩ rfl rfl hls hst (lv_room hW) hdg (c_fit hC0 hG hS hsl)
theorem c_xS {n index maxL lev : Nat} {y : MethodName} {bytes : ByteArray} {ret : Option FieldType} {As : List Value} {r : GX (Option Value)} (hdg : decode cc pc = .ok (.invokestatic index, 3)) (w1 : Cond.methodLink own index y ∈ lw_all) (w2 : Cond.static y ∈ lw_all) (w4 : Cond.initialized y.cls ∈ lw_all) (w5 : Cond.code y bytes maxL ret ∈ lw_all)
    (hd : cHd y n) (S : CallFix p m c cc nL s args lw_all own) (hE : gEnv E s) (hG : gC E G H) (hS : va_S (gx_C E) s.heap H locs) (hC0 : gC E G0 s.heap) (hls : ls.size = nL) (hn : As.length = n)
    (hM : gMetX E l y bytes maxL ret lev As G r) (hst : st = As.reverse ++ rest) (hW : (rest.map fun v => v.category).sum ≤ 8) (hroom : lev + 1 ≤ lev0 ∧ 8 + (maxL + 11) + 64 * lev ≤ 64 * lev0)
    (kk : vx_Run p l e (gRm lev0 (cBx G0) (cBs G0)) s m args below meth c H locs (H.size - s.heap.size) (gSl E H - gSl E s.heap) (cBx G) (cBs G) (F0 m pc ls st) rest (gXQc E r As.toArray) (gXXC E r) (gx_C E) → WC E p l e (gRm lev0 (cBx G0) (cBs G0)) s m args below meth c H locs Q (F0 m pc ls st)) : WC E p l e (gRm lev0 (cBx G0) (cBs G0)) s m args below meth c H locs Q (F0 m pc ls st) := by
  subst hn
  refine c_know hC0.2.2.2.2.2 fun hsl => kk ?_
  exact vx_runS S hM (va_cwS As.length S.2.2.2.2 (lw_S w1 w2 w4 w5) rfl rfl rfl hd hroom) (g_pre hE hG hS c_hb) rfl rfl hls hst (lv_room hW) hdg (c_fit hC0 hG hS hsl)
end CX
