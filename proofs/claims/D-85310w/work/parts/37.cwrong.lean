/-! EXCEPTIONS THAT ARE MADE: the JDK's by 'new E()', the own class Wrong by its constructor -/
set_option maxRecDepth 100000
/-- the words of a constructor's step into the JDK's chain of exceptions -/
def vx_supAtoms (own : String) (ic : Nat) (cls obj : String) (no : Nat) (names : List String) : List Cond :=
  Bundle.throwableAtoms ++ Bundle.chain0Atoms cls names ++
  [.methodLink own ic (Bundle.init0 cls), .instantiable obj no, .selects obj Bundle.tFill0 Bundle.tFill0, .selects obj Bundle.tFill Bundle.tFill,
   .lays obj Bundle.tN "cause" "Ljava/lang/Throwable;", .lays obj Bundle.tN "stackTrace" Bundle.steD, .lays obj Bundle.tN "suppressedExceptions" Bundle.listD, .lays obj Bundle.tN "detailMessage" "Ljava/lang/String;",
   .isRef (.static Bundle.tN "UNASSIGNED_STACK" Bundle.steD), .isRef (.static Bundle.tN "SUPPRESSED_SENTINEL" Bundle.listD),
   .fieldLink Bundle.tN 198 Bundle.tN "backtrace" "Ljava/lang/Object;", .lays Bundle.tN Bundle.tN "backtrace" "Ljava/lang/Object;", .lays obj Bundle.tN "backtrace" "Ljava/lang/Object;"]
section WR
variable {p : Program} {l : Launch} {e : Env} {R : Room} {s : State} {m₀ : MethodId} {args : Array Value} {below : List Frame} {meth : Method} {c : Code} {W : State} {locs : List Loc} {cells slots : Nat}
set_option maxHeartbeats 2000000 in
theorem vx_super0 (X : Stand p l e R s m₀ args below meth c W locs cells slots) (hexec : p.tables.exec = Jvm.exec) (htr : e.platform.stackTraces = false) {own cls obj : String} {names : List String} {ic no : Nat}
    (hown : s.vm.findClass own = some m₀.cls) (hcls : Bundle.fit cls = true) (hnames : ∀ n ∈ names, Bundle.fit n = true)
    (h : ∀ a ∈ vx_supAtoms own ic cls obj no names, a.before args s = true)
    (hlocs : ∀ x ∈ locs, ∀ cell, s.heap[x.base]? = some cell → cell.vm.isStatics = false)
    {a : Addr} {cX : ClassId} {kX : Class} {cell : Cell} (hfoundX : s.vm.findClass obj = some cX) (hkX : s.vm.classes[cX]? = some kX) (hcell : W.heap[a]? = some cell) (hccls : cell.cls = cX) (hcvm : cell.vm = .none) (hfree : cell.monitor.owner = none) (hcount : cell.monitor.count = 0)
    (hsz : cell.slots.size = kX.instanceTypes.size) (hback : ∀ c' k' i f, s.fieldFound? Bundle.tN "backtrace" "Ljava/lang/Object;" = some (c', k', i, f) → cell.slots[f.slot]? = some .null)
    {g : JFrame} (hg : g.method = m₀) (hsize : g.locals.size = c.maxLocals) {rest : List Value} (hstack : g.stack = .ref a :: rest)
    (hd6 : decode c.code g.pc = .ok (.invokespecial ic, 3))
    (hRframes : names.length + 3 < R.frames) (hRlocals : 2 * g.monitorRoom + (rest.map fun v => v.category).sum + (13 * (names.length + 1) + 41) ≤ R.locals) :
    ∃ (V : State) (ce : Cell) (L : List Loc), Stand p l e R s m₀ args below meth c (V.setCell a ce) (locs ++ L) cells slots ∧ (∀ y ∈ L, y.base = a) ∧ a < V.heap.size ∧ ce.cls = cX ∧ ce.vm = .none ∧ V.heap = W.heap ∧ ce.slots.size = cell.slots.size ∧
      (∀ (f : Field) (d : Class × Field), Jmm.declares? s.vm f.slot (cX + 1) cX = some d → d.2.name = f.name → f.name ≠ "cause" → f.name ≠ "stackTrace" → f.name ≠ "suppressedExceptions" → ce.slots[f.slot]? = cell.slots[f.slot]?) ∧
      ∀ target, Steps p.tables e below ((V.setCell a ce).setTop { g with stack := rest, pc := g.pc + 3 }) target → Steps p.tables e below (W.setTop g) target := by
  have howns : e.platform.frameOwnsMonitors = true := by rw [X.admits.platform]
  have hfin : e.platform.finalization = false := by rw [X.admits.platform]
  have hpl : e.platform.magicAccessors = ({} : Platform).magicAccessors := by rw [X.admits.platform]
  have a' : ∀ x, x ∈ vx_supAtoms own ic cls obj no names → x.holds args s none s [] = true := fun x hx => h x hx
  obtain ⟨T, Z, L, LZ, Y⟩ := ThrowableC.of_atoms (args := args) howns hfin hpl (fun x hx => h x (by simp [vx_supAtoms, hx]))
  obtain ⟨P1, Ps, hlen, L1, hL, hP1m, hlink1, hlink⟩ := Bundle.chain0 (args := args) hpl Y.init0 names cls hcls hnames (fun x hx => h x (by simp [vx_supAtoms, hx]))
  obtain ⟨c1, kX', hc1, hk, hord, -, -, hn6⟩ := Cond.instantiable_spec (a' (.instantiable obj no) (by simp [vx_supAtoms]))
  cases Option.some.inj (hc1.symm.trans hfoundX)
  cases Option.some.inj (hkX.symm.trans hk)
  have hsel0 : selectMethod e.platform s.vm cX T.fill0 = .method T.fill0 := by
    obtain ⟨c2, r2, m2, q1, q2, q3, q4, -⟩ := Cond.selects_spec (a' (.selects obj Bundle.tFill0 Bundle.tFill0) (by simp [vx_supAtoms]))
    cases Option.some.inj (q1.symm.trans hfoundX)
    cases Option.some.inj (q2.symm.trans (State.methodFound?_of_named Y.fill0 (by decide)))
    cases Option.some.inj (q3.symm.trans Y.fill0)
    rw [Launch.admits_selectMethod X.admits]; exact q4
  have hselF : selectMethod e.platform s.vm cX T.fill = .method T.fill := by
    obtain ⟨c2, r2, m2, q1, q2, q3, q4, -⟩ := Cond.selects_spec (a' (.selects obj Bundle.tFill Bundle.tFill) (by simp [vx_supAtoms]))
    cases Option.some.inj (q1.symm.trans hfoundX)
    cases Option.some.inj (q2.symm.trans (State.methodFound?_of_named Y.fill (by decide)))
    cases Option.some.inj (q3.symm.trans Y.fill)
    rw [Launch.admits_selectMethod X.admits]; exact q4
  obtain ⟨cellS0, hcS0, hiss⟩ := Y.statics
  obtain ⟨u0, hu0⟩ := Cond.staticRefV Y.unassigned L.unassignedStatic L.statics hcS0 hiss (a' (.isRef (.static Bundle.tN "UNASSIGNED_STACK" Bundle.steD)) (by simp [vx_supAtoms]))
  obtain ⟨sen, hsen⟩ := Cond.staticRefV Y.sentinel L.sentinelStatic L.statics hcS0 hiss (a' (.isRef (.static Bundle.tN "SUPPRESSED_SENTINEL" Bundle.listD)) (by simp [vx_supAtoms]))
  obtain ⟨ci198, i198, fB, hk198, hg198, ha198, hsB, -, hnB, htB, hffB⟩ := Cond.ownField (t := .object "java/lang/Object") Y.found L.cls (by decide +kernel) (a' (.fieldLink Bundle.tN 198 Bundle.tN "backtrace" "Ljava/lang/Object;") (by simp [vx_supAtoms])) (a' (.lays Bundle.tN Bundle.tN "backtrace" "Ljava/lang/Object;") (by simp [vx_supAtoms])) e.platform hpl
  obtain ⟨cellS, hcS', heS, -, hkeep⟩ := X.same.2.2.2.2.2 T.aS cellS0 hcS0
  have hcellS : W.heap[T.aS]? = some cellS := hcS'
  have hout' : ∀ i, (⟨T.aS, i⟩ : Loc) ∉ locs := fun i hmem => by
    have := hlocs _ hmem cellS0 hcS0
    rw [hiss] at this; cases this
  have hknownS : cellS.vm ≠ .unknown := by
    rw [heS]; intro hu
    rw [show cellS0.vm = .unknown from hu] at hiss
    cases hiss
  have hneS : T.aS ≠ a := fun e9 => by
    rw [e9, hcell] at hcellS
    cases hcellS
    have heS' : cell.vm = cellS0.vm := by rw [heS]
    rw [← heS', hcvm] at hiss
    cases hiss
  obtain ⟨tyC, dC, hdC, hdnC⟩ := Cond.laysAt hfoundX hk Y.cause (a' (.lays obj Bundle.tN "cause" "Ljava/lang/Throwable;") (by simp [vx_supAtoms]))
  obtain ⟨tyS, dS, hdS, hdnS⟩ := Cond.laysAt hfoundX hk Y.stack (a' (.lays obj Bundle.tN "stackTrace" Bundle.steD) (by simp [vx_supAtoms]))
  obtain ⟨tyP, dP, hdP, hdnP⟩ := Cond.laysAt hfoundX hk Y.supp (a' (.lays obj Bundle.tN "suppressedExceptions" Bundle.listD) (by simp [vx_supAtoms]))
  obtain ⟨tyB, dB, hdB, hdnB⟩ := Cond.laysAt hfoundX hk hffB (a' (.lays obj Bundle.tN "backtrace" "Ljava/lang/Object;") (by simp [vx_supAtoms]))
  have bC := Cond.laysApart hdB hdC hdnB hdnC (by rw [hnB, Y.causeName]; decide)
  have bS := Cond.laysApart hdB hdS hdnB hdnS (by rw [hnB, Y.stackName]; decide)
  have bP := Cond.laysApart hdB hdP hdnB hdnP (by rw [hnB, Y.suppName]; decide)
  have hskip : SkipFacts T e.platform s (fun u => u) u0 ((preparedCellV T.toThrowableT cell a u0 sen).withEntry W.cur) :=
    ⟨{ ci198 := ci198, i198 := i198, fBack := fB }, ⟨hk198, hg198, ha198, hsB⟩, by
      have := hback _ _ _ _ hffB
      simpa [preparedCellV, Cell.setSlot, Cell.withEntry, Array.getElem?_setIfInBounds, bC, bS, bP, bC.symm, bS.symm, bP.symm] using this, fun _ _ => rfl⟩
  have tk : ∀ (f : Field) (v : Value), Takes s (freshCell cX kX) f v → Takes s cell f v := fun f v h9 => ⟨by have := h9.1; simp [freshCell] at this; rw [hsz]; exact this, by rw [hccls, hcvm]; exact h9.2⟩
  obtain ⟨tm, methC, cdC, kC, vm₁, hnC, -, -, -, -, -, -, -, hW₁, st1⟩ := Steps.initCold (tb := p.tables) (e := e) (below := below) (s := s) (U := W) X.here hexec X.warmed hpl hown (t := Bundle.init0 cls) rfl rfl (Bundle.fit_spec hcls).2
    (a' (.methodLink own ic (Bundle.init0 cls)) (by simp [vx_supAtoms])) (h (.instanceMethod (Bundle.init0 cls)) (by cases names <;> simp [vx_supAtoms, Bundle.chain0Atoms, Bundle.passAtoms])) (bytes := Bundle.five) (maxL := 1) (h (.code (Bundle.init0 cls) Bundle.five 1 none) (by cases names <;> simp [vx_supAtoms, Bundle.chain0Atoms, Bundle.passAtoms]))
    (f := g) hg (a := a) (rest := rest) hstack hd6
  cases Option.some.inj (hnC.symm.trans hP1m)
  have X₁ := X.noted hW₁
  obtain ⟨vm₂, X₂, st2⟩ := X₁.ctorPlainOffV hexec (g := { g with stack := rest }) hg hsize T L Z LZ (P1 :: Ps)
    (fun P hP => by rcases List.mem_cons.mp hP with rfl | hP; exact L1; exact hL P hP) ⟨hlink1, hlink⟩ (u0 := u0) (sen := sen) (self := a) (cell := cell) (cellS := cellS)
    hcell (fun _ => by rw [hcvm]; simp) (by rw [hcvm]; simp) hfree hcount (by rw [hccls]; exact hsel0) (by rw [hccls]; exact hselF) hcellS hneS hknownS (by rw [hkeep _ (hout' _)]; exact hu0) (by rw [hkeep _ (hout' _)]; exact hsen)
    (tk _ _ (Takes.of_laid hk hord tyC (by rw [Y.causeType]; rfl))) (tk _ _ (Takes.of_laid hk hord tyS (by rw [Y.stackType]; exact fits_refV_array _ u0))) (tk _ _ (Takes.of_laid hk hord tyP (by rw [Y.suppType]; exact fits_refV_object _ sen))) Y.objLocals hskip htr [] hd6
    (by simp only [List.length_cons, hlen]; omega) (by simp only [List.length_cons, hlen]; exact hRlocals)
  have hlt : a < ((W.setVm vm₁).setVm vm₂).heap.size := (Array.getElem?_eq_some_iff.mp hcell).1
  refine ⟨(W.setVm vm₁).setVm vm₂, _, _, X₂, fun y hy => ?_, hlt, hccls, hcvm, rfl, (by simp [preparedCellV, Cell.setSlot]), fun f d hd hdn n1 n2 n3 => ?_, fun target hwalk => st1 _ (fun acts => ?_)⟩
  · simp only [List.mem_cons, List.not_mem_nil, or_false] at hy
    rcases hy with rfl | rfl | rfl | rfl <;> rfl
  · have fC := Cond.laysApart hd hdC hdn hdnC (by rw [Y.causeName]; exact n1)
    have fS := Cond.laysApart hd hdS hdn hdnS (by rw [Y.stackName]; exact n2)
    have fP := Cond.laysApart hd hdP hdn hdnP (by rw [Y.suppName]; exact n3)
    simp [preparedCellV, Cell.setSlot, Array.getElem?_setIfInBounds, fC, fS, fP, fC.symm, fS.symm, fP.symm]
  · rw [doInvoke_state]
    exact st2 _ hwalk
end WR
section WT
variable {p : Program} {l : Launch} {e : Env} {R : Room} {s : State} {m : MethodId} {args : Array Value} {below : List Frame} {meth : Method} {c : Code} {H : Heap} {locs : List Loc} {cells slots : Nat} {Q : State → Prop}
variable {cc : ByteArray} {pc nL lev0 : Nat} {ls : Array Slot} {rest st : List Value} {own : String} {E : gX} {G G0 G1 : GH} {rv : Option Value} {g : JFrame}
theorem g_nwb (hE : gEnv E s) {w : Cond} (hw : w ∈ gNwL) : w.before args s = true := by
  have hk := (List.mem_filter.mp hw).2
  have h := hE.nw hw
  cases w <;> first | exact va_Nw.use rfl h | (exact absurd hk (by decide)) | (simp [gNwK] at hk)
/-- a cell that no tag tells of -/
theorem c_mk0 {cell : Cell} (hG : gC E G H) (ho : cX G < cK G 1 ∨ cK G 1 + 59 ≤ cX G) (hsl : cell.slots.size = 6) (hx : 1 ≤ cBx G) (hs : 6 ≤ cBs G) : gC E (cMk G 0 0 6) (H.push cell) := by
  refine c_mk hG hsl hx hs ?_
  have eT : cT (cMk G 0 0 6) H.size = 0 := by simp [cMk, cT, hG.2.1]
  refine ⟨fun ci r h _ _ => by rw [eT] at h; omega, fun x hx => ?_, fun _ _ => c_newX hG ho, by rw [Array.size_push]; omega, fun h9 => absurd h9 (by rw [eT]; omega)⟩
  unfold cArr at hx
  rw [eT] at hx
  cases hx
def cThrow {τ : Type} (G : GH) (k : Nat) : Option (GX τ) := if (cX G < cK G 1 ∨ cK G 1 + 59 ≤ cX G) ∧ 1 ≤ cBx G ∧ 6 ≤ cBs G then some (.inr (k, cX G, cMk G 0 0 6)) else none
set_option maxHeartbeats 1000000 in
theorem c_make0 {cls : String} {names : List String} {ik ic : Nat} (hl : l.stackTraces = false) (hcls : Bundle.fit cls = true) (hnames : ∀ n ∈ names, Bundle.fit n = true)
    (hk : Cond.classLink own ik cls ∈ lw_all) (hini : Cond.initialized cls ∈ lw_all) (hin : ∀ w ∈ (vx_at0 own ic cls names).filter goodWord, w ∈ lw_all) (hnw : ∀ w ∈ (vx_at0 own ic cls names).filter (fun w => !goodWord w), w ∈ gNwL)
    (hgood : ∀ w ∈ Cond.classLink own ik cls :: Cond.initialized cls :: vx_at0 own ic cls names, vx_ot w = true)
    (S : CallFix p m c cc nL s args lw_all own) (hE : gEnv E s) (hG : gC E G H) (hS : va_S (gx_C E) s.heap H locs) (hC0 : gC E G0 s.heap) (hsize : ls.size = nL)
    (d0 : decode cc pc = .ok (.new ik, 3)) (d3 : decode cc (pc + 3) = .ok (.dup, 1)) (d4 : decode cc (pc + 4) = .ok (.invokespecial ic, 3))
    (hfr : names.length + 3 < lev0) (hlo : (rest.map fun v => v.category).sum + (13 * (names.length + 1) + 42) ≤ 64 * lev0) (ho : cX G < cK G 1 ∨ cK G 1 + 59 ≤ cX G) (hbx : 1 ≤ cBx G) (hbs : 6 ≤ cBs G)
    (kk : ∀ (H1 : Heap) (ce : Cell), gC E (cMk G 0 0 6) H1 → va_S (gx_C E) s.heap H1 locs → H1[cX G]? = some ce → ce.vm = .none → s.vm.findClass cls = some ce.cls → WC E p l e (gRm lev0 (cBx G0) (cBs G0)) s m args below meth c H1 locs Q (F0 m (pc + 7) ls (.ref (cX G) :: rest))) : WC E p l e (gRm lev0 (cBx G0) (cBs G0)) s m args below meth c H locs Q (F0 m pc ls rest) := by
  have hb0 := hC0.2.2.2.2.2
  obtain ⟨hexec, hb, hml, hown, hts⟩ := S
  refine c_know hb0 fun hsl => ?_
  have hr1 := c_room hC0 hG hS
  have hr2 := c_roomS hC0 hG hsl
  have hat : ∀ w ∈ vx_at0 own ic cls names, w.before args s = true := vx_hat (B := gNwL) (fun w hw => hts _ (hin w hw)) hnw (fun w hw => g_nwb hE hw)
  have hU := hE.stat.2.2.2.2.2.1
  have hN := hE.stat.2.2.2.2.2.2
  have hqk : ∀ q : Nat, q < s.heap.size → ¬ gB E q → H[q]? = s.heap[q]? := fun q h1 h2 => hS.2.1 q h1 (fun h3 => h2 h3.1)
  intro T hT X
  subst hT
  have htr : e.platform.stackTraces = false := (show e.platform.stackTraces = l.stackTraces by rw [X.admits.platform]).trans hl
  have Y := vx_rebase X (R' := { frames := lev0, locals := 64 * lev0, cells := 1, slots := 6 }) (Nat.le_refl _) (Nat.le_refl _) (by show _ + 1 ≤ cBx G0; omega) (by show _ + 6 ≤ cBs G0; omega)
  obtain ⟨s', hA'⟩ : ∃ z, z = (T.setVm s.vm).setFrames (.invoking m args :: below) := ⟨_, rfl⟩
  rw [← hA'] at Y
  have hvm : s'.vm = s.vm := by rw [hA']; rfl
  have hhp : s'.heap = T.heap := by rw [hA']; rfl
  have hW0 : s.WarmedH s'.vm := by rw [hvm]; exact State.WarmedH.refl s
  have hat' : ∀ w ∈ vx_at0 own ic cls names, w.before args s' = true := fun w hw => vx_ot_at hW0 hvm.symm (hgood w (List.mem_cons_of_mem _ (List.mem_cons_of_mem _ hw))) (hat w hw)
  have hk' : (Cond.classLink own ik cls).before args s' = true := vx_ot_at hW0 hvm.symm (hgood _ List.mem_cons_self) (hts _ hk)
  have hini' : (Cond.initialized cls).before args s' = true := vx_ot_at hW0 hvm.symm (hgood _ (List.mem_cons_of_mem _ List.mem_cons_self)) (hts _ hini)
  have hU' : vx_Zq Bundle.tN "UNASSIGNED_STACK" Bundle.steD (gB E) s' s'.heap := by rw [hhp]; exact vx_Zq.moved hW0.alike (hU.kept hqk)
  have hN' : vx_Zq Bundle.tN "SUPPRESSED_SENTINEL" Bundle.listD (gB E) s' s'.heap := by rw [hhp]; exact vx_Zq.moved hW0.alike (hN.kept hqk)
  have h : ∀ w ∈ Bundle.ownAtoms0 own ic cls names, w.before args s' = true := vx_own hat' (vx_isRefq hU'.1) (vx_isRefq hN'.1) hU'.2.word hN'.2.word
  have hown' : s'.vm.findClass own = some m.cls := by rw [hvm]; exact hown
  have hins : (Cond.instantiable cls 6).before args s' = true := h _ (by simp [Bundle.ownAtoms0])
  obtain ⟨vm₁, cX9, kX, hfX, hkX, -, hn6, X₁, st1⟩ := Y.newCold hexec (own := own) (C := cls) (index := ik) (n := 6) hown' hk' hins hini'
    (g := F0 m pc ls rest) rfl (by rw [hb]; exact d0) (Nat.le_refl _) (Nat.le_refl _)
  generalize hT1 : (T.setVm vm₁).pushCell { cls := cX9, slots := kX.instanceTypes.map defaultValue, vm := .none } = T1 at X₁ st1
  have hcat : (Value.ref T.heap.size).category = 1 := rfl
  have hcellA : T1.heap[T.heap.size]? = some (freshCell cX9 kX) := by rw [← hT1]; exact State.heap_pushCell_size _ _
  have hT1h : T1.heap = T.heap.push { cls := cX9, slots := kX.instanceTypes.map defaultValue, vm := .none } := by rw [← hT1]; rfl
  have d3' : decode c.code (pc + 3) = .ok (.dup, 1) := by rw [hb]; exact d3
  obtain ⟨V, ce, L, Z, hL, hlt, hcl9, hvm9, hV9, hs9, st⟩ := vx_ctorMade0 X₁ hexec htr (own := own) (cls := cls) (names := names) (ic := ic) hown' hcls hnames h (fun x hx => nomatch hx) hfX hkX hcellA (by rw [hhp]; exact Nat.le_refl _)
    (g := { method := m, pc := pc + 4, locals := ls, stack := .ref T.heap.size :: .ref T.heap.size :: rest, locked := none }) rfl (hsize.trans hml.symm) (rest := rest) rfl
    (by rw [hb]; exact d4) hfr (by simp only [List.map_cons, List.sum_cons, hcat]; show _ ≤ 64 * lev0; omega)
  have Z0 := Stand.forget (locs := []) Z (fun y hy => by rw [hL y hy, hhp]; exact Nat.le_refl _)
  have eH : (V.setCell T.heap.size ce).heap = T.heap.push ce := by
    apply Array.ext_getElem?
    intro i
    by_cases hi : T.heap.size = i
    · subst hi
      rw [heapAt_setCell_self ce hlt]
      simp
    · rw [heapAt_setCell_ne ce hi, hV9, hT1h, Array.getElem?_push, Array.getElem?_push, if_neg (fun h => hi h.symm), if_neg (fun h => hi h.symm)]
  have hz := hG.2.1
  have X5 := vx_back9 X (by rw [hA'] at Y; exact Y) (by rw [hA'] at Z0; exact Z0)
  have X6 : Stand p l e (gRm lev0 (cBx G0) (cBs G0)) s m args below meth c (V.setCell T.heap.size ce) locs (T.heap.size - s.heap.size + 1) (gSl E T.heap - gSl E s.heap + 6) := { X5 with same := X5.same.mono (by omega) (by omega) }
  have hs6 : ce.slots.size = 6 := by rw [hs9]; simp [freshCell, hn6]
  obtain ⟨t, a1, b1⟩ := g_sync hb0 (kk (T.heap.push ce) ce (c_mk0 hG ho hs6 hbx hbs) hS.push (by rw [← hz]; simp) hvm9 (by rw [hcl9, ← hvm]; exact hfX)) _ eH X6
  refine ⟨t, st1 _ ?_, b1⟩
  show Steps p.tables e below (T1.setTop { method := m, pc := pc + 3, locals := ls, stack := .ref T.heap.size :: rest, locked := none }) _
  jvm_step X₁.here [X₁.here.top, hexec, d3', Value.category]
  rw [← hz] at a1
  exact st _ a1
/-- 'throw new E()' of a class of the JDK, that leaves the method -/
theorem c_throw0 {names : List String} {k ik ic : Nat} {τ : Type} {f : τ → Option Value} {r : GX τ} (hl : l.stackTraces = false) (hcls : Bundle.fit (gXN k) = true) (hnames : ∀ n ∈ names, Bundle.fit n = true)
    (hk : Cond.classLink own ik (gXN k) ∈ lw_all) (hini : Cond.initialized (gXN k) ∈ lw_all) (hin : ∀ w ∈ (vx_at0 own ic (gXN k) names).filter goodWord, w ∈ lw_all) (hnw : ∀ w ∈ (vx_at0 own ic (gXN k) names).filter (fun w => !goodWord w), w ∈ gNwL)
    (hgood : ∀ w ∈ Cond.classLink own ik (gXN k) :: Cond.initialized (gXN k) :: vx_at0 own ic (gXN k) names, vx_ot w = true)
    (S : CallFix p m c cc nL s args lw_all own) (hE : gEnv E s) (hG : gC E G H) (hS : va_S (gx_C E) s.heap H locs) (hC0 : gC E G0 s.heap) (hsize : ls.size = nL) (hx : ∀ x ∈ c.exceptionTable.toList, False) (hlk : meth.locks = false)
    (d0 : decode cc pc = .ok (.new ik, 3)) (d3 : decode cc (pc + 3) = .ok (.dup, 1)) (d4 : decode cc (pc + 4) = .ok (.invokespecial ic, 3)) (d7 : decode cc (pc + 7) = .ok (.athrow, 1))
    (hfr : names.length + 3 < lev0) (hlo : (rest.map fun v => v.category).sum + (13 * (names.length + 1) + 42) ≤ 64 * lev0) (hv : cThrow G k = some r) : WC E p l e (gRm lev0 (cBx G0) (cBs G0)) s m args below meth c H locs (gXMQ E below (gRs f r) args s G0) (F0 m pc ls rest) := by
  unfold cThrow at hv
  split at hv
  · next hh =>
    obtain ⟨ho, hbx, hbs⟩ := hh
    cases hv
    refine c_make0 hl hcls hnames hk hini hin hnw hgood S hE hG hS hC0 hsize d0 d3 d4 hfr hlo ho hbx hbs fun H1 ce hG1 hS1 hcell hvm hcl => ?_
    exact vx_athrow S.1 S.2.1 d7 (c_xout (x := (k, cX G, cMk G 0 0 6)) rfl hx hlk hC0 hG1 hS1 hcell hvm hcl)
  · cases hv

/-- a frame seen from a rebased start, seen from the first start again; cells of before were written -/
theorem vx_back9L {T U : State} {R' : Room} {L : List Loc} {k n : Nat} (X : Stand p l e R s m args below meth c T locs cells slots) (Y : Stand p l e R' ((T.setVm s.vm).setFrames (.invoking m args :: below)) m args below meth c T [] 0 0) (Z : Stand p l e R' ((T.setVm s.vm).setFrames (.invoking m args :: below)) m args below meth c U L k n) :
    Stand p l e R s m args below meth c U (locs ++ L) (cells + k) (slots + n) := by
  have hW0 : s.WarmedH ((T.setVm s.vm).setFrames (.invoking m args :: below)).vm := State.WarmedH.refl s
  refine { admits := X.admits, cas := X.cas, clock := X.clock, frames := X.frames, room := X.room, hears := X.hears, method := X.method, code := X.code, here := Z.here, tail := Z.tail, warmed := State.WarmedH.trans hW0 Z.warmed, limits := Z.limits.trans (Y.limits.symm.trans X.limits), bytes := Z.bytes.trans (Y.bytes.symm.trans X.bytes), same := ?_ }
  obtain ⟨e1, e2⟩ := Z.same
  rw [State.setFrames_setFrames] at e1
  have h2 : (T.setVm s.vm).sameButNew (U.setVm s.vm) L k n := ⟨e1, e2⟩
  exact X.same.trans h2
/-- an object of the own exception that no constructor has touched -/
def gFresh (E : gX) (q : Nat) (H : Heap) : Prop := ∃ cell : Cell, H[q]? = some cell ∧ cell.monitor.owner = none ∧ cell.monitor.count = 0 ∧ cell.vm = .none ∧ cell.cls = E.1.1 38 ∧ cell.slots.size = 8 ∧ cell.slots[E.1.2 11 4]? = some .null
/-- 'new Wrong' -/
theorem c_newW {q idx lev : Nat} (hdg : decode cc pc = .ok (.new idx, 3)) (w1 : Cond.classLink own idx RX4 ∈ lw_all) (w2 : Cond.instantiable RX4 8 ∈ lw_all) (w3 : Cond.initialized RX4 ∈ lw_all) (hinW : ∀ w ∈ wsXW0, w ∈ lw_all)
    (S : CallFix p m c cc nL s args lw_all own) (hE : gEnv E s) (hG : gC E G H) (hS : va_S (gx_C E) s.heap H locs) (hC0 : gC E G0 s.heap) (hv : cNew G 38 8 = some (q, G1))
    (kk : ∀ (H1 : Heap) (locs1 : List Loc), gC E G1 H1 → va_S (gx_C E) s.heap H1 locs1 → gFresh E q H1 → WC E p l e (gRm lev (cBx G0) (cBs G0)) s m args below meth c H1 locs1 Q (F0 m (pc + 3) ls (.ref q :: rest))) : WC E p l e (gRm lev (cBx G0) (cBs G0)) s m args below meth c H locs Q (F0 m pc ls rest) := by
  unfold cNew at hv
  split at hv
  · next hh =>
    obtain ⟨ho, hx, hs⟩ := hh
    cases hv
    have hb := hC0.2.2.2.2.2
    have hz := hG.2.1
    refine c_know hb fun hsl => ?_
    have hr1 := c_room hC0 hG hS
    have hr2 := c_roomS hC0 hG hsl
    refine W.newc S.1 S.2.1 S.2.2.2.1 (S.2.2.2.2 _ w1) (S.2.2.2.2 _ w2) (S.2.2.2.2 _ w3) rfl hdg (by show _ ≤ cBx G0; omega) (by show _ ≤ cBs G0; omega) fun cC kC f1 f2 f3 f4 => ?_
    have hc : gCl[38]? = some (RX4, TXW, 2) := rfl
    have hc11 : gCl[11]? = some (RX4, TX4, 8) := rfl
    have hKn := hE.K.1 38 _ hc
    have hKn11 := hE.K.1 11 _ hc11
    have hcC : cC = E.1.1 38 := Option.some.inj (f1.symm.trans hKn.2.1)
    have hcC11 : cC = E.1.1 11 := Option.some.inj (f1.symm.trans hKn11.2.1)
    subst hcC
    rw [hz]
    refine g_sync hb (kk _ _ (c_mk hG (by simp [f4]) hx hs ?_) hS.push ?_)
    · have eT : cT (cMk G (38 + 1) 0 8) H.size = 38 + 1 := by simp [cMk, cT, hz]
      refine ⟨fun cj r hj _ hr => ?_, fun x hx => ?_, fun _ _ => c_newX hG ho, by rw [Array.size_push]; omega, fun h9 => absurd h9 (by rw [eT]; omega)⟩
      · rw [eT] at hj
        have : 38 = cj := by omega
        subst this
        cases hr.symm.trans hc
        refine (u_born tyXW S.2.2.2.2 hinW hKn f2 (by rw [Array.getElem?_push_size]; rfl) tyXW_ok).to fun k hk => ?_
        show _ = cVal _ _ _ _
        unfold cVal
        rw [show gTy 38 = tyXW from rfl]
        have e1 : cI (cMk G (38 + 1) 0 8) H.size k = 0 := by simp [cMk, cI, hz]
        have e2 : cJ (cMk G (38 + 1) 0 8) H.size k = 0 := by simp [cMk, cJ, hz]
        have e3 : cR (cMk G (38 + 1) 0 8) H.size k = none := by simp [cMk, cR, hz]
        rw [e1, e2, e3]
        exact cFv_dflt _
      · unfold cArr at hx
        rw [eT] at hx
        split at hx <;> first | omega | cases hx
    · obtain ⟨cell, b1, b2, b3, b4⟩ := u_born (H := H.push { cls := E.1.1 38, slots := kC.instanceTypes.map defaultValue, vm := .none }) (o := H.size) tyX4 S.2.2.2.2 in_X4 hKn11 (by rw [← hcC11]; exact f2) (by rw [Array.getElem?_push_size, hcC11]; rfl) tyX4_ok
      rw [Array.getElem?_push_size] at b1
      cases b1
      exact ⟨_, by rw [← hz]; exact Array.getElem?_push_size .., rfl, rfl, rfl, rfl, by simp [f4], b4 4 (by decide)⟩
  · cases hv
set_option maxHeartbeats 2000000 in
/-- the step into the JDK's chain -/
theorem c_superW {a : Nat} (hl : l.stackTraces = false) (hin : ∀ w ∈ ((vx_supAtoms RX4 1 "java/lang/Exception" RX4 8 []).filter vx_no).filter goodWord, w ∈ lw_all) (hnw : ∀ w ∈ ((vx_supAtoms RX4 1 "java/lang/Exception" RX4 8 []).filter vx_no).filter (fun w => !goodWord w), w ∈ gNwL)
    (hgood : ∀ w ∈ (vx_supAtoms RX4 1 "java/lang/Exception" RX4 8 []).filter vx_no, vx_ot w = true) (hinW : ∀ w ∈ wsXW0, w ∈ lw_all)
    (S : CallFix p m c cc nL s args lw_all RX4) (hE : gEnv E s) (hG : gC E G H) (hF : gFresh E a H) (ht : cT G a = 39) (hS : va_S (gx_C E) s.heap H locs) (hC0 : gC E G0 s.heap) (hsize : ls.size = nL)
    (d : decode cc pc = .ok (.invokespecial 1, 3)) (hfr : 3 < lev0) (hlo : (rest.map fun v => v.category).sum + 60 ≤ 64 * lev0)
    (kk : ∀ (H1 : Heap) (locs1 : List Loc), gC E G H1 → va_S (gx_C E) s.heap H1 locs1 → WC E p l e (gRm lev0 (cBx G0) (cBs G0)) s m args below meth c H1 locs1 Q (F0 m (pc + 3) ls rest)) : WC E p l e (gRm lev0 (cBx G0) (cBs G0)) s m args below meth c H locs Q (F0 m pc ls (.ref a :: rest)) := by
  have hb0 := hC0.2.2.2.2.2
  obtain ⟨hexec, hb, hml, hown, hts⟩ := S
  have hat : ∀ w ∈ (vx_supAtoms RX4 1 "java/lang/Exception" RX4 8 []).filter vx_no, w.before args s = true := vx_hat (B := gNwL) (fun w hw => hts _ (hin w hw)) hnw (fun w hw => g_nwb hE hw)
  have hU := hE.stat.2.2.2.2.2.1
  have hN := hE.stat.2.2.2.2.2.2
  have hqk : ∀ q : Nat, q < s.heap.size → ¬ gB E q → H[q]? = s.heap[q]? := fun q h1 h2 => hS.2.1 q h1 (fun h3 => h2 h3.1)
  obtain ⟨cell, f1, f2, f3, f4, f5, f6, f7⟩ := hF
  have hca := hG.1 a (by omega)
  have haC : gx_C E a := hca.2.2.1 (by omega) (by omega)
  have hKn := hE.K.1 38 (RX4, TXW, 2) rfl
  have hKn11 := hE.K.1 11 (RX4, TX4, 8) rfl
  intro T hT X
  subst hT
  have htr : e.platform.stackTraces = false := (show e.platform.stackTraces = l.stackTraces by rw [X.admits.platform]).trans hl
  have Y := vx_rebase X (R' := { frames := lev0, locals := 64 * lev0, cells := 0, slots := 0 }) (Nat.le_refl _) (Nat.le_refl _) (by have := X.room; show _ + 0 ≤ cBx G0; have := c_room hC0 hG hS; omega) (by have := c_roomS hC0 hG (c_slots hb0 X rfl); show _ + 0 ≤ cBs G0; omega)
  obtain ⟨s', hA'⟩ : ∃ z, z = (T.setVm s.vm).setFrames (.invoking m args :: below) := ⟨_, rfl⟩
  rw [← hA'] at Y
  have hvm : s'.vm = s.vm := by rw [hA']; rfl
  have hhp : s'.heap = T.heap := by rw [hA']; rfl
  have hW0 : s.WarmedH s'.vm := by rw [hvm]; exact State.WarmedH.refl s
  have hat' : ∀ w ∈ (vx_supAtoms RX4 1 "java/lang/Exception" RX4 8 []).filter vx_no, w.before args s' = true := fun w hw => vx_ot_at hW0 hvm.symm (hgood w hw) (hat w hw)
  have hU' : vx_Zq Bundle.tN "UNASSIGNED_STACK" Bundle.steD (gB E) s' s'.heap := by rw [hhp]; exact vx_Zq.moved hW0.alike (hU.kept hqk)
  have hN' : vx_Zq Bundle.tN "SUPPRESSED_SENTINEL" Bundle.listD (gB E) s' s'.heap := by rw [hhp]; exact vx_Zq.moved hW0.alike (hN.kept hqk)
  have h : ∀ w ∈ vx_supAtoms RX4 1 "java/lang/Exception" RX4 8 [], w.before args s' = true := vx_own hat' (vx_isRefq hU'.1) (vx_isRefq hN'.1) hU'.2.word hN'.2.word
  have hown' : s'.vm.findClass RX4 = some m.cls := by rw [hvm]; exact hown
  have hmc : m.cls = E.1.1 38 := Option.some.inj (hown.symm.trans hKn.2.1)
  obtain ⟨c1, kX, hc1, hk, -, -, -, hn8⟩ := Cond.instantiable_spec (show (Cond.instantiable RX4 8).holds args s' none s' [] = true from h _ (by simp [vx_supAtoms]))
  cases Option.some.inj (hc1.symm.trans hown')
  have hback : ∀ c' k' i f, s'.fieldFound? Bundle.tN "backtrace" "Ljava/lang/Object;" = some (c', k', i, f) → cell.slots[f.slot]? = some .null := by
    intro c' k' i f hf
    obtain ⟨cf, kf, fi, f', hi, hsl⟩ := hKn11.1 4 (by decide)
    have hf' : s.fieldFound? Bundle.tN "backtrace" "Ljava/lang/Object;" = some (c', k', i, f) := by
      have : s'.fieldFound? Bundle.tN "backtrace" "Ljava/lang/Object;" = s.fieldFound? Bundle.tN "backtrace" "Ljava/lang/Object;" := by simp only [State.fieldFound?, hvm]
      rw [← this]; exact hf
    cases Option.some.inj (hf'.symm.trans hi)
    rw [hsl]
    exact f7
  obtain ⟨V, ce, L, Z, hL, hlt, hcl9, hvm9, hV9, hs9, hkeep, st⟩ := vx_super0 Y hexec htr (own := RX4) (cls := "java/lang/Exception") (obj := RX4) (names := []) (ic := 1) (no := 8) hown' (by decide) (fun _ hn => nomatch hn) h (fun x hx => nomatch hx) hown' hk f1 (by rw [f5, hmc]) f4 f2 f3 (by rw [f6, hn8]) hback
    (g := F0 m pc ls (.ref a :: rest)) rfl (hsize.trans hml.symm) (rest := rest) rfl (by rw [hb]; exact d) hfr (by show 2 * 0 + _ + _ ≤ 64 * lev0; simp only [List.length_nil]; omega)
  have X5 := vx_back9L X (by rw [hA'] at Y; exact Y) (by rw [hA'] at Z; exact Z)
  have oq : ∀ q : Nat, q ≠ a → (V.setCell a ce).heap[q]? = T.heap[q]? := fun q hq => by rw [heapAt_setCell_ne ce (fun h => hq h.symm), hV9]
  have hh : (V.setCell a ce).heap[a]? = some ce := heapAt_setCell_self ce hlt
  have hzz : (V.setCell a ce).heap.size = T.heap.size := by rw [← hV9]; exact Array.size_setIfInBounds ..
  have hob : t_OB a (E.1.1 38) 2 (E.1.2 38) (V.setCell a ce).heap (cVal G a 38) := by
    obtain ⟨cell', q1, q2, q3, q4⟩ := hca.1 38 (RX4, TXW, 2) ht (by decide) rfl
    cases Option.some.inj (f1.symm.trans q1)
    refine ⟨ce, hh, by rw [hcl9, hmc], hvm9, fun k hk2 => ?_⟩
    rw [← q4 k hk2]
    obtain ⟨cf, kf, fi, f, hi, hsl⟩ := hKn.1 k hk2
    have hlay := hts _ (hinW _ (u_in_lay hk2))
    have hu : u_lay RX4 TXW k = .laysFinal RX4 (TXW k).1 (TXW k).2.1 (TXW k).2.2.1 := by
      rcases (show k = 0 ∨ k = 1 by omega) with rfl | rfl <;> rfl
    rw [hu] at hlay
    obtain ⟨c8, k8, c9, k9, i9, f9, g1, g2, g3, -, -, -, -, -, dd, g4, -, g5, -⟩ := Cond.laysFinal_spec (show (Cond.laysFinal RX4 (TXW k).1 (TXW k).2.1 (TXW k).2.2.1).holds args s none s [] = true from hlay)
    cases Option.some.inj (g1.symm.trans hown)
    cases Option.some.inj (g3.symm.trans hi)
    rw [← hsl]
    have hnm : f.name = (TXW k).2.1 := (State.fieldFound?_type hi (tyXW_ok k hk2)).1
    refine hkeep f dd (by rw [hvm]; exact g4) g5 ?_ ?_ ?_ <;> (rw [hnm]; rcases (show k = 0 ∨ k = 1 by omega) with rfl | rfl <;> decide)
  have hG1 : gC E G (V.setCell a ce).heap := by
    refine c_upd (a := a) hG rfl rfl rfl rfl rfl rfl (fun _ _ => ⟨rfl, rfl, rfl⟩) oq hzz (by rw [hh, f1]; simp [hs9]) ⟨fun ci r h1 h2 h3 => ?_, fun x hx => ?_, hca.2.2.1, by rw [hzz]; exact hca.2.2.2.1, fun h9 => absurd h9 (by omega)⟩
    · have : ci = 38 := by omega
      subst this
      cases h3
      exact hob
    · unfold cArr at hx
      rw [ht] at hx
      cases hx
  have hS1 : va_S (gx_C E) s.heap (V.setCell a ce).heap (locs ++ L) := ⟨by rw [hzz]; exact hS.1, fun q h1 h2 => by rw [oq q (fun e9 => h2 (by rw [e9]; exact haC))]; exact hS.2.1 q h1 h2, fun z hz => by
    rcases List.mem_append.mp hz with h | h
    · exact hS.2.2 z h
    · rw [hL z h]; exact haC⟩
  obtain ⟨t, a1, b1⟩ := g_sync hb0 (kk _ (locs ++ L) hG1 hS1) _ rfl X5
  exact ⟨t, st _ a1, b1⟩
/-- 'new Wrong(..)': its constructor's call -/
theorem c_cIW {b index maxL lev : Nat} {y : MethodName} {bytes : ByteArray} {As : List Value} {n : Nat} (hdg : decode cc pc = .ok (.invokespecial index, 3)) (w1 : Cond.methodLink own index y ∈ lw_all) (w2 : Cond.instanceMethod y ∈ lw_all) (w4 : Cond.initialized y.cls ∈ lw_all) (w5 : Cond.code y bytes maxL none ∈ lw_all)
    (hd : cHd y n) (hy1 : y.name = "<init>") (S : CallFix p m c cc nL s args lw_all own) (hE : gEnv E s) (hG : gC E G H) (hF : gFresh E b H) (hS : va_S (gx_C E) s.heap H locs) (hC0 : gC E G0 s.heap) (hls : ls.size = nL) (hn : As.length = n)
    (hM : gMet E l y bytes maxL none lev (cBx G) (cBs G) (gx_C E) (.ref b :: As) (fun H => gC E G H ∧ gFresh E b H) (gC E G1) none) (hst : st = As.reverse ++ .ref b :: rest) (hW : (rest.map fun v => v.category).sum ≤ 8) (hroom : lev + 1 ≤ lev0 ∧ 8 + (maxL + 11) + 64 * lev ≤ 64 * lev0)
    (kk : ∀ (H1 : Heap) (locs1 : List Loc), gC E G1 H1 → va_S (gx_C E) s.heap H1 locs1 → WC E p l e (gRm lev0 (cBx G0) (cBs G0)) s m args below meth c H1 locs1 Q (F0 m (pc + 3) ls rest)) : WC E p l e (gRm lev0 (cBx G0) (cBs G0)) s m args below meth c H locs Q (F0 m pc ls st) := by
  subst hn
  refine c_know hC0.2.2.2.2.2 fun hsl => ?_
  exact c_back3 (rv := none) hC0 (va_runI S hM (cwI As.length S.2.2.2.2 (lw_meth w5) rfl rfl rfl (S.2.2.2.2 _ w4) (S.2.2.2.2 _ w1) (S.2.2.2.2 _ w2) hy1 hd hroom) (g_pre (P := fun H => gC E G H ∧ gFresh E b H) hE ⟨hG, hF⟩ hS c_hb) rfl rfl hls hst (lv_room hW) hdg (c_fit hC0 hG hS hsl)) hS kk
end WT
