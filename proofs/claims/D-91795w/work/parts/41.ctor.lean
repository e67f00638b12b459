/-! 'new X(); X.<init>()' for a throwable X without a message, in a launch without stack traces -/
/-- the words that a plain throwable's constructor asks, beside Throwable's own -/
def jx_ctorW (own : String) (ic : Nat) (X : String) : List Cond :=
  [.methodLink own ic (Bundle.init0 X), .instantiable X 6, .selects X Bundle.tFill0 Bundle.tFill0, .selects X Bundle.tFill Bundle.tFill,
   .lays X Bundle.tN "cause" "Ljava/lang/Throwable;", .lays X Bundle.tN "stackTrace" Bundle.steD, .lays X Bundle.tN "suppressedExceptions" Bundle.listD, .lays X Bundle.tN "detailMessage" "Ljava/lang/String;",
   .fieldLink Bundle.tN 198 Bundle.tN "backtrace" "Ljava/lang/Object;", .lays Bundle.tN Bundle.tN "backtrace" "Ljava/lang/Object;", .lays X Bundle.tN "backtrace" "Ljava/lang/Object;"]
set_option maxHeartbeats 4000000 in
theorem jx_ctorAt {p : Program} {l : Launch} {e : Env} {R : Room} {s : State} {m₀ : MethodId} {args : Array Value} {below : List Frame} {meth : Method} {c : Code} {W : State} {locs : List Loc} {cells slots : Nat} (X : Stand p l e R s m₀ args below meth c W locs cells slots) (hexec : p.tables.exec = Jvm.exec) (htr : e.platform.stackTraces = false) {own cls : String} {names : List String} {ic : Nat}
    (hown : s.vm.findClass own = some m₀.cls) (hcls : Bundle.fit cls = true) (hnames : ∀ n ∈ names, Bundle.fit n = true)
    (h1 : ∀ a ∈ Bundle.throwableAtoms, a.before args s = true) (h2 : ∀ a ∈ Bundle.chain0Atoms cls names, a.before args s = true) (h3 : ∀ a ∈ jx_ctorW own ic cls, a.before args s = true)
    {A : Nat → Prop} (hU : va_Zq Bundle.tN "UNASSIGNED_STACK" Bundle.steD A s s.heap) (hSen : va_Zq Bundle.tN "SUPPRESSED_SENTINEL" Bundle.listD A s s.heap) (hW0 : ∀ q : Nat, q < s.heap.size → ¬ A q → W.heap[q]? = s.heap[q]?)
    {a : Addr} {cX : ClassId} {kX : Class} (hfoundX : s.vm.findClass cls = some cX) (hkX : s.vm.classes[cX]? = some kX) (hcell : W.heap[a]? = some (freshCell cX kX)) (hnew : s.heap.size ≤ a)
    {g : JFrame} (hg : g.method = m₀) (hsize : g.locals.size = c.maxLocals) {rest : List Value} (hstack : g.stack = .ref a :: .ref a :: rest)
    (hd6 : decode c.code g.pc = .ok (.invokespecial ic, 3))
    (hRframes : names.length + 3 < R.frames) (hRlocals : 2 * g.monitorRoom + ((Value.ref a :: rest).map fun v => v.category).sum + (13 * (names.length + 1) + 41) ≤ R.locals) :
    ∃ U : State, Stand p l e R s m₀ args below meth c U locs cells slots ∧ U.heap.size = W.heap.size ∧ (∀ q : Nat, q ≠ a → U.heap[q]? = W.heap[q]?) ∧ (∃ ce : Cell, U.heap[a]? = some ce ∧ ce.cls = cX ∧ ce.vm.isStatics = false) ∧
      ∀ target, Steps p.tables e below (U.setTop { g with pc := g.pc + 3, stack := .ref a :: rest }) target → Steps p.tables e below (W.setTop g) target := by
  have howns : e.platform.frameOwnsMonitors = true := by rw [X.admits.platform]
  have hfin : e.platform.finalization = false := by rw [X.admits.platform]
  have hpl : e.platform.magicAccessors = ({} : Platform).magicAccessors := by rw [X.admits.platform]
  have a' : ∀ x, x ∈ jx_ctorW own ic cls → x.holds args s none s [] = true := fun x hx => h3 x hx
  obtain ⟨T, Z, L, LZ, Y⟩ := ThrowableC.of_atoms (args := args) howns hfin hpl h1
  obtain ⟨P1, Ps, hlen, L1, hL, hP1m, hlink1, hlink⟩ := Bundle.chain0 (args := args) hpl Y.init0 names cls hcls hnames h2
  have hfound : s.vm.findClass cls = some P1.m.cls := findClass_of_methodNamed hP1m
  cases Option.some.inj (hfoundX.symm.trans hfound)
  obtain ⟨c1, kX', hc1, hk, hord, -, -, hn6⟩ := Cond.instantiable_spec (a' (.instantiable cls 6) (by simp [jx_ctorW]))
  cases Option.some.inj (hc1.symm.trans hfound)
  cases Option.some.inj (hkX.symm.trans hk)
  have hsel0 : selectMethod e.platform s.vm P1.m.cls T.fill0 = .method T.fill0 := by
    obtain ⟨c2, r2, m2, q1, q2, q3, q4, -⟩ := Cond.selects_spec (a' (.selects cls Bundle.tFill0 Bundle.tFill0) (by simp [jx_ctorW]))
    cases Option.some.inj (q1.symm.trans hfound)
    cases Option.some.inj (q2.symm.trans (State.methodFound?_of_named Y.fill0 (by decide)))
    cases Option.some.inj (q3.symm.trans Y.fill0)
    rw [Launch.admits_selectMethod X.admits]; exact q4
  have hselF : selectMethod e.platform s.vm P1.m.cls T.fill = .method T.fill := by
    obtain ⟨c2, r2, m2, q1, q2, q3, q4, -⟩ := Cond.selects_spec (a' (.selects cls Bundle.tFill Bundle.tFill) (by simp [jx_ctorW]))
    cases Option.some.inj (q1.symm.trans hfound)
    cases Option.some.inj (q2.symm.trans (State.methodFound?_of_named Y.fill (by decide)))
    cases Option.some.inj (q3.symm.trans Y.fill)
    rw [Launch.admits_selectMethod X.admits]; exact q4
  have key : ∀ {n : String} {d : String} {cf : ClassId} {kf : Class} {i : Nat} {f : Field}, va_Zq Bundle.tN n d A s s.heap → s.fieldFound? Bundle.tN n d = some (cf, kf, i, f) → kf.statics = some T.aS → ∃ (u : RefV) (cell : Cell), W.heap[T.aS]? = some cell ∧ cell.vm ≠ .unknown ∧ cell.slots[f.slot]? = some u.v ∧ T.aS < s.heap.size := by
    intro n d cf kf i f hz hf hs
    rcases hz with ⟨cf', kf', fi', f', aa, cell, z1, z2, z3, z4, z5, z6, z7, z8⟩ | ⟨t, cf', kf', fi', f', aa, cell, z1, z2, z3, z4, z5, z6, z7, z8⟩
    · cases z1.symm.trans hf
      cases z4.symm.trans hs
      have hlt := (Array.getElem?_eq_some_iff.mp z5).1
      exact ⟨⟨.null, rfl⟩, cell, by rw [hW0 _ hlt z8]; exact z5, (fun hu => by rw [hu] at z6; cases z6), z7, hlt⟩
    · cases z1.symm.trans hf
      cases z4.symm.trans hs
      have hlt := (Array.getElem?_eq_some_iff.mp z5).1
      exact ⟨⟨.ref t, rfl⟩, cell, by rw [hW0 _ hlt z8]; exact z5, (fun hu => by rw [hu] at z6; cases z6), z7, hlt⟩
  obtain ⟨u0, cellS, hcellS, hknownS, hu0, hltS⟩ := key hU Y.unassigned L.statics
  obtain ⟨sen, cellS', hcellS', -, hsen, -⟩ := key hSen Y.sentinel L.statics
  cases Option.some.inj (hcellS.symm.trans hcellS')
  obtain ⟨ci198, i198, fB, hk198, hg198, ha198, hsB, -, hnB, htB, hffB⟩ := Cond.ownField (t := .object "java/lang/Object") Y.found L.cls (by decide +kernel) (a' (.fieldLink Bundle.tN 198 Bundle.tN "backtrace" "Ljava/lang/Object;") (by simp [jx_ctorW])) (a' (.lays Bundle.tN Bundle.tN "backtrace" "Ljava/lang/Object;") (by simp [jx_ctorW])) e.platform hpl
  have hneS : T.aS ≠ a := Nat.ne_of_lt (Nat.lt_of_lt_of_le hltS hnew)
  obtain ⟨tyC, dC, hdC, hdnC⟩ := Cond.laysAt hfound hk Y.cause (a' (.lays cls Bundle.tN "cause" "Ljava/lang/Throwable;") (by simp [jx_ctorW]))
  obtain ⟨tyS, dS, hdS, hdnS⟩ := Cond.laysAt hfound hk Y.stack (a' (.lays cls Bundle.tN "stackTrace" Bundle.steD) (by simp [jx_ctorW]))
  obtain ⟨tyP, dP, hdP, hdnP⟩ := Cond.laysAt hfound hk Y.supp (a' (.lays cls Bundle.tN "suppressedExceptions" Bundle.listD) (by simp [jx_ctorW]))
  obtain ⟨tyB, dB, hdB, hdnB⟩ := Cond.laysAt hfound hk hffB (a' (.lays cls Bundle.tN "backtrace" "Ljava/lang/Object;") (by simp [jx_ctorW]))
  have bC := Cond.laysApart hdB hdC hdnB hdnC (by rw [hnB, Y.causeName]; decide)
  have bS := Cond.laysApart hdB hdS hdnB hdnS (by rw [hnB, Y.stackName]; decide)
  have bP := Cond.laysApart hdB hdP hdnB hdnP (by rw [hnB, Y.suppName]; decide)
  have hskip : SkipFacts T e.platform s (fun u => u) u0 ((preparedCellV T.toThrowableT (freshCell P1.m.cls kX) a u0 sen).withEntry W.cur) :=
    ⟨{ ci198 := ci198, i198 := i198, fBack := fB }, ⟨hk198, hg198, ha198, hsB⟩, by
      have := fresh_default (c := P1.m.cls) tyB
      rw [htB] at this
      simpa [preparedCellV, Cell.setSlot, Cell.withEntry, Array.getElem?_setIfInBounds, bC, bS, bP, bC.symm, bS.symm, bP.symm, defaultValue] using this, fun _ _ => rfl⟩
  obtain ⟨tm, methC, cdC, kC, vm₁, hnC, -, -, -, -, -, -, -, hW₁, st1⟩ := Steps.initCold (tb := p.tables) (e := e) (below := below) (s := s) (U := W) X.here hexec X.warmed hpl hown (t := Bundle.init0 cls) rfl rfl (Bundle.fit_spec hcls).2
    (a' (.methodLink own ic (Bundle.init0 cls)) (by simp [jx_ctorW])) (h2 (.instanceMethod (Bundle.init0 cls)) (by cases names <;> simp [Bundle.chain0Atoms, Bundle.passAtoms])) (bytes := Bundle.five) (maxL := 1) (h2 (.code (Bundle.init0 cls) Bundle.five 1 none) (by cases names <;> simp [Bundle.chain0Atoms, Bundle.passAtoms]))
    (f := g) hg (a := a) (rest := .ref a :: rest) hstack hd6
  cases Option.some.inj (hnC.symm.trans hP1m)
  have X₁ := X.noted hW₁
  obtain ⟨vm₂, X₂, st2⟩ := X₁.ctorPlainOffV hexec (g := { g with stack := .ref a :: rest }) hg hsize T L Z LZ (P1 :: Ps)
    (fun P hP => by rcases List.mem_cons.mp hP with rfl | hP; exact L1; exact hL P hP) ⟨hlink1, hlink⟩ (u0 := u0) (sen := sen) (self := a) (cell := freshCell P1.m.cls kX) (cellS := cellS)
    hcell (fun _ => by simp) (by simp) rfl rfl hsel0 hselF hcellS hneS hknownS hu0 hsen
    (Takes.of_laid hk hord tyC (by rw [Y.causeType]; rfl)) (Takes.of_laid hk hord tyS (by rw [Y.stackType]; exact fits_refV_array _ u0)) (Takes.of_laid hk hord tyP (by rw [Y.suppType]; exact fits_refV_object _ sen)) Y.objLocals hskip htr [] hd6
    (by simp only [List.length_cons, hlen]; omega) (by simp only [List.length_cons, hlen]; exact hRlocals)
  have hlt : a < ((W.setVm vm₁).setVm vm₂).heap.size := (Array.getElem?_eq_some_iff.mp hcell).1
  have hUa := heapAt_setCell_self (s := (W.setVm vm₁).setVm vm₂) ((preparedCellV T.toThrowableT (freshCell P1.m.cls kX) a u0 sen).setSlot T.fStack.slot u0.v) hlt
  refine ⟨_, X₂.forget (fun y hy => ?_), ?_, ?_, ⟨_, hUa, rfl, rfl⟩, fun target hst => st1 _ fun acts => ?_⟩
  · simp only [List.mem_cons, List.not_mem_nil, or_false] at hy
    rcases hy with rfl | rfl | rfl | rfl <;> exact hnew
  · simp [State.setCell]
  · intro q hq
    simp [State.setCell, Array.getElem?_setIfInBounds, Ne.symm hq]
  · have := st2 target hst
    rw [doInvoke_state] at this ⊢
    exact this
