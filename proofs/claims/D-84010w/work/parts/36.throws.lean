/-! ROWS 15: exceptions -/
set_option maxRecDepth 100000
/-- the words of an exception that is made and thrown -/
def thAtoms (own : String) (ic : Nat) (X : String) (names : List String) : List Cond :=
  Bundle.throwableAtoms ++ Bundle.chain0Atoms X names ++
  [.methodLink own ic (Bundle.init0 X), .instantiable X 6, .selects X Bundle.tFill0 Bundle.tFill0, .selects X Bundle.tFill Bundle.tFill,
   .lays X Bundle.tN "cause" "Ljava/lang/Throwable;", .lays X Bundle.tN "stackTrace" Bundle.steD, .lays X Bundle.tN "suppressedExceptions" Bundle.listD,
   .fieldLink Bundle.tN 198 Bundle.tN "backtrace" "Ljava/lang/Object;", .lays Bundle.tN Bundle.tN "backtrace" "Ljava/lang/Object;", .lays X Bundle.tN "backtrace" "Ljava/lang/Object;"]
section
variable {p : Program} {l : Launch} {e : Env} {R : Room} {s : State} {m₀ : MethodId} {args : Array Value} {below : List Frame} {meth : Method} {c : Code} {W0 : State} {locs : List Loc} {cells slots : Nat}
set_option maxHeartbeats 1000000 in
theorem throw0 (X : Stand p l e R s m₀ args below meth c W0 locs cells slots) (hexec : p.tables.exec = Jvm.exec) (htr : e.platform.stackTraces = false) {own cls : String} {names : List String} {ic : Nat}
    (hown : s.vm.findClass own = some m₀.cls) (hcls : Bundle.fit cls = true) (hnames : ∀ n ∈ names, Bundle.fit n = true) (h : ∀ a ∈ thAtoms own ic cls names, a.before args s = true)
    {u0 sen : RefV} {A : Nat → Prop} (hU : va_Z Bundle.tN "UNASSIGNED_STACK" Bundle.steD u0.v A s W0.heap) (hS : va_Z Bundle.tN "SUPPRESSED_SENTINEL" Bundle.listD sen.v A s W0.heap)
    {a : Addr} (hAa : A a) {cX : ClassId} {kX : Class} (hfoundX : s.vm.findClass cls = some cX) (hkX : s.vm.classes[cX]? = some kX) (hcell : W0.heap[a]? = some (freshCell cX kX))
    {g : JFrame} (hg : g.method = m₀) (hsize : g.locals.size = c.maxLocals) (hlocked : g.locked = none) (hentered : g.entered = []) {rest : List Value} (hstack : g.stack = .ref a :: .ref a :: rest)
    (hd6 : decode c.code g.pc = .ok (.invokespecial ic, 3)) (hd9 : decode c.code (g.pc + 3) = .ok (.athrow, 1)) (hout : ∀ x ∈ c.exceptionTable.toList, covers x (g.pc + 3) = false)
    (hRframes : names.length + 3 < R.frames) (hRlocals : 2 * g.monitorRoom + ((Value.ref a :: rest).map fun v => v.category).sum + (13 * (names.length + 1) + 41) ≤ R.locals) (hlocks : meth.locks = false) :
    ∃ (U : State) (ce : Cell) (L : List Loc), Steps p.tables e below (W0.setTop g) U ∧ U.status = .running ∧ Ended U below (.threw a) ∧ s.WarmedH U.vm ∧ s.sameButNew ({ U with vm := s.vm } : State) (locs ++ L) cells slots ∧
      (∀ q ∈ L, q.base = a) ∧ U.heap = W0.heap.setIfInBounds a ce ∧ ce.vm = .none ∧ ce.cls = cX := by
  have howns : e.platform.frameOwnsMonitors = true := by rw [X.admits.platform]
  have hfin : e.platform.finalization = false := by rw [X.admits.platform]
  have hpl : e.platform.magicAccessors = ({} : Platform).magicAccessors := by rw [X.admits.platform]
  have a' : ∀ x, x ∈ thAtoms own ic cls names → x.holds args s none s [] = true := fun x hx => h x hx
  obtain ⟨T, Z, L, LZ, Y⟩ := ThrowableC.of_atoms (args := args) howns hfin hpl (fun x hx => h x (by simp [thAtoms, hx]))
  obtain ⟨P1, Ps, hlen, L1, hL, hP1m, hlink1, hlink⟩ := Bundle.chain0 (args := args) hpl Y.init0 names cls hcls hnames (fun x hx => h x (by simp [thAtoms, hx]))
  have hfound : s.vm.findClass cls = some P1.m.cls := findClass_of_methodNamed hP1m
  cases Option.some.inj (hfoundX.symm.trans hfound)
  obtain ⟨c1, kX', hc1, hk, hord, -, -, hn6⟩ := Cond.instantiable_spec (a' (.instantiable cls 6) (by simp [thAtoms]))
  cases Option.some.inj (hc1.symm.trans hfound)
  cases Option.some.inj (hkX.symm.trans hk)
  have hsel0 : selectMethod e.platform s.vm P1.m.cls T.fill0 = .method T.fill0 := by
    obtain ⟨c2, r2, m2, q1, q2, q3, q4, -⟩ := Cond.selects_spec (a' (.selects cls Bundle.tFill0 Bundle.tFill0) (by simp [thAtoms]))
    cases Option.some.inj (q1.symm.trans hfound)
    cases Option.some.inj (q2.symm.trans (State.methodFound?_of_named Y.fill0 (by decide)))
    cases Option.some.inj (q3.symm.trans Y.fill0)
    rw [Launch.admits_selectMethod X.admits]; exact q4
  have hselF : selectMethod e.platform s.vm P1.m.cls T.fill = .method T.fill := by
    obtain ⟨c2, r2, m2, q1, q2, q3, q4, -⟩ := Cond.selects_spec (a' (.selects cls Bundle.tFill Bundle.tFill) (by simp [thAtoms]))
    cases Option.some.inj (q1.symm.trans hfound)
    cases Option.some.inj (q2.symm.trans (State.methodFound?_of_named Y.fill (by decide)))
    cases Option.some.inj (q3.symm.trans Y.fill)
    rw [Launch.admits_selectMethod X.admits]; exact q4
  obtain ⟨cf, kf, fi, f, aS, cellS, z1, z2, z3, z4, z5, z6, z7, z8⟩ := hU
  obtain ⟨cf2, kf2, fi2, f2, aS2, cellS2, y1, y2, y3, y4, y5, y6, y7, y8⟩ := hS
  cases z1.symm.trans Y.unassigned
  cases y1.symm.trans Y.sentinel
  cases z4.symm.trans L.statics
  cases y4.symm.trans L.statics
  cases z5.symm.trans y5
  obtain ⟨ci198, i198, fB, hk198, hg198, ha198, hsB, -, hnB, htB, hffB⟩ := Cond.ownField (t := .object "java/lang/Object") Y.found L.cls (by decide +kernel) (a' (.fieldLink Bundle.tN 198 Bundle.tN "backtrace" "Ljava/lang/Object;") (by simp [thAtoms])) (a' (.lays Bundle.tN Bundle.tN "backtrace" "Ljava/lang/Object;") (by simp [thAtoms])) e.platform hpl
  have hknownS : cellS.vm ≠ .unknown := by
    intro hu
    rw [hu] at z6
    cases z6
  have hneS : T.aS ≠ a := fun q => z8 (by rw [q]; exact hAa)
  obtain ⟨tyC, dC, hdC, hdnC⟩ := Cond.laysAt hfound hk Y.cause (a' (.lays cls Bundle.tN "cause" "Ljava/lang/Throwable;") (by simp [thAtoms]))
  obtain ⟨tyS, dS, hdS, hdnS⟩ := Cond.laysAt hfound hk Y.stack (a' (.lays cls Bundle.tN "stackTrace" Bundle.steD) (by simp [thAtoms]))
  obtain ⟨tyP, dP, hdP, hdnP⟩ := Cond.laysAt hfound hk Y.supp (a' (.lays cls Bundle.tN "suppressedExceptions" Bundle.listD) (by simp [thAtoms]))
  obtain ⟨tyB, dB, hdB, hdnB⟩ := Cond.laysAt hfound hk hffB (a' (.lays cls Bundle.tN "backtrace" "Ljava/lang/Object;") (by simp [thAtoms]))
  have bC := Cond.laysApart hdB hdC hdnB hdnC (by rw [hnB, Y.causeName]; decide)
  have bS := Cond.laysApart hdB hdS hdnB hdnS (by rw [hnB, Y.stackName]; decide)
  have bP := Cond.laysApart hdB hdP hdnB hdnP (by rw [hnB, Y.suppName]; decide)
  have hskip : SkipFacts T e.platform s (fun u => u) u0 ((preparedCellV T.toThrowableT (freshCell P1.m.cls kX) a u0 sen).withEntry W0.cur) :=
    ⟨{ ci198 := ci198, i198 := i198, fBack := fB }, ⟨hk198, hg198, ha198, hsB⟩, by
      have := fresh_default (c := P1.m.cls) tyB
      rw [htB] at this
      simpa [preparedCellV, Cell.setSlot, Cell.withEntry, Array.getElem?_setIfInBounds, bC, bS, bP, bC.symm, bS.symm, bP.symm, defaultValue] using this, fun _ _ => rfl⟩
  obtain ⟨tm, methC, cdC, kC, vm₁, hnC, -, -, -, -, -, -, -, hW₁, st1⟩ := Steps.initCold (tb := p.tables) (e := e) (below := below) (s := s) (U := W0) X.here hexec X.warmed hpl hown (t := Bundle.init0 cls) rfl rfl (Bundle.fit_spec hcls).2
    (a' (.methodLink own ic (Bundle.init0 cls)) (by simp [thAtoms])) (h (.instanceMethod (Bundle.init0 cls)) (by cases names <;> simp [thAtoms, Bundle.chain0Atoms, Bundle.passAtoms])) (bytes := Bundle.five) (maxL := 1) (h (.code (Bundle.init0 cls) Bundle.five 1 none) (by cases names <;> simp [thAtoms, Bundle.chain0Atoms, Bundle.passAtoms]))
    (f := g) hg (a := a) (rest := .ref a :: rest) hstack hd6
  cases Option.some.inj (hnC.symm.trans hP1m)
  have X₁ := X.noted hW₁
  obtain ⟨vm₂, X₂, st2⟩ := X₁.ctorPlainOffV hexec (g := { g with stack := .ref a :: rest }) hg hsize T L Z LZ (P1 :: Ps)
    (fun P hP => by rcases List.mem_cons.mp hP with rfl | hP; exact L1; exact hL P hP) ⟨hlink1, hlink⟩ (u0 := u0) (sen := sen) (self := a) (cell := freshCell P1.m.cls kX) (cellS := cellS)
    hcell (fun _ => by simp) (by simp) rfl rfl hsel0 hselF z5 hneS hknownS z7 y7
    (Takes.of_laid hk hord tyC (by rw [Y.causeType]; rfl)) (Takes.of_laid hk hord tyS (by rw [Y.stackType]; exact fits_refV_array _ u0)) (Takes.of_laid hk hord tyP (by rw [Y.suppType]; exact fits_refV_object _ sen)) Y.objLocals hskip htr [] hd6
    (by simp only [List.length_cons, hlen]; omega) (by simp only [List.length_cons, hlen]; exact hRlocals)
  obtain ⟨hwalk, hrun, hended, hWU, hsame⟩ := X₂.athrowLeaves hexec (g := { g with stack := .ref a :: rest, pc := g.pc + 3 }) hg hlocked hentered hout (a := a) (rest := rest) rfl hd9
  refine ⟨_, (preparedCellV T.toThrowableT (freshCell P1.m.cls kX) a u0 sen).setSlot T.fStack.slot u0.v, _, ?_, hrun, hended, hWU, hsame, ?_, rfl, rfl, rfl⟩
  · exact st1 _ (fun acts => by rw [doInvoke_state]; exact st2 _ hwalk)
  · intro q hq
    simp only [List.mem_cons, List.not_mem_nil, or_false] at hq
    rcases hq with rfl | rfl | rfl | rfl <;> rfl
end
