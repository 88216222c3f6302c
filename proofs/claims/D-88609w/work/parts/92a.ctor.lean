set_option maxRecDepth 100000
/-! AN EXCEPTION's CONSTRUCTOR WITHOUT ARGUMENTS, called on a fresh object (of its class, or of a class below). -/
def exC (own : String) (ic : Nat) (Y : String) (names : List String) (X : String) (n : Nat) : List Cond :=
  Bundle.throwableAtoms ++ Bundle.chain0Atoms Y names ++
  [.methodLink own ic (Bundle.init0 Y), .instantiable X n, .selects X Bundle.tFill0 Bundle.tFill0, .selects X Bundle.tFill Bundle.tFill, .lays X Bundle.tN "cause" "Ljava/lang/Throwable;", .lays X Bundle.tN "stackTrace" Bundle.steD, .lays X Bundle.tN "suppressedExceptions" Bundle.listD, .fieldLink Bundle.tN 198 Bundle.tN "backtrace" "Ljava/lang/Object;", .lays Bundle.tN Bundle.tN "backtrace" "Ljava/lang/Object;", .lays X Bundle.tN "backtrace" "Ljava/lang/Object;"]
theorem ex_Z.ne {A : Nat → Prop} {s : State} {n d : String} {H : Heap} (h : va_Zq Bundle.tN n d A s H) {c k i f a} (hf : s.fieldFound? Bundle.tN n d = some (c, k, i, f)) (hk : k.statics = some a) : ¬ A a := by
  have hz : ∀ v, va_Z Bundle.tN n d v A s H → ¬ A a := by
    rintro v ⟨cf, kf, fi, f', a', cell, h1, -, -, h4, h5, h6, h7, h8⟩
    cases hf.symm.trans h1
    cases hk.symm.trans h4
    exact h8
  rcases h with h | ⟨t, h⟩
  · exact hz _ h
  · exact hz _ h
section
variable {p : Program} {l : Launch} {e : Env} {R : Room} {s : State} {m : MethodId} {args : Array Value} {below : List Frame} {meth : Method} {c : Code} {locs : List Loc} {cells slots : Nat} {T : State}
set_option maxHeartbeats 1000000 in
theorem ex_ctor (X0 : Stand p l e R s m args below meth c T locs cells slots) (hexec : p.tables.exec = Jvm.exec) (htr : e.platform.stackTraces = false) {own Y X : String} {names : List String} {ic n : Nat} (hown : s.vm.findClass own = some m.cls) (hY : Bundle.fit Y = true) (hnames : ∀ n ∈ names, Bundle.fit n = true)
    (h : ∀ w ∈ exC own ic Y names X n, w.before args s = true) {A : Nat → Prop} (hZ : ex_Z A s s.heap) (hS : va_S A s.heap T.heap locs) {a : Addr} {cX : ClassId} {kX : Class} (hfoundX : s.vm.findClass X = some cX) (hkX : s.vm.classes[cX]? = some kX) (hcell : T.heap[a]? = some (freshCell cX kX)) (hAa : A a)
    {g : JFrame} (hg : g.method = m) (hsize : g.locals.size = c.maxLocals) {rest : List Value} (hstack : g.stack = .ref a :: rest) (hdg : decode c.code g.pc = .ok (.invokespecial ic, 3)) (hRframes : names.length + 3 < R.frames) (hRlocals : 2 * g.monitorRoom + (rest.map fun v => v.category).sum + (13 * (names.length + 1) + 41) ≤ R.locals) :
    ∃ (U : State) (L : List Loc), Stand p l e R s m args below meth c U (locs ++ L) cells slots ∧ (∀ y ∈ L, y.base = a) ∧ U.heap.size = T.heap.size ∧ (∀ q, q ≠ a → U.heap[q]? = T.heap[q]?) ∧ (∃ ce : Cell, U.heap[a]? = some ce ∧ ce.cls = cX ∧ ce.vm = .none ∧ ce.slots.size = n) ∧
      ∀ target, Steps p.tables e below (U.setTop { g with pc := g.pc + 3, stack := rest }) target → Steps p.tables e below (T.setTop g) target := by
  have howns : e.platform.frameOwnsMonitors = true := by rw [X0.admits.platform]
  have hfin : e.platform.finalization = false := by rw [X0.admits.platform]
  have hpl : e.platform.magicAccessors = ({} : Platform).magicAccessors := by rw [X0.admits.platform]
  have a' : ∀ x, x ∈ exC own ic Y names X n → x.holds args s none s [] = true := fun x hx => h x hx
  obtain ⟨C, Z, L, LZ, Y0⟩ := ThrowableC.of_atoms (args := args) howns hfin hpl (fun x hx => h x (by simp [exC, hx]))
  obtain ⟨P1, Ps, hlen, L1, hL, hP1m, hlink1, hlink⟩ := Bundle.chain0 (args := args) hpl Y0.init0 names Y hY hnames (fun x hx => h x (by simp [exC, hx]))
  obtain ⟨c1, kX', hc1, hk, hord, -, -, hn6⟩ := Cond.instantiable_spec (a' (.instantiable X n) (by simp [exC]))
  cases Option.some.inj (hc1.symm.trans hfoundX)
  cases Option.some.inj (hkX.symm.trans hk)
  have hsel0 : selectMethod e.platform s.vm cX C.fill0 = .method C.fill0 := by
    obtain ⟨c2, r2, m2, q1, q2, q3, q4, -⟩ := Cond.selects_spec (a' (.selects X Bundle.tFill0 Bundle.tFill0) (by simp [exC]))
    cases Option.some.inj (q1.symm.trans hfoundX)
    cases Option.some.inj (q2.symm.trans (State.methodFound?_of_named Y0.fill0 (by decide)))
    cases Option.some.inj (q3.symm.trans Y0.fill0)
    rw [Launch.admits_selectMethod X0.admits]; exact q4
  have hselF : selectMethod e.platform s.vm cX C.fill = .method C.fill := by
    obtain ⟨c2, r2, m2, q1, q2, q3, q4, -⟩ := Cond.selects_spec (a' (.selects X Bundle.tFill Bundle.tFill) (by simp [exC]))
    cases Option.some.inj (q1.symm.trans hfoundX)
    cases Option.some.inj (q2.symm.trans (State.methodFound?_of_named Y0.fill (by decide)))
    cases Option.some.inj (q3.symm.trans Y0.fill)
    rw [Launch.admits_selectMethod X0.admits]; exact q4
  obtain ⟨u0, cellS, hcellS, hknownS, hu0⟩ := ex_Z.at hZ.1 hS Y0.unassigned L.statics
  obtain ⟨sen, cellS', hcS', -, hsen⟩ := ex_Z.at hZ.2 hS Y0.sentinel L.statics
  cases hcS'.symm.trans hcellS
  have hneS : C.aS ≠ a := fun z => ex_Z.ne hZ.1 Y0.unassigned L.statics (by rw [z]; exact hAa)
  obtain ⟨ci198, i198, fB, hk198, hg198, ha198, hsB, -, hnB, htB, hffB⟩ := Cond.ownField (t := .object "java/lang/Object") Y0.found L.cls (by decide +kernel) (a' (.fieldLink Bundle.tN 198 Bundle.tN "backtrace" "Ljava/lang/Object;") (by simp [exC])) (a' (.lays Bundle.tN Bundle.tN "backtrace" "Ljava/lang/Object;") (by simp [exC])) e.platform hpl
  obtain ⟨tyC, dC, hdC, hdnC⟩ := Cond.laysAt hfoundX hk Y0.cause (a' (.lays X Bundle.tN "cause" "Ljava/lang/Throwable;") (by simp [exC]))
  obtain ⟨tyS, dS, hdS, hdnS⟩ := Cond.laysAt hfoundX hk Y0.stack (a' (.lays X Bundle.tN "stackTrace" Bundle.steD) (by simp [exC]))
  obtain ⟨tyP, dP, hdP, hdnP⟩ := Cond.laysAt hfoundX hk Y0.supp (a' (.lays X Bundle.tN "suppressedExceptions" Bundle.listD) (by simp [exC]))
  obtain ⟨tyB, dB, hdB, hdnB⟩ := Cond.laysAt hfoundX hk hffB (a' (.lays X Bundle.tN "backtrace" "Ljava/lang/Object;") (by simp [exC]))
  have bC := Cond.laysApart hdB hdC hdnB hdnC (by rw [hnB, Y0.causeName]; decide)
  have bS := Cond.laysApart hdB hdS hdnB hdnS (by rw [hnB, Y0.stackName]; decide)
  have bP := Cond.laysApart hdB hdP hdnB hdnP (by rw [hnB, Y0.suppName]; decide)
  have hskip : SkipFacts C e.platform s (fun u => u) u0 ((preparedCellV C.toThrowableT (freshCell cX kX) a u0 sen).withEntry T.cur) :=
    ⟨{ ci198 := ci198, i198 := i198, fBack := fB }, ⟨hk198, hg198, ha198, hsB⟩, by
      have := fresh_default (c := cX) tyB
      rw [htB] at this
      simpa [preparedCellV, Cell.setSlot, Cell.withEntry, Array.getElem?_setIfInBounds, bC, bS, bP, bC.symm, bS.symm, bP.symm, defaultValue] using this, fun _ _ => rfl⟩
  obtain ⟨tm, methC, cdC, kC, vm₁, hnC, -, -, -, -, -, -, -, hW₁, st1⟩ := Steps.initCold (tb := p.tables) (e := e) (below := below) (s := s) (U := T) X0.here hexec X0.warmed hpl hown (t := Bundle.init0 Y) rfl rfl (Bundle.fit_spec hY).2
    (a' (.methodLink own ic (Bundle.init0 Y)) (by simp [exC])) (h (.instanceMethod (Bundle.init0 Y)) (by cases names <;> simp [exC, Bundle.chain0Atoms, Bundle.passAtoms])) (bytes := Bundle.five) (maxL := 1) (h (.code (Bundle.init0 Y) Bundle.five 1 none) (by cases names <;> simp [exC, Bundle.chain0Atoms, Bundle.passAtoms]))
    (f := g) hg (a := a) (rest := rest) hstack hdg
  cases Option.some.inj (hnC.symm.trans hP1m)
  have X1 := X0.noted hW₁
  obtain ⟨vm₂, X2, st2⟩ := X1.ctorPlainOffV hexec (g := { g with stack := rest }) hg hsize C L Z LZ (P1 :: Ps)
    (fun P hP => by rcases List.mem_cons.mp hP with rfl | hP; exact L1; exact hL P hP) ⟨hlink1, hlink⟩ (u0 := u0) (sen := sen) (self := a) (cell := freshCell cX kX) (cellS := cellS)
    hcell (fun _ => by simp) (by simp) rfl rfl hsel0 hselF hcellS hneS hknownS hu0 hsen
    (Takes.of_laid hk hord tyC (by rw [Y0.causeType]; rfl)) (Takes.of_laid hk hord tyS (by rw [Y0.stackType]; exact fits_refV_array _ u0)) (Takes.of_laid hk hord tyP (by rw [Y0.suppType]; exact fits_refV_object _ sen)) Y0.objLocals hskip htr [] hdg
    (by simp only [List.length_cons, hlen]; omega) (by simp only [List.length_cons, hlen]; exact hRlocals)
  have hlt : a < ((T.setVm vm₁).setVm vm₂).heap.size := (Array.getElem?_eq_some_iff.mp hcell).1
  refine ⟨_, _, X2, fun y hy => ?_, ?_, fun q hq => ?_, ⟨_, heapAt_setCell_self _ hlt, rfl, rfl, ?_⟩, fun target hrest => st1 _ (fun acts => ?_)⟩
  · simp only [List.mem_cons, List.not_mem_nil, or_false] at hy
    rcases hy with rfl | rfl | rfl | rfl <;> rfl
  · show (T.heap.setIfInBounds _ _).size = _
    rw [Array.size_setIfInBounds]
  · rw [State.heap_setCell_other (fun z => hq z.symm)]
    rfl
  · simp [preparedCellV, Cell.setSlot, hn6]
  · rw [doInvoke_state]
    exact st2 _ hrest
end
