set_option maxRecDepth 100000
/-! THE MACHINE's OWN EXCEPTIONS, without traces: from the note over the frame to the thrown object over it. -/
/-- the note that the faulting instruction lays -/
def ex_N (p : Program) (l : Launch) (e : Env) (R : Room) (s : State) (m : MethodId) (args : Array Value) (below : List Frame) (meth : Method) (c : Code) (H : Heap) (locs : List Loc) (cells slots : Nat) (Q : State → Prop) (g : JFrame) (cls : String) (msg : Option String) : Prop :=
  ∀ T : State, T.heap = H → Stand p l e R s m args below meth c T locs cells slots → ∃ t, Steps p.tables e below ((T.setTop g).pushFrame (.throwNew cls msg none)) t ∧ Q t
theorem ex_push (V : State) (g : JFrame) {g₁ : JFrame} {r : List Frame} (h : V.frames = .java g₁ :: r) {f : Frame} : (V.setTop g).pushFrame f = V.setFrames (f :: .java g :: r) := by
  rw [State.pushFrame, State.frames_setTop _ h, State.setTop_of_frames _ h, State.setFrames_setFrames]
/-- the words that a message's exception wants -/
def exM (X : String) (names : List String) : List Cond :=
  Bundle.throwableAtoms ++ Bundle.throwableSAtoms ++ Bundle.chainSAtoms X names ++ Bundle.stringAtoms ++
  [.initialized X, .instantiable X 6, .castable X X, .selects X Bundle.tFill0 Bundle.tFill0, .selects X Bundle.tFill Bundle.tFill,
   .lays X Bundle.tN "cause" "Ljava/lang/Throwable;", .lays X Bundle.tN "stackTrace" Bundle.steD, .lays X Bundle.tN "suppressedExceptions" Bundle.listD, .lays X Bundle.tN "detailMessage" "Ljava/lang/String;",
   .fieldLink Bundle.tN 198 Bundle.tN "backtrace" "Ljava/lang/Object;", .lays Bundle.tN Bundle.tN "backtrace" "Ljava/lang/Object;", .lays X Bundle.tN "backtrace" "Ljava/lang/Object;"]
/-- what Throwable's two statics hold -/
def ex_Z (A : Nat → Prop) (s : State) (H : Heap) : Prop := va_Zq Bundle.tN "UNASSIGNED_STACK" Bundle.steD A s H ∧ va_Zq Bundle.tN "SUPPRESSED_SENTINEL" Bundle.listD A s H
theorem ex_Z.at {A : Nat → Prop} {s : State} {n d : String} {H H1 : Heap} {locs : List Loc} (h : va_Zq Bundle.tN n d A s H) (hS : va_S A H H1 locs) {c k i f a} (hf : s.fieldFound? Bundle.tN n d = some (c, k, i, f)) (hk : k.statics = some a) : ∃ (u : RefV) (cell : Cell), H1[a]? = some cell ∧ cell.vm ≠ .unknown ∧ cell.slots[f.slot]? = some u.v := by
  have hz : ∀ v, va_Z Bundle.tN n d v A s H → ∃ cell : Cell, H1[a]? = some cell ∧ cell.vm ≠ .unknown ∧ cell.slots[f.slot]? = some v := by
    rintro v ⟨cf, kf, fi, f', a', cell, h1, -, -, h4, h5, h6, h7, h8⟩
    cases h1.symm.trans hf
    cases h4.symm.trans hk
    refine ⟨cell, ?_, fun hu => ?_, h7⟩
    · rw [hS.2.1 a (Array.getElem?_eq_some_iff.mp h5).1 h8]
      exact h5
    · rw [hu] at h6
      cases h6
  rcases h with h | ⟨t, h⟩
  · obtain ⟨cell, q1, q2, q3⟩ := hz _ h
    exact ⟨⟨.null, rfl⟩, cell, q1, q2, q3⟩
  · obtain ⟨cell, q1, q2, q3⟩ := hz _ h
    exact ⟨⟨.ref t, rfl⟩, cell, q1, q2, q3⟩
section
variable {p : Program} {l : Launch} {e : Env} {R : Room} {s : State} {m : MethodId} {args : Array Value} {below : List Frame} {meth : Method} {c : Code} {T : State} {locs : List Loc} {cells slots : Nat}
set_option maxHeartbeats 1000000 in
theorem ex_msg (X : Stand p l e R s m args below meth c T locs cells slots) (hexec : p.tables.exec = Jvm.exec) (htr : e.platform.stackTraces = false) {cls : String} {names : List String} {text : String}
    (hcls : Bundle.fit cls = true) (hnames : ∀ n ∈ names, Bundle.fit n = true) (hsoe : (cls == "java/lang/StackOverflowError") = false) (hoom : (cls == "java/lang/OutOfMemoryError") = false)
    (h : ∀ a ∈ exM cls names, a.before args s = true) {A : Nat → Prop} (hZ : ex_Z A s s.heap) (hS : va_S A s.heap T.heap locs)
    (htext : (text == notModelled) = false) (hlimit : ¬ (stringBytes (stringToUtf16 text)).size > e.platform.arrayLengthLimit) (hheap : ¬ (stringBytes (stringToUtf16 text)).size * componentBytes .byte > e.platform.maxHeapBytes)
    {g : JFrame} (hg : g.method = m) (hsize : g.locals.size = c.maxLocals)
    (hRframes : names.length + 4 < R.frames) (hRlocals : 2 * g.monitorRoom + (g.stack.map fun v => v.category).sum + 10240 ≤ R.locals) (hshort : 13 * names.length + 55 ≤ 10240)
    (hRcells : cells + 3 ≤ R.cells) (hRslots : slots + ((stringBytes (stringToUtf16 text)).size + 4 + 6) ≤ R.slots) :
    ∃ (U : State) (L' : List Loc), Stand p l e R s m args below meth c U (locs ++ L') (cells + 3) (slots + ((stringBytes (stringToUtf16 text)).size + 4 + 6)) ∧ (∀ y ∈ L', y.base = T.heap.size + 2) ∧
      Steps p.tables e below ((T.setTop g).pushFrame (.throwNew cls (some text) none)) ((U.setTop g).pushFrame (.throwing (T.heap.size + 2))) ∧
      U.heap.size = T.heap.size + 3 ∧ (∀ a0, a0 < T.heap.size → U.heap[a0]? = T.heap[a0]?) ∧ ∃ ce, U.heap[T.heap.size + 2]? = some ce ∧ s.vm.findClass cls = some ce.cls ∧ ce.vm = .none := by
  have howns : e.platform.frameOwnsMonitors = true := by rw [X.admits.platform]
  have hfin : e.platform.finalization = false := by rw [X.admits.platform]
  have hpl : e.platform.magicAccessors = ({} : Platform).magicAccessors := by rw [X.admits.platform]
  have a : ∀ x, x ∈ exM cls names → x.holds args s none s [] = true := fun x hx => h x hx
  obtain ⟨C, Z0, L, -, Y⟩ := ThrowableC.of_atoms (args := args) howns hfin hpl (fun x hx => h x (by simp [exM, hx]))
  obtain ⟨Z, M, LZ, LM, hnZ⟩ := Init0T.ofS_atoms (args := args) hpl L Y (fun x hx => h x (by simp [exM, hx]))
  obtain ⟨P1, Ps, hlen, L1, hL, hP1m, hlink1, hlink⟩ := Bundle.chainS (args := args) hpl hnZ names cls hcls hnames (fun x hx => h x (by simp [exM, hx]))
  obtain ⟨Zs, LZs, hn4, hfitv, hfitc⟩ := StringT.of_atoms (args := args) (fun x hx => h x (by simp [exM, hx]))
  have hfound : s.vm.findClass cls = some P1.m.cls := findClass_of_methodNamed hP1m
  obtain ⟨c1, kX, hc1, hk, hord, -, -, hn6⟩ := Cond.instantiable_spec (a (.instantiable cls 6) (by simp [exM]))
  cases Option.some.inj (hc1.symm.trans hfound)
  have hinit := Cond.initialized_spec hfound hk (a (.initialized cls) (by simp [exM]))
  have hctor : kX.findMethod "<init>" "(Ljava/lang/String;)V" = some P1.m.idx := findMethod_of_methodNamed hP1m hk
  have hsel0 : selectMethod e.platform s.vm P1.m.cls C.fill0 = .method C.fill0 := by
    obtain ⟨c2, r2, m2, q1, q2, q3, q4, -⟩ := Cond.selects_spec (a (.selects cls Bundle.tFill0 Bundle.tFill0) (by simp [exM]))
    cases Option.some.inj (q1.symm.trans hfound)
    cases Option.some.inj (q2.symm.trans (State.methodFound?_of_named Y.fill0 (by decide)))
    cases Option.some.inj (q3.symm.trans Y.fill0)
    rw [Launch.admits_selectMethod X.admits]; exact q4
  have hselF : selectMethod e.platform s.vm P1.m.cls C.fill = .method C.fill := by
    obtain ⟨c2, r2, m2, q1, q2, q3, q4, -⟩ := Cond.selects_spec (a (.selects cls Bundle.tFill Bundle.tFill) (by simp [exM]))
    cases Option.some.inj (q1.symm.trans hfound)
    cases Option.some.inj (q2.symm.trans (State.methodFound?_of_named Y.fill (by decide)))
    cases Option.some.inj (q3.symm.trans Y.fill)
    rw [Launch.admits_selectMethod X.admits]; exact q4
  obtain ⟨u0, cellS, hcellS, hknownS, hu0⟩ := ex_Z.at hZ.1 hS Y.unassigned L.statics
  obtain ⟨sen, cellS', hcS', -, hsen⟩ := ex_Z.at hZ.2 hS Y.sentinel L.statics
  cases hcS'.symm.trans hcellS
  obtain ⟨ci198, i198, fB, hk198, hg198, ha198, hsB, -, hnB, htB, hffB⟩ := Cond.ownField (t := .object "java/lang/Object") Y.found L.cls (by decide +kernel) (a (.fieldLink Bundle.tN 198 Bundle.tN "backtrace" "Ljava/lang/Object;") (by simp [exM])) (a (.lays Bundle.tN Bundle.tN "backtrace" "Ljava/lang/Object;") (by simp [exM])) e.platform hpl
  obtain ⟨iM, hffM⟩ := Y.msg
  obtain ⟨tyC, dC, hdC, hdnC⟩ := Cond.laysAt hfound hk Y.cause (a (.lays cls Bundle.tN "cause" "Ljava/lang/Throwable;") (by simp [exM]))
  obtain ⟨tyS, dS, hdS, hdnS⟩ := Cond.laysAt hfound hk Y.stack (a (.lays cls Bundle.tN "stackTrace" Bundle.steD) (by simp [exM]))
  obtain ⟨tyP, dP, hdP, hdnP⟩ := Cond.laysAt hfound hk Y.supp (a (.lays cls Bundle.tN "suppressedExceptions" Bundle.listD) (by simp [exM]))
  obtain ⟨tyM, dM, hdM, hdnM⟩ := Cond.laysAt hfound hk hffM (a (.lays cls Bundle.tN "detailMessage" "Ljava/lang/String;") (by simp [exM]))
  obtain ⟨tyB, dB, hdB, hdnB⟩ := Cond.laysAt hfound hk hffB (a (.lays cls Bundle.tN "backtrace" "Ljava/lang/Object;") (by simp [exM]))
  have bC := Cond.laysApart hdB hdC hdnB hdnC (by rw [hnB, Y.causeName]; decide)
  have bS := Cond.laysApart hdB hdS hdnB hdnS (by rw [hnB, Y.stackName]; decide)
  have bP := Cond.laysApart hdB hdP hdnB hdnP (by rw [hnB, Y.suppName]; decide)
  have hskip : SkipFacts C e.platform s (fun u => u) u0 ((preparedCellV C.toThrowableT (freshCell P1.m.cls kX) (T.heap.size + 2) u0 sen).withEntry T.cur) :=
    ⟨{ ci198 := ci198, i198 := i198, fBack := fB }, ⟨hk198, hg198, ha198, hsB⟩, by
      have := fresh_default (c := P1.m.cls) tyB
      rw [htB] at this
      simpa [preparedCellV, Cell.setSlot, Cell.withEntry, Array.getElem?_setIfInBounds, bC, bS, bP, bC.symm, bS.symm, bP.symm, defaultValue] using this, fun _ _ => rfl⟩
  have hA : At T g.method c below := by rw [hg]; exact X.here
  obtain ⟨hbeyond, hfreeW⟩ := X.vmMayThrow hsize (.throwNew cls (some text) none) (fun f hf => by cases hf) rfl hRlocals
  have hfr' : T.frames.length + Ps.length + 4 < (e.platform.stackLimits T.me).1 := by have := X.framesAbove hRframes; omega
  have hwd' : (stackUse (.java g :: T.frames.tail)).2 + 13 * Ps.length + 55 ≤ (e.platform.stackLimits T.me).2 := by have := X.stackAbove hsize (K := 13 * Ps.length + 55) (by omega); omega
  have hslots : T.slotsUsed + (stringBytes (stringToUtf16 text)).size + Zs.kS.instanceTypes.size + kX.instanceTypes.size ≤ e.platform.maxSlots := by have := X.slotsAbove hRslots; omega
  obtain ⟨vm', hW', st⟩ := Steps.vmThrowsMessageColdByV p (s₀ := s) (S := T) (g := g) hA hexec C L Z LZ M LM X.warmed (t := T.cur) rfl Zs LZs P1 L1 Ps hL hlink1 hlink hsoe hoom hfound hk hinit hord hctor
    (Launch.admits_hotImplicitExceptions X.admits) hbeyond hfreeW htext hlimit hheap (X.cellsAbove hRcells) hslots (hfitv _) (hfitc _)
    (Nn := fun u => u) heapOnly_id (fun _ _ => rfl) (fun _ => rfl) (fun u x y => setCell_twice _ _ _ _) (fun _ => Nat.le_refl _) (cN := ((preparedCellV C.toThrowableT (freshCell P1.m.cls kX) (T.heap.size + 2) u0 sen).withEntry T.cur))
    hsel0 hcellS hknownS hu0 (Takes.of_laid hk hord tyS (by rw [Y.stackType]; exact fits_refV_array _ u0)) (fun _ hu => hu) (fun _ hu => hu) rfl rfl rfl (by simp [preparedCellV, Cell.setSlot, Cell.withEntry]) hskip
    (fun _ _ hA hW _ hroom _ hrest => L.nativeOff p htr hA hW hroom hrest) hselF hsen (Takes.of_laid hk hord tyC (by rw [Y.causeType]; rfl)) (Takes.of_laid hk hord tyP (by rw [Y.suppType]; exact fits_refV_object _ sen)) (Takes.of_laid hk hord tyM (by rw [Y.msgType]; rfl)) Y.objLocals rfl hfr' hwd'
  rw [plainBareV_eq C.toThrowableT (T.heap.size + 2) u0 sen (.ref (T.heap.size + 1)) T.cur rfl rfl] at st
  obtain ⟨-, -, w3, w4, w5, -, -⟩ := withThrown_facts e.platform T Zs text P1.m.cls kX
  have X3 := ((X.pushed (bytesOf Zs.cB (stringToUtf16 text))).pushed (stringAt Zs.cS Zs.kS Zs.fv Zs.fc (stringToUtf16 text) T.heap.size)).pushed (freshCell P1.m.cls kX)
  rw [← withString_eq] at X3
  have X4 := X3.noted hW'
  have ha : (T.heap.size + 2) < ((withThrown T Zs text P1.m.cls kX).setVm vm').heap.size := by show _ < (withThrown T Zs text P1.m.cls kX).heap.size; rw [w3]; omega
  have hcell : ((withThrown T Zs text P1.m.cls kX).setVm vm').heap[(T.heap.size + 2)]? = some (freshCell P1.m.cls kX) := w4
  have X5 := ((((X4.stored hcell C.fCause.slot (.ref (T.heap.size + 2))).storedAgain ha C.fStack.slot u0.v).storedAgain ha C.fSupp.slot sen.v).storedAgain ha C.fStack.slot u0.v).storedAgain ha C.fMsg.slot (.ref (T.heap.size + 1))
  simp only [List.append_assoc, List.cons_append, List.nil_append] at X5
  have b1 : (bytesOf Zs.cB (stringToUtf16 text)).slots.size = (stringBytes (stringToUtf16 text)).size := by
    rw [(Cell.writeAll_facts _ _).2.2]; simp [bytes0]
  have b2 : (stringAt Zs.cS Zs.kS Zs.fv Zs.fc (stringToUtf16 text) T.heap.size).slots.size = 4 := by simp [string0, Cell.setSlot, hn4]
  have b3 : (freshCell P1.m.cls kX).slots.size = 6 := by simp [hn6]
  rw [b1, b2, b3, Nat.add_assoc, Nat.add_assoc, ← Nat.add_assoc _ 4 6] at X5
  refine ⟨_, _, X5, fun y hy => ?_, ?_, ?_, fun a0 h0 => ?_, _, heapAt_setCell_self _ ha, hfound, rfl⟩
  · simp only [List.mem_cons, List.not_mem_nil, or_false] at hy
    rcases hy with rfl | rfl | rfl | rfl | rfl <;> rfl
  · obtain ⟨g₁, hfrM⟩ := X5.frames_eq
    rw [ex_push _ g hfrM]
    rw [X.tail] at st
    exact st _ (Steps.refl _)
  · show (((withThrown T Zs text P1.m.cls kX).setVm vm').heap.setIfInBounds _ _).size = _
    rw [Array.size_setIfInBounds]
    exact w3
  · rw [State.heap_setCell_other (by omega : T.heap.size + 2 ≠ a0)]
    exact w5 a0 h0
/-- the words that a NullPointerException wants -/
def exP (n : Nat) : List Cond :=
  Bundle.throwableAtoms ++ Bundle.npeAtoms ++ Bundle.passAtoms Bundle.nN Bundle.rN 1 LibCode.NullPointerException.Init0.code ++ Bundle.passAtoms Bundle.rN Bundle.eN 1 LibCode.RuntimeException.Init0.code ++ Bundle.passAtoms Bundle.eN Bundle.tN 1 LibCode.Exception.Init0.code ++
  [.initialized Bundle.nN, .instantiable Bundle.nN n, .castable Bundle.nN Bundle.nN, .selects Bundle.nN Bundle.tFill0 Bundle.tFill0, .selects Bundle.nN Bundle.tFill Bundle.nFill,
   .lays Bundle.nN Bundle.tN "cause" "Ljava/lang/Throwable;", .lays Bundle.nN Bundle.tN "stackTrace" Bundle.steD, .lays Bundle.nN Bundle.tN "suppressedExceptions" Bundle.listD,
   .fieldLink Bundle.tN 198 Bundle.tN "backtrace" Bundle.objD, .lays Bundle.tN Bundle.tN "backtrace" Bundle.objD, .lays Bundle.nN Bundle.tN "backtrace" Bundle.objD]
set_option maxHeartbeats 1000000 in
theorem ex_npe (X : Stand p l e R s m args below meth c T locs cells slots) (hexec : p.tables.exec = Jvm.exec) (htr : e.platform.stackTraces = false) {n : Nat}
    (h : ∀ a ∈ exP n, a.before args s = true) {A : Nat → Prop} (hZ : ex_Z A s s.heap) (hS : va_S A s.heap T.heap locs)
    {g : JFrame} (hg : g.method = m) (hsize : g.locals.size = c.maxLocals)
    (hRframes : 7 < R.frames) (hRlocals : 2 * g.monitorRoom + (g.stack.map fun v => v.category).sum + 10240 ≤ R.locals)
    (hRcells : cells + 1 ≤ R.cells) (hRslots : slots + n ≤ R.slots) :
    ∃ (U : State) (L' : List Loc), Stand p l e R s m args below meth c U (locs ++ L') (cells + 1) (slots + n) ∧ (∀ y ∈ L', y.base = T.heap.size) ∧
      Steps p.tables e below ((T.setTop g).pushFrame (.throwNew "java/lang/NullPointerException" none none)) ((U.setTop g).pushFrame (.throwing T.heap.size)) ∧
      U.heap.size = T.heap.size + 1 ∧ (∀ a0, a0 < T.heap.size → U.heap[a0]? = T.heap[a0]?) ∧ ∃ ce, U.heap[T.heap.size]? = some ce ∧ s.vm.findClass "java/lang/NullPointerException" = some ce.cls ∧ ce.vm = .none := by
  have howns : e.platform.frameOwnsMonitors = true := by rw [X.admits.platform]
  have hfin : e.platform.finalization = false := by rw [X.admits.platform]
  have hpl : e.platform.magicAccessors = ({} : Platform).magicAccessors := by rw [X.admits.platform]
  have hpl2 : e.platform.arrayCloneIsPublic = true := by rw [X.admits.platform]
  have a' : ∀ x, x ∈ exP n → x.holds args s none s [] = true := fun x hx => h x hx
  obtain ⟨C, Z, L, LZ, Y⟩ := ThrowableC.of_atoms (args := args) howns hfin hpl (fun x hx => h x (by simp [exP, hx]))
  obtain ⟨N, LN, hcN, hnNF, hordN, hffS⟩ := NpeC.of_atoms (args := args) hpl hpl2 L Y (fun x hx => h x (by simp [exP, hx]))
  obtain ⟨P1, L1, hP1m, hP1s⟩ := PassC.of_atoms (args := args) (s := s) hpl (X := Bundle.nN) (Y := Bundle.rN) (by decide) (by decide) LibCode.NullPointerException.Init0.at_0 LibCode.NullPointerException.Init0.at_1 LibCode.NullPointerException.Init0.at_4 (fun x hx => h x (by simp [exP, hx]))
  obtain ⟨PR, LR, hPRm, hPRs⟩ := PassC.of_atoms (args := args) (s := s) hpl (X := Bundle.rN) (Y := Bundle.eN) (by decide) (by decide) LibCode.RuntimeException.Init0.at_0 LibCode.RuntimeException.Init0.at_1 LibCode.RuntimeException.Init0.at_4 (fun x hx => h x (by simp [exP, hx]))
  obtain ⟨PE, LEx, hPEm, hPEs⟩ := PassC.of_atoms (args := args) (s := s) hpl (X := Bundle.eN) (Y := Bundle.tN) (by decide) (by decide) LibCode.Exception.Init0.at_0 LibCode.Exception.Init0.at_1 LibCode.Exception.Init0.at_4 (fun x hx => h x (by simp [exP, hx]))
  have hfound : s.vm.findClass Bundle.nN = some P1.m.cls := findClass_of_methodNamed hP1m
  have ecls : N.cN = P1.m.cls := Option.some.inj (hcN.symm.trans hfound)
  have hk : s.vm.classes[P1.m.cls]? = some N.kN := by rw [← ecls]; exact LN.cls
  have hinit := Cond.initialized_spec hfound hk (a' (.initialized Bundle.nN) (by simp [exP]))
  have hctor : N.kN.findMethod "<init>" "()V" = some P1.m.idx := findMethod_of_methodNamed hP1m hk
  obtain ⟨c1, k1, hc1, hk1, -, -, -, hn⟩ := Cond.instantiable_spec (a' (.instantiable Bundle.nN n) (by simp [exP]))
  cases Option.some.inj (hc1.symm.trans hfound)
  cases Option.some.inj (hk1.symm.trans hk)
  have hfsz : (freshCell P1.m.cls N.kN).slots.size = n := by simp [hn]
  have hlink1 : P1.sup = PR.m := Option.some.inj (hP1s.symm.trans hPRm)
  have hlinkR : PR.sup = PE.m := Option.some.inj (hPRs.symm.trans hPEm)
  have hlinkE : PE.sup = Z.m C.toThrowableT := Option.some.inj (hPEs.symm.trans Y.init0)
  have hLs : ∀ P, P ∈ [PR, PE] → P.Links0 e.platform s := fun P hP => by
    simp only [List.mem_cons, List.not_mem_nil, or_false] at hP
    rcases hP with rfl | rfl
    · exact LR
    · exact LEx
  have hsel0 : selectMethod e.platform s.vm P1.m.cls C.fill0 = .method C.fill0 := by
    obtain ⟨c2, r2, m2, q1, q2, q3, q4, -⟩ := Cond.selects_spec (a' (.selects Bundle.nN Bundle.tFill0 Bundle.tFill0) (by simp [exP]))
    cases Option.some.inj (q1.symm.trans hfound)
    cases Option.some.inj (q2.symm.trans (State.methodFound?_of_named Y.fill0 (by decide)))
    cases Option.some.inj (q3.symm.trans Y.fill0)
    rw [Launch.admits_selectMethod X.admits]; exact q4
  have hselF : selectMethod e.platform s.vm P1.m.cls C.fill = .method N.fill := by
    obtain ⟨c2, r2, m2, q1, q2, q3, q4, -⟩ := Cond.selects_spec (a' (.selects Bundle.nN Bundle.tFill Bundle.nFill) (by simp [exP]))
    cases Option.some.inj (q1.symm.trans hfound)
    cases Option.some.inj (q2.symm.trans (State.methodFound?_of_named Y.fill (by decide)))
    cases Option.some.inj (q3.symm.trans hnNF)
    rw [Launch.admits_selectMethod X.admits]; exact q4
  obtain ⟨u0, cellS, hcellS, hknownS, hvU⟩ := ex_Z.at hZ.1 hS Y.unassigned L.statics
  obtain ⟨sen, cellS', hcS', -, hvSen⟩ := ex_Z.at hZ.2 hS Y.sentinel L.statics
  cases hcS'.symm.trans hcellS
  obtain ⟨ci198, i198, fB, hk198, hg198, ha198, hsB, -, hnB, htB, hffB⟩ := Cond.ownField (t := .object "java/lang/Object") Y.found L.cls (by decide +kernel) (a' (.fieldLink Bundle.tN 198 Bundle.tN "backtrace" Bundle.objD) (by simp [exP])) (a' (.lays Bundle.tN Bundle.tN "backtrace" Bundle.objD) (by simp [exP])) e.platform hpl
  obtain ⟨tyC, dC, hdC, hdnC⟩ := Cond.laysAt hfound hk Y.cause (a' (.lays Bundle.nN Bundle.tN "cause" "Ljava/lang/Throwable;") (by simp [exP]))
  obtain ⟨tyS, dS, hdS, hdnS⟩ := Cond.laysAt hfound hk Y.stack (a' (.lays Bundle.nN Bundle.tN "stackTrace" Bundle.steD) (by simp [exP]))
  obtain ⟨tyP, dP, hdP, hdnP⟩ := Cond.laysAt hfound hk Y.supp (a' (.lays Bundle.nN Bundle.tN "suppressedExceptions" Bundle.listD) (by simp [exP]))
  obtain ⟨tyX, dX, hdX, hdnX⟩ := Cond.laysAt hfound hk hffS (a' (.lays Bundle.nN Bundle.nN "extendedMessageState" "I") (by simp [exP, Bundle.npeAtoms]))
  obtain ⟨hnX, htX⟩ := State.fieldFound?_type hffS (t := .int) (by decide +kernel)
  have xC := Cond.laysApart hdC hdX hdnC hdnX (by rw [hnX, Y.causeName]; decide)
  have xS := Cond.laysApart hdS hdX hdnS hdnX (by rw [hnX, Y.stackName]; decide)
  have xP := Cond.laysApart hdP hdX hdnP hdnX (by rw [hnX, Y.suppName]; decide)
  have hv0 : (freshCell P1.m.cls N.kN).slots[N.fState.slot]? = some (.int 0) := by
    have := fresh_default (c := P1.m.cls) tyX
    rw [htX] at this; exact this
  obtain ⟨tyB, dB, hdB, hdnB⟩ := Cond.laysAt hfound hk hffB (a' (.lays Bundle.nN Bundle.tN "backtrace" Bundle.objD) (by simp [exP]))
  have bC := Cond.laysApart hdB hdC hdnB hdnC (by rw [hnB, Y.causeName]; decide)
  have bS := Cond.laysApart hdB hdS hdnB hdnS (by rw [hnB, Y.stackName]; decide)
  have bP := Cond.laysApart hdB hdP hdnB hdnP (by rw [hnB, Y.suppName]; decide)
  have bX := Cond.laysApart hdB hdX hdnB hdnX (by rw [hnB, hnX]; decide)
  have hbk : ((npeCell N.toNpeT (preparedCellV C.toThrowableT (freshCell P1.m.cls N.kN) T.heap.size u0 sen) T.cur).withEntry T.cur).slots[fB.slot]? = some .null := by
    have := fresh_default (c := P1.m.cls) tyB
    rw [htB] at this
    simpa [npeCell, preparedCellV, Cell.setSlot, Cell.withEntry, Array.getElem?_setIfInBounds, bC, bS, bP, bX, bC.symm, bS.symm, bP.symm, bX.symm, defaultValue] using this
  have hA : At T g.method c below := by rw [hg]; exact X.here
  obtain ⟨hbeyond, hfreeW⟩ := X.vmMayThrow hsize (.throwNew "java/lang/NullPointerException" none none) (fun f hf => by cases hf) rfl hRlocals
  have hfr' : T.frames.length + [PR, PE].length + 5 < (e.platform.stackLimits T.me).1 := by have := X.framesAbove hRframes; simp only [List.length_cons, List.length_nil]; omega
  have hwd' : (stackUse (.java g :: T.frames.tail)).2 + 13 * [PR, PE].length + 68 ≤ (e.platform.stackLimits T.me).2 := by have := X.stackAbove hsize (K := 13 * [PR, PE].length + 68) (by simp only [List.length_cons, List.length_nil]; omega); omega
  obtain ⟨vm', hW', st⟩ := Steps.vmThrowsNpeColdByV p (s₀ := s) (S := T) (g := g) hA hexec C L Z LZ N LN X.warmed (t := T.cur) rfl P1 L1 [PR, PE] hLs hlink1 ⟨hlinkR, hlinkE, trivial⟩ hfound hk hinit hordN hctor
    (Launch.admits_hotImplicitExceptions X.admits) hbeyond hfreeW (X.cellsAbove hRcells) (X.slotsAbove (by rw [hn]; exact hRslots))
    (Nn := fun u => u) heapOnly_id (fun _ _ => rfl) (fun _ => rfl) (fun u x y => setCell_twice _ _ _ _) (fun _ => Nat.le_refl _) (cN := ((npeCell N.toNpeT (preparedCellV C.toThrowableT (freshCell P1.m.cls N.kN) T.heap.size u0 sen) T.cur).withEntry T.cur))
    hsel0 hcellS hknownS hvU hv0 xC xS xP (Takes.of_laid hk hordN tyS (by rw [Y.stackType]; exact fits_refV_array _ u0)) (Takes.of_laid hk hordN tyX (by rw [htX]; rfl)) (fun _ hu => hu) (fun _ hu => hu) rfl rfl rfl (by simp [npeCell, preparedCellV, Cell.setSlot, Cell.withEntry])
    ⟨{ ci198 := ci198, i198 := i198, fBack := fB }, ⟨hk198, hg198, ha198, hsB⟩, hbk, fun _ _ => rfl⟩ (fun _ _ hA hW _ hroom _ hrest => L.nativeOff p htr hA hW hroom hrest) hselF hvSen (Takes.of_laid hk hordN tyC (by rw [Y.causeType]; rfl)) (Takes.of_laid hk hordN tyP (by rw [Y.suppType]; exact fits_refV_object _ sen)) Y.objLocals rfl hfr' hwd'
  rw [npeBareV_eq C.toThrowableT N.toNpeT T.heap.size u0 sen T.cur rfl rfl] at st
  have X2 := (X.pushed (freshCell P1.m.cls N.kN)).noted hW'
  have hsz : ((T.pushCell (freshCell P1.m.cls N.kN)).setVm vm').heap.size = T.heap.size + 1 := State.heap_size_pushCell _ _
  have ha : T.heap.size < ((T.pushCell (freshCell P1.m.cls N.kN)).setVm vm').heap.size := by rw [hsz]; omega
  have hcell : ((T.pushCell (freshCell P1.m.cls N.kN)).setVm vm').heap[T.heap.size]? = some (freshCell P1.m.cls N.kN) := State.heap_pushCell_size T (freshCell P1.m.cls N.kN)
  have X3 := ((((X2.stored hcell C.fCause.slot (.ref T.heap.size)).storedAgain ha C.fStack.slot u0.v).storedAgain ha C.fSupp.slot sen.v).storedAgain ha N.fState.slot (.int 1)).storedAgain ha C.fStack.slot u0.v
  simp only [List.append_assoc, List.cons_append, List.nil_append] at X3
  rw [hfsz] at X3
  refine ⟨_, _, X3, fun y hy => ?_, ?_, ?_, fun a0 h0 => ?_, _, heapAt_setCell_self _ ha, hfound, rfl⟩
  · simp only [List.mem_cons, List.not_mem_nil, or_false] at hy
    rcases hy with rfl | rfl | rfl | rfl | rfl <;> rfl
  · obtain ⟨g₁, hfrM⟩ := X3.frames_eq
    rw [ex_push _ g hfrM]
    rw [X.tail] at st
    exact st _ (Steps.refl _)
  · show (((T.pushCell (freshCell P1.m.cls N.kN)).setVm vm').heap.setIfInBounds _ _).size = _
    rw [Array.size_setIfInBounds]
    exact hsz
  · rw [State.heap_setCell_other (by omega : T.heap.size ≠ a0)]
    show (T.pushCell (freshCell P1.m.cls N.kN)).heap[a0]? = _
    exact heap_pushCell_below _ _ h0
end
