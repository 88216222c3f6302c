/-! AN EXCEPTION IS CAUGHT in the method's own table, its catch types cold or warm. -/
section
variable {e : Env} {s : State} {f : JFrame} {a : Addr}
theorem ct_link {Qh : Handler → Pre} {E : CtlPost} {d : Bool} {acts : List Action} {x : ExceptionTableEntry} {t : List ExceptionTableEntry} {c : ClassId} {cell : Cell} (hx : covers x f.pc = true) (h0 : x.catchType ≠ 0)
    (hl : s.vm.ClassLinks e.platform f.method.cls x.catchType c) (hcell : s.heap[a]? = some cell) (hobj : ∀ k, cell.vm ≠ .statics k)
    (hk : ∃ k, s.vm.classes[cell.cls]? = some k) (hc : ∃ k, s.vm.classes[c]? = some k) :
    wp (findHandler.go f a (x :: t)) Qh E e d acts s ↔ if s.vm.assignable cell.cls c = true then Qh (.found x.handlerPc) d acts (s.setVm (s.vm.noted f.method.cls x.catchType (.cls c))) else wp (findHandler.go f a t) Qh E e d acts (s.setVm (s.vm.noted f.method.cls x.catchType (.cls c))) := by
  simp only [covers] at hx
  obtain ⟨ha, ht⟩ := (resolveClass_links e.toSetting hl).op (op := VmOp.resolveClass f.method.cls x.catchType) rfl
  have hal : s.vm.Alike (s.vm.noted f.method.cls x.catchType (.cls c)) := (Vm.Alike.refl s.vm).noted _ _ _
  obtain ⟨k1, hk1⟩ := hk
  obtain ⟨k2, hk2⟩ := hc
  obtain ⟨k1', hk1', -⟩ := hal.2.2 _ _ hk1
  obtain ⟨k2', hk2', -⟩ := hal.2.2 _ _ hk2
  have has := hal.assignable cell.cls c
  cases hfit : s.vm.assignable cell.cls c with
  | true =>
    rw [hfit] at has
    simp [findHandler.go, hx, h0, ha, ht, hcell, hobj, hk1', hk2', has, VmOp.dirties, VmOp.acts]
  | false =>
    rw [hfit] at has
    simp [findHandler.go, hx, h0, ha, ht, hcell, hobj, hk1', hk2', has, VmOp.dirties, VmOp.acts]
end
/-- an entry that lets the object pass: it doesn't cover the place, or it is of another class -/
def ct_pass (pl : Platform) (s₀ : State) (d : ClassId) (pc : Nat) (th : ClassId) (y : ExceptionTableEntry) : Prop := covers y pc = false ∨ (y.catchType ≠ 0 ∧ ∃ c, s₀.vm.ClassLinks pl d y.catchType c ∧ s₀.vm.assignable th c = false)
theorem ct_go {e : Env} {s₀ : State} {f : JFrame} {a : Addr} {cell : Cell} (hobj : ∀ k, cell.vm ≠ .statics k) (hk0 : ∃ k, s₀.vm.classes[cell.cls]? = some k) {x : ExceptionTableEntry} {rest : List ExceptionTableEntry} (hx : covers x f.pc = true) (h0 : x.catchType ≠ 0) {c : ClassId} (hl : s₀.vm.ClassLinks e.platform f.method.cls x.catchType c) (hfit : s₀.vm.assignable cell.cls c = true) :
    ∀ (pre : List ExceptionTableEntry) (S : State), s₀.WarmedH S.vm → S.heap[a]? = some cell → (∀ y ∈ pre, ct_pass e.platform s₀ f.method.cls f.pc cell.cls y) →
      ∃ vm', s₀.WarmedH vm' ∧ ∀ (Qh : Handler → Pre) (E : CtlPost) (d : Bool) (acts : List Action), wp (findHandler.go f a (pre ++ x :: rest)) Qh E e d acts S ↔ Qh (.found x.handlerPc) d acts (S.setVm vm') := by
  obtain ⟨k0, hk0⟩ := hk0
  intro pre
  induction pre with
  | nil =>
    intro S hW hcell _
    obtain ⟨k0', hk0', -⟩ := hW.alike.2.2 _ _ hk0
    obtain ⟨dk, _, _, kt, hd, _, _, _, _, hkt, _, hopen⟩ := hl.here
    obtain ⟨kt', hkt', -⟩ := hW.alike.2.2 _ _ hkt
    refine ⟨_, hW.noted hd hopen (State.rightAt_cls hl), fun Qh E d acts => ?_⟩
    rw [List.nil_append, ct_link hx h0 (hW.classLinks hl) hcell hobj ⟨k0', hk0'⟩ ⟨kt', hkt'⟩, if_pos (by rw [hW.alike.assignable]; exact hfit)]
  | cons y ys ih =>
    intro S hW hcell hpass
    obtain ⟨k0', hk0', -⟩ := hW.alike.2.2 _ _ hk0
    have hrest : ∀ z ∈ ys, ct_pass e.platform s₀ f.method.cls f.pc cell.cls z := fun z hz => hpass z (List.mem_cons_of_mem _ hz)
    cases hcov : covers y f.pc with
    | true =>
      rcases hpass y List.mem_cons_self with h | ⟨h1, c1, hl1, hno⟩
      · rw [h] at hcov
        cases hcov
      · obtain ⟨dk, _, _, kt, hd, _, _, _, _, hkt, _, hopen⟩ := hl1.here
        obtain ⟨kt', hkt', -⟩ := hW.alike.2.2 _ _ hkt
        obtain ⟨vm', hW', hq⟩ := ih (S.setVm (S.vm.noted f.method.cls y.catchType (.cls c1))) (hW.noted hd hopen (State.rightAt_cls hl1)) hcell hrest
        refine ⟨vm', hW', fun Qh E d acts => ?_⟩
        rw [List.cons_append, ct_link hcov h1 (hW.classLinks hl1) hcell hobj ⟨k0', hk0'⟩ ⟨kt', hkt'⟩, if_neg (by rw [hW.alike.assignable, hno]; decide)]
        exact hq Qh E d acts
    | false =>
      obtain ⟨vm', hW', hq⟩ := ih S hW hcell hrest
      refine ⟨vm', hW', fun Qh E d acts => ?_⟩
      rw [List.cons_append, W.findHandler_go_skip hcov]
      exact hq Qh E d acts
theorem ct_step {e : Env} {s : State} {a : Addr} {f : JFrame} {r : List Frame} {pc : Nat} {vm' : Vm} (hfind : ∀ (Qh : Handler → Pre) (E : CtlPost) (d : Bool) (acts : List Action), wp (findHandler f a) Qh E e d acts s ↔ Qh (.found pc) d acts (s.setVm vm')) :
    (stepThrowing e s a (.java f :: r)).Is ((s.setVm vm').setFrames (.java { f with pc := pc, stack := [.ref a] } :: r)) [] := by
  simp only [stepThrowing, searchFrame, vmDo]
  generalize hr : Sem.go _ e false [] s = res
  obtain ⟨as, rfl, ha⟩ := Sem.eq_ok_of hr (a := Handler.found pc) (s' := s.setVm vm') (acts' := []) (by simp [hfind _ _ _ _])
  exact ⟨rfl, ha⟩
section
variable {p : Program} {l : Launch} {e : Env} {R : Room} {s : State} {m : MethodId} {args : Array Value} {below : List Frame} {meth : Method} {c : Code} {H : Heap} {locs : List Loc} {cells slots : Nat} {Q : State → Prop}
/-- the exception goes on at its handler -/
theorem ct_catch {own name : String} (hown : s.vm.findClass own = some m.cls) {pc : Nat} {ls : Array Slot} {a : Addr} (pre : List ExceptionTableEntry) (x : ExceptionTableEntry) (rest : List ExceptionTableEntry) (hsplit : c.exceptionTable.toList = pre ++ x :: rest) (hx : covers x pc = true) (h0 : x.catchType ≠ 0)
    (hlink : (Cond.classLink own x.catchType name).before args s = true) {cT : ClassId} {cell : Cell} (hcT : s.vm.findClass name = some cT) (hcell : H[a]? = some cell) (hobj : cell.vm.isStatics = false) (hfit : s.vm.assignable cell.cls cT = true)
    (hpass : ∀ pl : Platform, pl.magicAccessors = ({} : Platform).magicAccessors → ∀ y ∈ pre, ct_pass pl s m.cls pc cell.cls y)
    (k : W p l e R s m args below meth c H locs cells slots Q (F0 m x.handlerPc ls [.ref a])) : am_WX p l e R s m args below meth c H locs cells slots Q pc ls a := by
  intro st T hT X
  have hpl : e.platform.magicAccessors = ({} : Platform).magicAccessors := by rw [X.admits.platform]
  obtain ⟨c', hc', hcl⟩ := Cond.classLink_spec hown hlink e.platform hpl
  cases hcT.symm.trans hc'
  obtain ⟨kt, hkt⟩ := Vm.classAt_of_findClass hcT
  obtain ⟨vm', hW', hq⟩ := ct_go (e := e) (s₀ := s) (f := F0 m pc ls st) (a := a) (cell := cell) (VmData.ne_statics_of hobj) (Vm.classAt_of_assignable hfit ⟨kt, hkt⟩) (x := x) (rest := rest) hx h0 hcl hfit pre ((T.setTop (F0 m pc ls st)).pushFrame (.throwing a)) X.warmed (by show T.heap[a]? = _; rw [hT]; exact hcell) (hpass e.platform hpl)
  obtain ⟨t, a1, b1⟩ := k (T.setVm vm') hT (X.noted hW')
  refine ⟨t, ?_, b1⟩
  have h : At T (F0 m pc ls st).method c below := X.here
  obtain ⟨hgo, hw⟩ := h.throwing a
  refine Steps.head hgo hw ?_
  rw [stepThread_throwing (frames_entered h.top _), (ct_step (s := (T.setTop (F0 m pc ls st)).pushFrame (.throwing a)) (vm' := vm') (pc := x.handlerPc) (fun Qh E d acts => by rw [W.findHandler_eq (meth := meth) (code := c) X.method' X.code, hsplit]; exact hq Qh E d acts)).1]
  obtain ⟨g₀, hg⟩ := Option.isSome_iff_exists.mp h.top
  obtain ⟨r, hr⟩ := State.topJava?_eq_some.mp hg
  have hr' : (T.setVm vm').frames = .java g₀ :: r := hr
  rw [State.setTop_of_frames _ hr'] at a1
  have e1 : ∀ (u : State) (F G : List Frame), ((u.setFrames F).setVm vm').setFrames G = (u.setVm vm').setFrames G := by
    intro u F G
    have h1 : (u.setFrames F).setVm vm' = (u.setVm vm').setFrames F := rfl
    rw [h1, State.setFrames_setFrames]
  rw [hr, List.tail_cons, State.pushFrame, e1, State.setTop_of_frames _ hr, e1]
  exact a1
/-- the exception leaves the method -/
theorem ct_leave {Qc : Array Value → State → Outcome → State → Prop} {free : Addr → Prop} {pc : Nat} {ls : Array Slot} {a : Addr} (hout : ∀ x ∈ c.exceptionTable.toList, covers x pc = false) (hlocks : meth.locks = false)
    (hq : ∀ t : State, t.heap = H → s.WarmedH t.vm → Qc args s (.threw a) t) (hf : ∀ q ∈ locs, free q.base) : am_WX p l e R s m args below meth c H locs cells slots (fun t => ∃ o, t.status = .running ∧ Ended t below o ∧ Qc args s o t ∧ ∃ L, xm_FE s t L cells slots ∧ ∀ q ∈ L, free q.base) pc ls a := by
  intro st T hT X
  obtain ⟨h1, h2, h3, h4, h5⟩ := X.leaveThrown a (g := F0 m pc ls st) rfl rfl rfl hout hlocks
  exact ⟨_, h1, .threw a, h2, h3, hq _ hT h4, locs, ⟨h4, h5⟩, hf⟩
end
