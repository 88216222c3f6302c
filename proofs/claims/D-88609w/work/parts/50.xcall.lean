/-! CALLS OF METHODS THAT MAY THROW, with handlers or without. -/
def xm_FE (first t : State) (L : List Loc) (k n : Nat) : Prop := first.WarmedH t.vm ∧ first.sameButNew ({ t with vm := first.vm } : State) L k n
/-- a contract: the method ends, by an answer or by an exception -/
def xm_Met (l : Launch) (y : MethodName) (ws : List Cond) (rm : Room) (Pc : Array Value → State → Prop) (Qc : Array Value → State → Outcome → State → Prop) (mc ms : Nat) (free : Addr → Prop) : Prop :=
  MetFree l y (headSpec ws rm) Pc (fun _ _ _ _ _ => True) (fun a st o t => Qc a st o t ∧ ∃ L, xm_FE st t L mc ms ∧ ∀ q ∈ L, free q.base)
theorem xm_Met.of {l : Launch} {y : MethodName} {ws : List Cond} {rm : Room} {Pc : Array Value → State → Prop} {Qc : Array Value → State → Outcome → State → Prop} {mc ms : Nat} {free : Addr → Prop} (h : Met l y ws rm Pc Qc mc ms free) : xm_Met l y ws rm Pc Qc mc ms free := by
  intro p e ha hc hk s m args below hf happ hP hK
  obtain ⟨n, o, h1, h2, h3, h4, L, ⟨-, h5⟩, h6⟩ := h p e ha hc hk s m args below hf happ hP hK
  exact ⟨n, o, h1, h2, h3, h4, L, h5, h6⟩
theorem xm_Met.met {l : Launch} {y : MethodName} {ws : List Cond} {rm : Room} {Pc : Array Value → State → Prop} {Qc : Array Value → State → Outcome → State → Prop} {mc ms : Nat} {free : Addr → Prop} (h : xm_Met l y ws rm Pc Qc mc ms free) (hr : ∀ a st o t, Qc a st o t → ∃ v, o = .returned v) : Met l y ws rm Pc Qc mc ms free := by
  intro p e ha hc hk s m args below hf happ hP hK
  obtain ⟨n, o, h1, h2, h3, h4, L, h5, h6⟩ := h p e ha hc hk s m args below hf happ hP hK
  exact ⟨n, o, h1, h2, h3, h4, L, ⟨hr _ _ _ _ h4, h5⟩, h6⟩
/-- a method of so many locals, its code known -/
def xm_is (y : MethodName) (maxL : Nat) (U : State) : Prop := ∀ mk, U.methodNamed? y = some mk → ∃ (meth : Method) (c : Code), U.vm.method? mk = some meth ∧ meth.code = some c ∧ c.maxLocals = maxL ∧ parseMethodDescriptor y.desc = some meth.sig
theorem xm_is.code {y : MethodName} {b : ByteArray} {maxL : Nat} {r : Option FieldType} {a : Array Value} {U : State} (h : (Cond.code y b maxL r).before a U = true) : xm_is y maxL U := by
  intro mk hn
  obtain ⟨meth, c, h1, h2, -, h4, -, -, -, h8⟩ := Cond.code_spec hn h
  exact ⟨meth, c, h1, h2, h4, h8⟩
theorem xm_is.codeW {y : MethodName} {b : ByteArray} {maxL : Nat} {r : Option FieldType} {hh : List (Nat × Nat × Nat × Nat)} {a : Array Value} {U : State} (h : (Cond.codeWith y b maxL r hh).before a U = true) : xm_is y maxL U := by
  intro mk hn
  obtain ⟨mk', meth, c, h0, h1, h2, -, h4, -, -, -, h8⟩ := Cond.codeWith_spec h
  cases hn.symm.trans h0
  exact ⟨meth, c, h1, h2, h4, h8⟩
/-- where a call of three bytes has come -/
def xm_end (B : State) (g : JFrame) (len : Nat) (o : Outcome) : State := match o with
  | .returned v => B.setTop { g with pc := g.pc + len, stack := v.toList ++ g.stack }
  | .threw x => (B.setTop g).pushFrame (.throwing x)
/-- what a call asks of its callee -/
abbrev xm_B (R : Room) (s : State) (y : MethodName) (maxL : Nat) (ws : List Cond) (rm : Room) (mc ms : Nat) : Prop :=
  rm.cells = mc ∧ rm.slots = ms ∧ rm.frames + 1 ≤ R.frames ∧ 8 + (maxL + 11) + rm.locals ≤ R.locals ∧ (∀ w ∈ ws, ∀ (a' : Array Value) (U : State), s.WarmedH U.vm → w.before a' U = true) ∧ (∀ U : State, s.WarmedH U.vm → xm_is y maxL U) ∧ (∀ (a' : Array Value) (U : State), s.WarmedH U.vm → (Cond.initialized y.cls).before a' U = true)
section
variable {l : Launch} {R : Room} {p : Program} {e : Env} {below : List Frame} {s : State} {sargs : Array Value} {y : MethodName} {len : Nat}
theorem xm_back {ws : List Cond} {rm : Room} {Pc : Array Value → State → Prop} {Qc : Array Value → State → Outcome → State → Prop} {mc ms : Nat} {free : Addr → Prop} {maxL : Nat}
    (hM : xm_Met l y ws rm Pc Qc mc ms free) (hblind : FrameBlind Pc) (hB : xm_B R s y maxL ws rm mc ms)
    {m : MethodId} {meth : Method} {c : Code} {U : State} {Ls : List Loc} {c0 s0 : Nat} {g : JFrame} {ig : Instr} {mk : MethodId} {a : Array Value}
    (X : Stand p l e R s m sargs below meth c U Ls c0 s0) (hg : g.method = m) (hsize : g.locals.size = c.maxLocals) (hdg : decode c.code g.pc = .ok (ig, len))
    (hW : 2 * g.monitorRoom + (g.stack.map fun v => v.category).sum ≤ 8) (hn : U.methodNamed? y = some mk) (h4 : c0 + mc ≤ R.cells) (h5 : s0 + ms ≤ R.slots) (hP : Pc a U) :
    ∃ (o : Outcome) (t B : State) (L : List Loc), Stand p l e R s m sargs below meth c B (Ls ++ L) (c0 + mc) (s0 + ms) ∧ B.heap = t.heap ∧ B.vm = t.vm ∧ Qc a (U.calling g mk a) o t ∧ (∀ q ∈ L, free q.base) ∧ Steps p.tables e below (doInvoke e (U.setTop g) [] mk a).1 (xm_end B g len o) := by
  obtain ⟨hrc, hrs, hframes, hlocals, hws, hcode, hinit⟩ := hB
  have h1 : (headSpec ws rm).pre.before a U = true := atoms_intro fun w hw => hws w hw _ _ X.warmed
  have h3 := hinit a U X.warmed
  obtain ⟨methY, cY, hmY, hcY, hlY, -⟩ := hcode U X.warmed mk hn
  obtain ⟨kY, hkY, -⟩ := className_of_methodNamed hn
  have hinitY : kY.init = .initialized := Cond.initialized_spec (findClass_of_methodNamed hn) hkY h3
  have h : At U g.method c below := by rw [hg]; exact X.here
  have happ : (headSpec ws rm).appliesLoose y e.platform (U.calling g mk a) = true :=
    Spec.appliesLoose_calling (g := g) h hdg hn hkY hinitY
      (X.room_calling (g := g) (R' := rm) hsize hmY hcY hframes (by rw [hlY]; omega) (by rw [hrc]; exact h4) (by rw [hrs]; exact h5)) h1
  obtain ⟨mid, hmid⟩ := h.above
  have hfr : (U.setTop g).frames = (.java g :: mid) ++ below := by rw [State.frames_setTop' g h.top, hmid]; rfl
  obtain ⟨o, s₂, hsteps, -, hend, hq⟩ := Steps.callFree hM p X.admits X.cas X.clock (acts := []) hfr happ (hblind _ _ g mk hP) trivial
  have hq' : Qc a (U.calling g mk a) o s₂ ∧ ∃ L, xm_FE (U.calling g mk a) s₂ L mc ms ∧ ∀ q ∈ L, free q.base := hq
  rw [State.frames_setTop' g h.top] at hend
  obtain ⟨hQ, L, hfe, hL⟩ := hq'
  obtain ⟨hW₂, e2, q2, q3, q4, q5, q6⟩ := hfe
  have e3 : s₂ = ({ (U.calling g mk a).setFrames s₂.frames with heap := s₂.heap, slotsUsed := s₂.slotsUsed } : State).setVm s₂.vm := by
    have : s₂ = ({ s₂ with vm := (U.calling g mk a).vm } : State).setVm s₂.vm := rfl
    rw [e2] at this
    exact this
  have hW' : U.WarmedH s₂.vm := hW₂
  obtain ⟨g₀, hg0⟩ := Option.isSome_iff_exists.mp h.top
  obtain ⟨r, hr⟩ := State.topJava?_eq_some.mp hg0
  have hr' : (({ U with heap := s₂.heap, slotsUsed := s₂.slotsUsed } : State).setVm s₂.vm).frames = .java g₀ :: r := hr
  have hs₂ : s₂ = xm_end (({ U with heap := s₂.heap, slotsUsed := s₂.slotsUsed } : State).setVm s₂.vm) g len o := by
    cases o with
    | returned v =>
      obtain ⟨c₂, i₂, len₂, hc₂, hd₂, hf₂⟩ := hend
      have hcc : c₂ = c := by
        have h1 : s₂.code? g.method = U.code? g.method := by
          rw [State.code?_eq, State.code?_eq, hW'.alike.method?]
        exact Option.some.inj (hc₂.symm.trans (h1.trans h.code))
      subst hcc
      have hlen : len₂ = len := by rw [hdg] at hd₂; cases hd₂; rfl
      subst hlen
      refine e3.trans ?_
      rw [hf₂, State.calling_eq h.top, State.setFrames_setFrames, xm_end, State.setTop_of_frames _ hr', hr]
      rfl
    | threw x =>
      have hf₂ : s₂.frames = .throwing x :: .java g :: U.frames.tail := hend
      refine e3.trans ?_
      rw [hf₂, State.calling_eq h.top, State.setFrames_setFrames, xm_end, State.pushFrame, State.frames_setTop _ hr', State.setTop_of_frames _ hr', State.setFrames_setFrames, hr]
      rfl
  have hsame : U.sameButNew ({ U with heap := s₂.heap, slotsUsed := s₂.slotsUsed } : State) L mc ms := by
    refine ⟨?_, q2, q3, q4, q5, q6⟩
    obtain ⟨t, ht, -⟩ := State.frames_cons hr
    show ({ U with heap := s₂.heap, slotsUsed := s₂.slotsUsed } : State) = { U.setFrames U.frames with heap := s₂.heap, slotsUsed := s₂.slotsUsed }
    rw [State.setFrames_self ht]
  subst hg
  refine ⟨o, s₂, (({ U with heap := s₂.heap, slotsUsed := s₂.slotsUsed } : State).setVm s₂.vm), L,
    ⟨X.admits, X.cas, X.clock, X.frames, X.room, X.hears, X.method, X.code, (X.here.setHeapUsed s₂.heap s₂.slotsUsed).setVm hW'.alike, X.tail, State.WarmedH.trans X.warmed hW', X.limits, X.bytes, X.same.trans (hsame.setVm s.vm)⟩,
    rfl, rfl, hQ, hL, ?_⟩
  rw [← hs₂]
  exact hsteps
end
/-- a call that is run: where it comes -/
def xm_Run (p : Program) (l : Launch) (e : Env) (R : Room) (s : State) (m : MethodId) (args : Array Value) (below : List Frame) (meth : Method) (c : Code) (H : Heap) (locs : List Loc) (cells slots mc ms : Nat) (g : JFrame) (rest : List Value) (Qa : State → Outcome → State → Prop) (free : Addr → Prop) : Prop :=
  ∀ T : State, T.heap = H → Stand p l e R s m args below meth c T locs cells slots → ∃ (o : Outcome) (st₀ t T' : State) (L : List Loc), st₀.heap = H ∧ Stand p l e R s m args below meth c T' (locs ++ L) (cells + mc) (slots + ms) ∧ (∀ q ∈ L, free q.base) ∧ T'.heap = t.heap ∧ T'.vm = t.vm ∧ Qa st₀ o t ∧
    ∀ tg, Steps p.tables e below (xm_end T' { g with stack := rest } 3 o) tg → Steps p.tables e below (T.setTop g) tg
section
variable {p : Program} {l : Launch} {e : Env} {R : Room} {s : State} {m : MethodId} {args : Array Value} {below : List Frame} {meth : Method} {c : Code} {H : Heap} {locs : List Loc} {cells slots : Nat} {Q : State → Prop}
/-- behind a call -/
theorem xm_callR {mc ms pc : Nat} {ls : Array Slot} {st0 rest : List Value} {Qa : State → Outcome → State → Prop} {free : Addr → Prop} (hr : xm_Run p l e R s m args below meth c H locs cells slots mc ms (F0 m pc ls st0) rest Qa free)
    (kk : ∀ (v : Option Value) (st₀ t : State) (L : List Loc), st₀.heap = H → s.WarmedH t.vm → Qa st₀ (.returned v) t → (∀ q ∈ L, free q.base) → W p l e R s m args below meth c t.heap (locs ++ L) (cells + mc) (slots + ms) Q (F0 m (pc + 3) ls (v.toList ++ rest)))
    (kx : ∀ (x : Addr) (st₀ t : State) (L : List Loc), st₀.heap = H → s.WarmedH t.vm → Qa st₀ (.threw x) t → (∀ q ∈ L, free q.base) → am_WX p l e R s m args below meth c t.heap (locs ++ L) (cells + mc) (slots + ms) Q pc ls x) : W p l e R s m args below meth c H locs cells slots Q (F0 m pc ls st0) := by
  intro T hT X
  obtain ⟨o, st₀, t, T', L, h0, X', hL, e1, e2, hq, st⟩ := hr T hT X
  cases o with
  | returned v =>
    obtain ⟨t2, a1, b1⟩ := kk v st₀ t L h0 (by rw [← e2]; exact X'.warmed) hq hL T' e1 X'
    exact ⟨t2, st t2 a1, b1⟩
  | threw x =>
    obtain ⟨t2, a1, b1⟩ := kx x st₀ t L h0 (by rw [← e2]; exact X'.warmed) hq hL rest T' e1 X'
    exact ⟨t2, st t2 a1, b1⟩
variable {y : MethodName} {cc : ByteArray} {maxL nL mc ms n index : Nat} {ws : List Cond} {rm : Room} {Pc : Array Value → State → Prop} {Qc : Array Value → State → Outcome → State → Prop} {free : Addr → Prop} {Ts : List Cond} {own C owner : String} {b : Addr} {As rest : List Value} {pc : Nat} {ls : Array Slot} {st0 : List Value} {x : MethodName}
/-- through an object, of its own class -/
theorem xm_runV (S : CallFix p m c cc nL s args Ts own) (hM : xm_Met l y ws rm Pc Qc mc ms free) (hB : xm_B R s y maxL ws rm mc ms)
    (hlink : (Cond.methodLink own index y).before args s = true) (hinst : (Cond.instanceMethod y).before args s = true) (hsel : (Cond.selects C y y).before args s = true) (hy : y.cls ≠ "java/lang/invoke/MethodHandle" ∧ y.cls ≠ "java/lang/invoke/VarHandle")
    (hnp : (parseMethodDescriptor y.desc).map (fun d => d.parameters.length) = some n) (hp : PreV s H C b Pc As) (hn : As.length = n) (hsize : ls.size = nL) (hstack : st0 = As.reverse ++ .ref b :: rest) (hW : (rest.map fun v => v.category).sum ≤ 8) (hdg : decode cc pc = .ok (.invokevirtual index, 3)) (hf : cells + mc ≤ R.cells ∧ slots + ms ≤ R.slots) :
    xm_Run p l e R s m args below meth c H locs cells slots mc ms (F0 m pc ls st0) rest (Qc (Value.ref b :: As).toArray) free := by
  obtain ⟨hx, hb, hml, ho, -⟩ := S
  obtain ⟨hbl, ⟨cellB, hcB, hoB, hclB⟩, hPc⟩ := hp
  intro T hT X
  obtain ⟨mk, methM, hnamed, hmethM, hstM, habM⟩ := Cond.instanceMethod_spec hinst
  obtain ⟨methM', cM, hmethM', -, -, hsigM⟩ := hB.2.2.2.2.2.1 s (State.WarmedH.refl _) mk hnamed
  cases hmethM.symm.trans hmethM'
  obtain ⟨c2, r2, m2, q1, q2, q3, q4, kP, hkP, hkPi⟩ := Cond.selects_spec hsel
  cases hclB.symm.trans q1
  cases (State.methodFound?_of_named hnamed hy).symm.trans q2
  cases hnamed.symm.trans q3
  have hselP : selectMethod e.platform s.vm cellB.cls mk = .method mk := by rw [Launch.admits_selectMethod X.admits]; exact q4
  rw [hsigM] at hnp
  obtain ⟨vm₁, X₁, hstep₁⟩ := X.invokevirtual hx ho hlink hnamed hmethM hstM hkP hkPi hy (a := b) (cell := cellB) (by rw [hT]; exact hcB)
    (fun z h => by rw [h] at hoB; cases hoB) hselP hmethM habM hkP hkPi (g := F0 m pc ls st0) rfl (argsL := As) (rest := rest) (hn.trans (Option.some.inj hnp).symm) hstack (by rw [hb]; exact hdg)
  obtain ⟨o, t, B, L, X', e1, e2, hq, hL, hsteps⟩ := xm_back hM hbl hB (g := { F0 m pc ls st0 with stack := rest }) (ig := .invokevirtual index) (len := 3) (a := (Value.ref b :: As).toArray) X₁ rfl (hsize.trans hml.symm) (by rw [hb]; exact hdg) (by show 2 * 0 + _ ≤ 8; simpa using hW) (X₁.named hnamed) hf.1 hf.2 (hPc _ hT X₁.warmed)
  exact ⟨o, (T.setVm vm₁).calling { F0 m pc ls st0 with stack := rest } mk (Value.ref b :: As).toArray, t, B, L, hT, X', hL, e1, e2, hq, fun tg h => hstep₁ _ fun acts => by rw [doInvoke_state]; exact hsteps.trans h⟩
/-- through an object, by what its class selects -/
theorem xm_runU (S : CallFix p m c cc nL s args Ts own) (hM : xm_Met l y ws rm Pc Qc mc ms free) (hB : xm_B R s y maxL ws rm mc ms)
    (hlink : (Cond.methodLink own index x).before args s = true) (hsame : (Cond.sameMethod x.cls owner x.name x.desc).before args s = true) (hd0 : va_Decl s ⟨owner, x.name, x.desc⟩) (howner : owner ≠ "java/lang/invoke/MethodHandle" ∧ owner ≠ "java/lang/invoke/VarHandle")
    (hsel : (Cond.selects C x y).before args s = true) (hinst : (Cond.instanceMethod y).before args s = true)
    (hnp : (parseMethodDescriptor x.desc).map (fun d => d.parameters.length) = some n) (hp : PreV s H C b Pc As) (hn : As.length = n) (hsize : ls.size = nL) (hstack : st0 = As.reverse ++ .ref b :: rest) (hW : (rest.map fun v => v.category).sum ≤ 8) (hdg : decode cc pc = .ok (.invokevirtual index, 3)) (hf : cells + mc ≤ R.cells ∧ slots + ms ≤ R.slots) :
    xm_Run p l e R s m args below meth c H locs cells slots mc ms (F0 m pc ls st0) rest (Qc (Value.ref b :: As).toArray) free := by
  obtain ⟨hx, hb, hml, ho, -⟩ := S
  obtain ⟨hbl, ⟨cellB, hcB, hoB, hclB⟩, hPc⟩ := hp
  intro T hT X
  obtain ⟨r0, r, hnr, hrm, hstR, hsigR⟩ := hd0
  obtain ⟨cn, ck, r1, hcn, hck, hni, hf1, hn1⟩ := Cond.sameMethod_found hsame
  cases hnr.symm.trans hn1
  obtain ⟨mk, methM, hnamed, hmethM, -, habM⟩ := Cond.instanceMethod_spec hinst
  obtain ⟨c2, r2, m2, q1, q2, q3, q4, kP, hkP, hkPi⟩ := Cond.selects_spec hsel
  cases hclB.symm.trans q1
  cases hf1.symm.trans q2
  cases hnamed.symm.trans q3
  have hselP : selectMethod e.platform s.vm cellB.cls r0 = .method mk := by rw [Launch.admits_selectMethod X.admits]; exact q4
  have hsigR' : parseMethodDescriptor x.desc = some r.sig := hsigR
  rw [hsigR'] at hnp
  obtain ⟨vm₁, X₁, hstep₁⟩ := X.invokevirtualUp hx ho hlink hsame howner hnr hrm hstR (a := b) (cell := cellB) (by rw [hT]; exact hcB)
    (fun z h => by rw [h] at hoB; cases hoB) hselP hmethM habM hkP hkPi (g := F0 m pc ls st0) rfl (argsL := As) (rest := rest) (hn.trans (Option.some.inj hnp).symm) hstack (by rw [hb]; exact hdg)
  obtain ⟨o, t, B, L, X', e1, e2, hq, hL, hsteps⟩ := xm_back hM hbl hB (g := { F0 m pc ls st0 with stack := rest }) (ig := .invokevirtual index) (len := 3) (a := (Value.ref b :: As).toArray) X₁ rfl (hsize.trans hml.symm) (by rw [hb]; exact hdg) (by show 2 * 0 + _ ≤ 8; simpa using hW) (X₁.named hnamed) hf.1 hf.2 (hPc _ hT X₁.warmed)
  exact ⟨o, (T.setVm vm₁).calling { F0 m pc ls st0 with stack := rest } mk (Value.ref b :: As).toArray, t, B, L, hT, X', hL, e1, e2, hq, fun tg h => hstep₁ _ fun acts => by rw [doInvoke_state]; exact hsteps.trans h⟩
/-- a static method -/
theorem xm_runS (S : CallFix p m c cc nL s args Ts own) (hM : xm_Met l y ws rm Pc Qc mc ms free) (hB : xm_B R s y maxL ws rm mc ms)
    (hlink : (Cond.methodLink own index y).before args s = true) (hstat : (Cond.static y).before args s = true) {mk : MethodId} (hnamed : s.methodNamed? y = some mk) (hy : y.cls ≠ "java/lang/invoke/MethodHandle" ∧ y.cls ≠ "java/lang/invoke/VarHandle")
    (hnp : (parseMethodDescriptor y.desc).map (fun d => d.parameters.length) = some n) (hp : PreS s H Pc As) (hn : As.length = n) (hsize : ls.size = nL) (hstack : st0 = As.reverse ++ rest) (hW : (rest.map fun v => v.category).sum ≤ 8) (hdg : decode cc pc = .ok (.invokestatic index, 3)) (hf : cells + mc ≤ R.cells ∧ slots + ms ≤ R.slots) :
    xm_Run p l e R s m args below meth c H locs cells slots mc ms (F0 m pc ls st0) rest (Qc As.toArray) free := by
  obtain ⟨hx, hb, hml, ho, -⟩ := S
  obtain ⟨hbl, hPc⟩ := hp
  intro T hT X
  obtain ⟨methM, cM, hmethM, -, -, hsigM⟩ := hB.2.2.2.2.2.1 s (State.WarmedH.refl _) mk hnamed
  have hstatic : methM.isStatic = true := Cond.static_spec hnamed hmethM hstat
  obtain ⟨kP, hkP, -⟩ := className_of_methodNamed hnamed
  have hinitP : kP.init = .initialized := Cond.initialized_spec (findClass_of_methodNamed hnamed) hkP (hB.2.2.2.2.2.2 args s (State.WarmedH.refl _))
  rw [hsigM] at hnp
  obtain ⟨vm₁, X₁, hstep₁⟩ := X.invokestatic hx ho hlink hnamed hmethM hstatic hkP hinitP hy (g := F0 m pc ls st0) rfl (argsL := As) (rest := rest) (hn.trans (Option.some.inj hnp).symm) hstack (by rw [hb]; exact hdg)
  obtain ⟨o, t, B, L, X', e1, e2, hq, hL, hsteps⟩ := xm_back hM hbl hB (g := { F0 m pc ls st0 with stack := rest }) (ig := .invokestatic index) (len := 3) (a := As.toArray) X₁ rfl (hsize.trans hml.symm) (by rw [hb]; exact hdg) (by show 2 * 0 + _ ≤ 8; simpa using hW) (X₁.named hnamed) hf.1 hf.2 (hPc _ hT X₁.warmed)
  exact ⟨o, (T.setVm vm₁).calling { F0 m pc ls st0 with stack := rest } mk As.toArray, t, B, L, hT, X', hL, e1, e2, hq, fun tg h => hstep₁ _ fun acts => by rw [doInvoke_state]; exact hsteps.trans h⟩
end
