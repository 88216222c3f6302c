set_option maxRecDepth 100000
/-! WALKS BY HAND IN THE COMPONENT's WORLD: steps of its machine, single cells. -/
section
variable {p : Program} {l : Launch} {e : Env} {R : Room} {s : State} {m : MethodId} {args : Array Value} {below : List Frame} {meth : Method} {c : Code} {Q : State → Prop} {D : va_G} {cl : List vw_C} {ad : Nat → Nat} {d : Nat → ClassId} {nL pc : Nat} {cc : ByteArray} {own : String} {f : Nat}
/-- what is so behind a call -/
def sx_aft (p : Program) (l : Launch) (e : Env) (R : Room) (s : State) (m : MethodId) (args : Array Value) (below : List Frame) (meth : Method) (c : Code) (Q : State → Prop) (D : va_G) (cl : List vw_C) (ad : Nat → Nat) (d : Nat → ClassId) (pc : Nat) (A0 : Nat → Prop) (σ σ1 : cs_S) (r0 : Option am_V) (ι : cx_I) (H : Heap) (cells slots : Nat) (rls : Array Slot) (rr : List Value) : Prop :=
  ∀ (ι' : cx_I) (H' : Heap) (locs' : List Loc) (rv : Option Value), cx_le ι ι' → cx_W D cl ad d ι' σ1 H' → (∀ c ∈ ι'.1, cx_A ι H.size (ι'.2.1 c)) → H.size ≤ H'.size → (∀ q, q < H.size → ¬ cx_A ι H.size q → H'[q]? = H[q]?) → va_S A0 s.heap H' locs' → am_ro (cx_TR ad ι') ad r0 rv →
    W p l e R s m args below meth c H' locs' (cells + (cs_n1 σ1 - cs_n1 σ)) (slots + (cs_n2 σ1 - cs_n2 σ)) Q (F0 m (pc + 3) rls (rv.toList ++ rr))
/-- a call of the component's machine, over any cells that may be written -/
theorem sx_go {A0 : Nat → Prop} (hK : cx_K D cl ad d A0 s) {y : MethodName} {ws : List Cond} {as : List am_V} {σ σ1 : cs_S} {r0 : Option am_V} (hMet : cx_Met l D cl ad d f y ws as σ (.inl r0) σ1) {ι : cx_I} {H : Heap} {locs : List Loc} {cells slots : Nat} {rls : Array Slot} {rst rargs rr : List Value}
    (hW : cx_W D cl ad d ι σ H) (hA : ∀ c ∈ ι.1, A0 (ι.2.1 c)) (hA2 : ∀ q, s.heap.size ≤ q → A0 q) (hS : va_S A0 s.heap H locs) (hra : am_S2 (am_vr (cx_TR ad ι) ad) as rargs)
    (hrun : ∀ (Pc : Array Value → State → Prop) (Qc : Array Value → State → Outcome → State → Prop), xm_Met l y ws { frames := f, cells := cs_n1 σ1 - cs_n1 σ, slots := cs_n2 σ1 - cs_n2 σ, locals := 40 * f } Pc Qc (cs_n1 σ1 - cs_n1 σ) (cs_n2 σ1 - cs_n2 σ) (cx_A ι H.size) → FrameBlind Pc → (∀ U : State, U.heap = H → s.WarmedH U.vm → Pc rargs.toArray U) →
      xm_Run p l e R s m args below meth c H locs cells slots (cs_n1 σ1 - cs_n1 σ) (cs_n2 σ1 - cs_n2 σ) (F0 m pc rls rst) rr (Qc rargs.toArray) (cx_A ι H.size))
    (kk : sx_aft p l e R s m args below meth c Q D cl ad d pc A0 σ σ1 r0 ι H cells slots rls rr) : W p l e R s m args below meth c H locs cells slots Q (F0 m pc rls rst) := by
  have hsub : ∀ q, cx_A ι H.size q → A0 q := by
    rintro q (⟨c, hc, rfl⟩ | hq)
    · exact hA c hc
    · exact hA2 _ (Nat.le_trans hS.1 hq)
  refine xm_callR (hrun _ _ (hMet ι H.size rargs hra) ?_ ?_) ?_ ?_
  · intro a U g mk q
    obtain ⟨q0, q1, q2, q3, q4, q5⟩ := q
    exact ⟨q0, q1, q2, va_K.moved (u := U) (U := U.calling g mk a) (Vm.Alike.refl U.vm) q3, cx_N.warm (s := U) (U := U.calling g mk a) (State.WarmedH.refl U) q4, cx_Z.moved (u := U) (U := U.calling g mk a) (Vm.Alike.refl U.vm) q5⟩
  · intro U hU hWm
    refine ⟨rfl, by rw [hU], by rw [hU]; exact hW, va_K.moved hWm.alike hK.1, hK.2.1.warm hWm, ?_⟩
    rw [hU]
    exact ((hK.2.2.moved hWm.alike).kept (fun a h1 h2 => hS.2.1 a h1 h2)).narrow hsub
  · intro v st₀ t L h0 hWm hq hL
    obtain ⟨ι', ⟨rv, hrv, hro⟩, hle, hW1, hA1, f1, f2⟩ := hq
    cases hrv
    rw [h0] at f1 f2
    refine kk ι' t.heap (locs ++ L) v hle hW1 hA1 f1 f2 ⟨Nat.le_trans hS.1 f1, fun q h1 h2 => ?_, fun q hq => ?_⟩ hro
    · rw [f2 q (Nat.lt_of_lt_of_le h1 hS.1) (fun z => h2 (hsub q z))]
      exact hS.2.1 q h1 h2
    · rcases List.mem_append.mp hq with h | h
      · exact hS.2.2 q h
      · exact hsub _ (hL q h)
  · intro x st₀ t L h0 hWm hq hL
    obtain ⟨ι', ⟨rv, hrv, -⟩, -⟩ := hq
    cases hrv
/-- a static method -/
theorem sx_stat (hx : p.tables.exec = Jvm.exec) (hb : c.code = cc) (hml : c.maxLocals = nL) (hown : s.vm.findClass own = some m.cls) (hts : ∀ w ∈ lw_all, w.before args s = true) {A0 : Nat → Prop} (hK : cx_K D cl ad d A0 s) {y : MethodName} {ws : List Cond} {idx n maxL : Nat} (hcb : cx_cb y ws maxL) (hR : f + 1 ≤ R.frames ∧ 40 * (f + 1) ≤ R.locals) (hl : Cond.methodLink own idx y ∈ lw_all) (hstat : Cond.static y ∈ lw_all) (hnp : (parseMethodDescriptor y.desc).map (fun d => d.parameters.length) = some n) (hdg : decode cc pc = .ok (.invokestatic idx, 3))
    {as : List am_V} {σ σ1 : cs_S} {r0 : Option am_V} (hMet : cx_Met l D cl ad d f y ws as σ (.inl r0) σ1) {ι : cx_I} {H : Heap} {locs : List Loc} {cells slots : Nat} {rls : Array Slot} {rst : List Value} (hW : cx_W D cl ad d ι σ H) (hA : ∀ c ∈ ι.1, A0 (ι.2.1 c)) (hA2 : ∀ q, s.heap.size ≤ q → A0 q) (hS : va_S A0 s.heap H locs) (rargs rr : List Value) (hra : am_S2 (am_vr (cx_TR ad ι) ad) as rargs)
    (hlen : rargs.length = n) (hsz : rls.size = nL) (hrst : rst = rargs.reverse ++ rr) (h8 : (rr.map fun v => v.category).sum ≤ 8) (hc : cells + (cs_n1 σ1 - cs_n1 σ) ≤ R.cells ∧ slots + (cs_n2 σ1 - cs_n2 σ) ≤ R.slots)
    (kk : sx_aft p l e R s m args below meth c Q D cl ad d pc A0 σ σ1 r0 ι H cells slots rls rr) : W p l e R s m args below meth c H locs cells slots Q (F0 m pc rls rst) := by
  refine sx_go hK hMet hW hA hA2 hS hra (fun Pc Qc hM hbl hPc => ?_) kk
  have hnm : ∃ mk, s.methodNamed? y = some mk := by
    rcases hcb.2.1 with ⟨b, r, hc⟩ | ⟨b, r, hh, hc⟩
    · exact Cond.code_named (hts _ (hcb.1 _ hc).1)
    · obtain ⟨mk, _, _, h, -⟩ := Cond.codeWith_spec (hts _ (hcb.1 _ hc).1)
      exact ⟨mk, h⟩
  obtain ⟨mk, hnamed⟩ := hnm
  exact xm_runS ⟨hx, hb, hml, hown, hts⟩ hM (cx_B hts hcb hR) (hts _ hl) (hts _ hstat) hnamed hcb.2.2.2.1 hnp ⟨hbl, hPc⟩ hlen hsz hrst h8 hdg hc
/-- through an object of a known class -/
theorem sx_virt (hx : p.tables.exec = Jvm.exec) (hb : c.code = cc) (hml : c.maxLocals = nL) (hown : s.vm.findClass own = some m.cls) (hts : ∀ w ∈ lw_all, w.before args s = true) {A0 : Nat → Prop} (hK : cx_K D cl ad d A0 s) {y : MethodName} {ws : List Cond} {idx n maxL : Nat} {C : String} (hcb : cx_cb y ws maxL) (hR : f + 1 ≤ R.frames ∧ 40 * (f + 1) ≤ R.locals) (hl : Cond.methodLink own idx y ∈ lw_all) (hinst : Cond.instanceMethod y ∈ lw_all) (hsel : Cond.selects C y y ∈ lw_all) (hnp : (parseMethodDescriptor y.desc).map (fun d => d.parameters.length) = some n) (hdg : decode cc pc = .ok (.invokevirtual idx, 3))
    {as : List am_V} {σ σ1 : cs_S} {r0 : Option am_V} (hMet : cx_Met l D cl ad d f y ws as σ (.inl r0) σ1) {ι : cx_I} {H : Heap} {locs : List Loc} {cells slots : Nat} {rls : Array Slot} {rst : List Value} (hW : cx_W D cl ad d ι σ H) (hA : ∀ c ∈ ι.1, A0 (ι.2.1 c)) (hA2 : ∀ q, s.heap.size ≤ q → A0 q) (hS : va_S A0 s.heap H locs) {b : Nat} (hrecv : ∃ cell : Cell, H[b]? = some cell ∧ cell.vm.isStatics = false ∧ s.vm.findClass C = some cell.cls) (rt rr : List Value) (hra : am_S2 (am_vr (cx_TR ad ι) ad) as (.ref b :: rt))
    (hlen : rt.length = n) (hsz : rls.size = nL) (hrst : rst = rt.reverse ++ .ref b :: rr) (h8 : (rr.map fun v => v.category).sum ≤ 8) (hc : cells + (cs_n1 σ1 - cs_n1 σ) ≤ R.cells ∧ slots + (cs_n2 σ1 - cs_n2 σ) ≤ R.slots)
    (kk : sx_aft p l e R s m args below meth c Q D cl ad d pc A0 σ σ1 r0 ι H cells slots rls rr) : W p l e R s m args below meth c H locs cells slots Q (F0 m pc rls rst) := by
  refine sx_go hK hMet hW hA hA2 hS hra (fun Pc Qc hM hbl hPc => ?_) kk
  exact xm_runV (C := C) (b := b) (As := rt) ⟨hx, hb, hml, hown, hts⟩ hM (cx_B hts hcb hR) (hts _ hl) (hts _ hinst) (hts _ hsel) hcb.2.2.2.1 hnp ⟨hbl, hrecv, hPc⟩ hlen hsz hrst h8 hdg hc
/-- through an object, by what its class selects -/
theorem sx_up (hx : p.tables.exec = Jvm.exec) (hb : c.code = cc) (hml : c.maxLocals = nL) (hown : s.vm.findClass own = some m.cls) (hts : ∀ w ∈ lw_all, w.before args s = true) {A0 : Nat → Prop} (hK : cx_K D cl ad d A0 s) {x y : MethodName} {ws : List Cond} {idx n maxL : Nat} {C owner : String} (hcb : cx_cb y ws maxL) (hR : f + 1 ≤ R.frames ∧ 40 * (f + 1) ≤ R.locals) (hl : Cond.methodLink own idx x ∈ lw_all) (hsame : Cond.sameMethod x.cls owner x.name x.desc ∈ lw_all) (hd0 : va_Decl s ⟨owner, x.name, x.desc⟩) (howner : owner ≠ "java/lang/invoke/MethodHandle" ∧ owner ≠ "java/lang/invoke/VarHandle") (hsel : Cond.selects C x y ∈ lw_all) (hinst : Cond.instanceMethod y ∈ lw_all) (hnp : (parseMethodDescriptor x.desc).map (fun d => d.parameters.length) = some n) (hdg : decode cc pc = .ok (.invokevirtual idx, 3))
    {as : List am_V} {σ σ1 : cs_S} {r0 : Option am_V} (hMet : cx_Met l D cl ad d f y ws as σ (.inl r0) σ1) {ι : cx_I} {H : Heap} {locs : List Loc} {cells slots : Nat} {rls : Array Slot} {rst : List Value} (hW : cx_W D cl ad d ι σ H) (hA : ∀ c ∈ ι.1, A0 (ι.2.1 c)) (hA2 : ∀ q, s.heap.size ≤ q → A0 q) (hS : va_S A0 s.heap H locs) {b : Nat} (hrecv : ∃ cell : Cell, H[b]? = some cell ∧ cell.vm.isStatics = false ∧ s.vm.findClass C = some cell.cls) (rt rr : List Value) (hra : am_S2 (am_vr (cx_TR ad ι) ad) as (.ref b :: rt))
    (hlen : rt.length = n) (hsz : rls.size = nL) (hrst : rst = rt.reverse ++ .ref b :: rr) (h8 : (rr.map fun v => v.category).sum ≤ 8) (hc : cells + (cs_n1 σ1 - cs_n1 σ) ≤ R.cells ∧ slots + (cs_n2 σ1 - cs_n2 σ) ≤ R.slots)
    (kk : sx_aft p l e R s m args below meth c Q D cl ad d pc A0 σ σ1 r0 ι H cells slots rls rr) : W p l e R s m args below meth c H locs cells slots Q (F0 m pc rls rst) := by
  refine sx_go hK hMet hW hA hA2 hS hra (fun Pc Qc hM hbl hPc => ?_) kk
  exact xm_runU (C := C) (owner := owner) (b := b) (As := rt) ⟨hx, hb, hml, hown, hts⟩ hM (cx_B hts hcb hR) (hts _ hl) (hts _ hsame) hd0 howner (hts _ hsel) (hts _ hinst) hnp ⟨hbl, hrecv, hPc⟩ hlen hsz hrst h8 hdg hc
end
section
variable {p : Program} {l : Launch} {e : Env} {R : Room} {s : State} {m : MethodId} {args : Array Value} {below : List Frame} {meth : Method} {c : Code} {H : Heap} {locs : List Loc} {cells slots : Nat} {Q : State → Prop}
variable {cc : ByteArray} {pc : Nat} {ls : Array Slot} {rest : List Value} {D : va_G} {cl : List vw_C} {a : Nat} {tys : List (ClassId × FieldType)}
/-- a field of one cell is written -/
theorem sx_put (hexec : p.tables.exec = Jvm.exec) (hb : c.code = cc) {own ref C : String} {T : u_T} {N ci index : Nat} {Ts : List Cond} (hts : ∀ w ∈ Ts, w.before args s = true) (hin : ∀ w ∈ u_ws C T N, w ∈ Ts) (ty0 : Nat → FieldType) (hty : ∀ k, k < N → parseFieldDescriptor (T k).2.2.1 = some (ty0 k)) (hnm : ∀ a, a < N → ∀ b, b < N → a ≠ b → (T a).2.1 ≠ (T b).2.1) (hown : s.vm.findClass own = some m.cls) (hK : va_K D cl tys s) {fs : List Value} (hP : va_at D cl (a, .inr (ci, fs)) H) (hc : cl[ci]? = some (C, T, N)) (k : Nat) (hk : k < N) (hlink : (Cond.fieldLink own index ref (T k).2.1 (T k).2.2.1).before args s = true) (hsame : ∀ x, s.fieldFound? (T k).1 (T k).2.1 (T k).2.2.1 = some x → s.fieldFound? ref (T k).2.1 (T k).2.2.1 = some x) (hfin : (T k).2.2.2 = false) {ty : FieldType} {v : Value} (hd : parseFieldDescriptor (T k).2.2.1 = some ty) (hn : narrow ty v = v) (hfit : fits ty v = true) (hl : k < fs.length)
    (hdg : decode cc pc = .ok (.putfield index, 3)) (kk : ∀ (H1 : Heap) (z : Nat), va_at D cl (a, .inr (ci, fs.set k v)) H1 → H1.size = H.size → (∀ q : Nat, q ≠ a → H1[q]? = H[q]?) → W p l e R s m args below meth c H1 (locs ++ [⟨a, z⟩]) cells slots Q (F0 m (pc + 3) ls rest)) : W p l e R s m args below meth c H locs cells slots Q (F0 m pc ls (v :: .ref a :: rest)) := by
  have hap := va_apart (own := own) hts hin ty0 hty hnm hK hc
  obtain ⟨r, h1, cell, q1, q2, q3, q4⟩ := hP
  have hr : r = (C, T, N) := Option.some.inj (h1.symm.trans hc)
  subst hr
  obtain ⟨hS, hfc, kC, hkC, hkind⟩ := hK.1 ci _ hc
  obtain ⟨cf, kf, fi, f, hi, hsl⟩ := hS k hk
  have hlay := hts _ (hin _ (u_in_lay hk))
  unfold u_lay at hlay
  rw [if_neg (by rw [hfin]; decide)] at hlay
  have hst := (u_facts hfc hkC (u_lays hts hin hk) hi).1
  have h6 := u_store hfc hkC hkind hlay hi hd hn hfit
  refine W.putK hexec hb (f := f) ⟨hown, hlink, ⟨_, _, _, hsame _ hi⟩, hst⟩ (by rw [q2]; exact h6) q1 q3 (by rw [hsl]; exact k2_hasslot (q4 k hk)) rfl rfl hdg fun H' e1 e2 e3 => ?_
  rw [hsl] at e1 ⊢
  exact kk H' _ ⟨_, hc, t_OB.to (V := updV (vp_V fs) k v) ⟨_, e1, q2, q3, t_set q4 hap hk v⟩ (fun j _ => vp_updV_set hl v j)⟩ e2 e3
end
/-! methods by hand: how they begin, how they end -/
theorem sx_ofW {l : Launch} {y : MethodName} {ws : List Cond} {rm : Room} {Pc : Array Value → State → Prop} {Qc : Array Value → State → Outcome → State → Prop} {mc ms : Nat} {free : Addr → Prop} {cc : ByteArray} {maxL : Nat} {ret : Option FieldType} {hh : List (Nat × Nat × Nat × Nat)} (hy : plainName y.cls = true) (hws : (ws = ws_ y cc maxL ret ∧ hh = []) ∨ ws = wsW_ y cc maxL ret hh)
    (body : ∀ (p : Program) (e : Env) (s : State) (m : MethodId) (args : Array Value) (below : List Frame) (meth : Method) (c : Code), l.admits e → p.tables.exec = Jvm.exec → c.code = cc → c.maxLocals = maxL → meth.sig.returnType = ret → meth.locks = false → meth.name = y.name → (∀ w ∈ lw_all, w.before args s = true) → s.vm.findClass y.cls = some m.cls → c.exceptionTable.toList.map (fun x => (x.startPc, x.endPc, x.handlerPc, x.catchType)) = hh → Pc args s →
      W p l e rm s m args below meth c s.heap [] 0 0 (xm_MQ below Qc args s mc ms free) (entryFrame m args maxL)) : xm_Met l y ws rm Pc Qc mc ms free := by
  refine xm_ofW (cc := cc) (maxL := maxL) (ret := ret) hy ?_ ?_
  · intro args s m hw hn
    rcases hws with ⟨rfl, -⟩ | rfl
    · obtain ⟨meth, c, h1, h2, h3, h4, h5, h6, -, -⟩ := Cond.code_spec hn (hw _ List.mem_cons_self)
      exact ⟨meth, c, h1, h2, h3, h4, h5, h6⟩
    · obtain ⟨m', meth, c, h0, h1, h2, h3, h4, -, h6, h7, -⟩ := Cond.codeWith_spec (hw _ List.mem_cons_self)
      cases hn.symm.trans h0
      exact ⟨meth, c, h1, h2, h3, h4, h6, h7⟩
  · intro p e s m args below meth c s₁ B hml hP
    have hw0 := atoms_spec (ws := ws) B.pre
    have hts : ∀ w ∈ lw_all, w.before args s = true := fun w h => hw0 w (by rcases hws with ⟨rfl, -⟩ | rfl <;> exact List.mem_cons_of_mem _ h)
    refine body p e s m args below meth c B.admits B.exec B.bytes hml B.returns B.notSynchronized (name_of_methodNamed B.named B.method).1 hts (findClass_of_methodNamed B.named) ?_ hP
    rcases hws with ⟨rfl, rfl⟩ | rfl
    · have he := BodyLoose.noHandlers B (hw0 _ List.mem_cons_self)
      have : c.exceptionTable = #[] := Array.isEmpty_iff.mp he
      rw [this]
      rfl
    · obtain ⟨m', meth', c', h0, h1, h2, -, -, h5, -⟩ := Cond.codeWith_spec (hw0 _ List.mem_cons_self)
      cases B.named.symm.trans h0
      cases B.method.symm.trans h1
      cases (Stand.of_body B).code.symm.trans h2
      exact h5
section
variable {D : va_G} {cl : List vw_C} {ad : Nat → Nat} {d : Nat → ClassId} {ι ι' ι0 : cx_I} {κ κ' κ0 : sx_I} {SH SH' SH0 : Nat → sh_T} {σ σ' : cs_S} {H H1 : Heap} {locs : List Loc} {cells slots : Nat} {s : State}
theorem cx_K.narrow {A B : Nat → Prop} {U : State} (h : cx_K D cl ad d A U) (hAB : ∀ q, B q → A q) : cx_K D cl ad d B U := ⟨h.1, h.2.1, h.2.2.narrow hAB⟩
/-- the running facts of a walk by hand -/
def sx_G (D : va_G) (cl : List vw_C) (ad : Nat → Nat) (d : Nat → ClassId) (ι0 : cx_I) (A0 : Nat → Prop) (H0 : Heap) (σ : cs_S) (SH : Nat → sh_T) (ι : cx_I) (κ : sx_I) (H : Heap) (locs : List Loc) : Prop :=
  cx_W D cl ad d ι σ H ∧ sx_W D cl ad d ι κ SH H ∧ cx_le ι0 ι ∧ (∀ c ∈ ι.1, A0 (ι.2.1 c)) ∧ (∀ j, sx_has SH j → A0 (κ.1 j)) ∧ va_S A0 H0 H locs
theorem sx_G.start (hW : cx_W D cl ad d ι σ H) (hV : sx_W D cl ad d ι κ SH H) : sx_G D cl ad d ι (sx_A ι κ SH H.size) H σ SH ι κ H [] := ⟨hW, hV, cx_le.rf ι, fun c hc => .inl (.inl ⟨c, hc, rfl⟩), fun j hj => .inr ⟨j, hj, rfl⟩, va_S.rf⟩
/-- behind a call -/
theorem sx_G.call2 {A0 : Nat → Prop} {H0 : Heap} {locs' : List Loc} (hG : sx_G D cl ad d ι0 A0 H0 σ SH ι κ H locs) (hA2 : ∀ q, H0.size ≤ q → A0 q) (hle : cx_le ι ι') (hW : cx_W D cl ad d ι' σ' H1) (hA : ∀ c ∈ ι'.1, cx_A ι H.size (ι'.2.1 c)) (hz : H.size ≤ H1.size) (hk : ∀ j, sx_has SH j → H1[κ.1 j]? = H[κ.1 j]?) (hS : va_S A0 H0 H1 locs') : sx_G D cl ad d ι0 A0 H0 σ' SH ι' κ H1 locs' := by
  obtain ⟨g1, g2, g3, g4, g5, g6⟩ := hG
  refine ⟨hW, g2.kept hle.cr (fun c hc => ?_) hz hk, g3.tr hle, fun c hc => ?_, g5, hS⟩
  · rcases hA c hc with ⟨c', h1, h2⟩ | h
    · exact .inl ⟨c', h1, h2⟩
    · exact .inr h
  · rcases hA c hc with ⟨c', h1, h2⟩ | h
    · rw [h2]
      exact g4 c' h1
    · exact hA2 _ (Nat.le_trans g6.1 h)
theorem sx_G.call {A0 : Nat → Prop} {H0 : Heap} {locs' : List Loc} (hG : sx_G D cl ad d ι0 A0 H0 σ SH ι κ H locs) (hA2 : ∀ q, H0.size ≤ q → A0 q) (hle : cx_le ι ι') (hW : cx_W D cl ad d ι' σ' H1) (hA : ∀ c ∈ ι'.1, cx_A ι H.size (ι'.2.1 c)) (hz : H.size ≤ H1.size) (hk : ∀ q, q < H.size → ¬ cx_A ι H.size q → H1[q]? = H[q]?) (hS : va_S A0 H0 H1 locs') : sx_G D cl ad d ι0 A0 H0 σ' SH ι' κ H1 locs' :=
  hG.call2 hA2 hle hW hA hz (fun j hj => hk _ (hG.2.1.2.2.2.1 j hj) (sx_has.lt hG.2.1 hj)) hS
/-- nothing but new cells -/
theorem sx_G.grow {A0 : Nat → Prop} {H0 : Heap} (hG : sx_G D cl ad d ι0 A0 H0 σ SH ι κ H locs) (hz : H.size ≤ H1.size) (hk : ∀ q, q < H.size → H1[q]? = H[q]?) : sx_G D cl ad d ι0 A0 H0 σ SH ι κ H1 locs := by
  obtain ⟨g1, g2, g3, g4, g5, g6⟩ := hG
  refine ⟨g1.kept fun c hc => hk _ (va_at.lt (g1.1 c hc)), g2.kept (cx_le.rf ι).cr (fun c hc => .inl ⟨c, hc, rfl⟩) hz fun j hj => hk _ (g2.2.2.2.1 j hj), g3, g4, g5, ⟨Nat.le_trans g6.1 hz, fun q h1 h2 => ?_, g6.2.2⟩⟩
  rw [hk q (Nat.lt_of_lt_of_le h1 g6.1)]
  exact g6.2.1 q h1 h2
/-- the end: what the contract says -/
theorem sx_G.fin (hG : sx_G D cl ad d ι0 (sx_A ι0 κ0 SH0 s.heap.size) s.heap σ SH ι κ H locs) {o : am_O ⊕ String} {o' : Outcome} {t : State} (ht : t.heap = H) (hro : sx_ro ad ι o o' t) :
    ∃ ι' κ', sx_ro ad ι' o o' t ∧ cx_le ι0 ι' ∧ cx_W D cl ad d ι' σ t.heap ∧ sx_W D cl ad d ι' κ' SH t.heap ∧ (∀ c ∈ ι'.1, sx_A ι0 κ0 SH0 s.heap.size (ι'.2.1 c)) ∧ (∀ j, sx_has SH j → sx_A ι0 κ0 SH0 s.heap.size (κ'.1 j)) ∧ va_F (sx_A ι0 κ0 SH0 s.heap.size) s t := by
  obtain ⟨g1, g2, g3, g4, g5, g6⟩ := hG
  exact ⟨ι, κ, hro, g3, by rw [ht]; exact g1, by rw [ht]; exact g2, g4, g5, g6.F ht⟩
/-- a shelf gets something else -/
theorem sx_G.put {A0 : Nat → Prop} {H0 : Heap} (hA2 : ∀ q, H0.size ≤ q → A0 q) (hG : sx_G D cl ad d ι0 A0 H0 σ SH ι κ H locs) {i z : Nat} (hi : i < 8) {q : sh_T} {v : Value} {r : Nat} (h1 : va_at D cl (κ.1 (1 + i), .inr (13, [v])) H1) (hz : H1.size = H.size) (hk : ∀ q, q ≠ κ.1 (1 + i) → H1[q]? = H[q]?)
    (hq : (q.1 = 0 ∧ v = .null) ∨ (q.1 = 1 ∧ tr_nd q.2.1 = true ∧ cx_TR ad ι q.2.1 v) ∨ ((q.1 = 3 ∨ q.1 = 4) ∧ v = .ref r ∧ va_at D cl (r, sx_row d q) H ∧ H0.size ≤ r ∧ (∀ c ∈ ι.1, ι.2.1 c ≠ r) ∧ ∀ j, sx_has SH j → κ.1 j ≠ r)) :
    sx_G D cl ad d ι0 A0 H0 σ (fun j => if j = i then q else SH j) ι (va_up κ.1 (9 + i) r, va_up κ.2 i v) H1 (locs ++ [⟨κ.1 (1 + i), z⟩]) := by
  obtain ⟨g1, g2, g3, g4, g5, g6⟩ := hG
  obtain ⟨w0, w1, w2, w3, w4, w5⟩ := g2
  have hself : sx_has SH (1 + i) := .inl (by omega)
  have hold : ∀ j, j ≠ 9 + i → sx_has (fun j => if j = i then q else SH j) j → sx_has SH j := by
    intro j hj h
    rcases h with h | ⟨h, h'⟩
    · exact .inl h
    · by_cases h8 : j ≤ 8
      · exact .inl h8
      · refine .inr ⟨h, ?_⟩
        have h' : 3 ≤ (if j - 9 = i then q else SH (j - 9)).1 := h'
        rw [if_neg (by omega)] at h'
        exact h'
  have hnew : sx_has (fun j => if j = i then q else SH j) (9 + i) → 3 ≤ q.1 := by
    rintro (h | ⟨-, h⟩)
    · omega
    · have h : 3 ≤ (if 9 + i - 9 = i then q else SH (9 + i - 9)).1 := h
      rw [if_pos (by omega)] at h
      exact h
  have hrow : 3 ≤ q.1 → v = .ref r ∧ va_at D cl (r, sx_row d q) H ∧ H0.size ≤ r ∧ (∀ c ∈ ι.1, ι.2.1 c ≠ r) ∧ ∀ j, sx_has SH j → κ.1 j ≠ r := by
    intro h3
    rcases hq with ⟨h, -⟩ | ⟨h, -⟩ | ⟨-, h⟩
    · omega
    · omega
    · exact h
  have e1 : ∀ j, j ≠ 9 + i → va_up κ.1 (9 + i) r j = κ.1 j := fun j h => va_up_ne _ _ h
  have e2 : va_up κ.1 (9 + i) r (9 + i) = r := va_up_self _ _ _
  refine ⟨g1.kept fun c hc => hk _ (w1 _ hself c hc), ⟨?_, ?_, ?_, ?_, ?_, ?_⟩, g3, g4, ?_, g6.put hz hk (g5 _ hself)⟩
  · show va_up κ.1 (9 + i) r 0 = _
    rw [e1 0 (by omega)]
    exact w0
  · intro j hj c hc
    show ι.2.1 c ≠ va_up κ.1 (9 + i) r j
    by_cases ej : j = 9 + i
    · rw [ej, e2]
      exact (hrow (hnew (ej ▸ hj))).2.2.2.1 c hc
    · rw [e1 j ej]
      exact w1 j (hold j ej hj) c hc
  · intro j j' hj hj' he
    have he : va_up κ.1 (9 + i) r j = va_up κ.1 (9 + i) r j' := he
    by_cases ej : j = 9 + i
    · by_cases ej' : j' = 9 + i
      · rw [ej, ej']
      · rw [ej, e2, e1 j' ej'] at he
        exact absurd he.symm ((hrow (hnew (ej ▸ hj))).2.2.2.2 j' (hold j' ej' hj'))
    · by_cases ej' : j' = 9 + i
      · rw [ej', e2, e1 j ej] at he
        exact absurd he ((hrow (hnew (ej' ▸ hj'))).2.2.2.2 j (hold j ej hj))
      · rw [e1 j ej, e1 j' ej'] at he
        exact w2 j j' (hold j ej hj) (hold j' ej' hj') he
  · intro j hj
    show va_up κ.1 (9 + i) r j < H1.size
    rw [hz]
    by_cases ej : j = 9 + i
    · rw [ej, e2]
      exact va_at.lt (hrow (hnew (ej ▸ hj))).2.1
    · rw [e1 j ej]
      exact w3 j (hold j ej hj)
  · have he : (fun j => if j < 8 then some (va_up κ.1 (9 + i) r (1 + j)) else none) = (fun j => if j < 8 then some (κ.1 (1 + j)) else none) := by
      funext j
      by_cases h : j < 8
      · rw [if_pos h, if_pos h, e1 _ (by omega)]
      · rw [if_neg h, if_neg h]
    show va_at D cl (va_up κ.1 (9 + i) r 0, .inl (d 7, 8, .inr (.inr (.inr (.inr (fun j => if j < 8 then some (va_up κ.1 (9 + i) r (1 + j)) else none)))))) H1
    rw [he, e1 0 (by omega)]
    exact va_at.kept w4 (hk _ fun z => by have := w2 _ _ (.inl (by omega)) hself z; omega)
  · intro i' hi'
    show sx_1 D cl ad d ι (va_up κ.1 (9 + i) r, va_up κ.2 i v) (if i' = i then q else SH i') H1 i'
    by_cases ei : i' = i
    · subst ei
      rw [if_pos rfl]
      refine ⟨?_, ?_⟩
      · show va_at D cl (va_up κ.1 (9 + i') r (1 + i'), .inr (13, [va_up κ.2 i' v i'])) H1
        rw [e1 (1 + i') (by omega), va_up_self]
        exact h1
      · show (_ ∧ va_up κ.2 i' v i' = _) ∨ (_ ∧ _ ∧ cx_TR ad ι q.2.1 (va_up κ.2 i' v i')) ∨ (_ ∧ va_up κ.2 i' v i' = .ref (va_up κ.1 (9 + i') r (9 + i')) ∧ va_at D cl (va_up κ.1 (9 + i') r (9 + i'), _) H1)
        rw [va_up_self, e2]
        rcases hq with h | h | ⟨h, h2, h3, h4, h5, h6⟩
        · exact .inl h
        · exact .inr (.inl h)
        · exact .inr (.inr ⟨h, h2, va_at.kept h3 (hk _ fun z => h6 _ hself z.symm)⟩)
    · rw [if_neg ei]
      obtain ⟨a1, a2⟩ := w5 i' hi'
      have hne : κ.1 (1 + i') ≠ κ.1 (1 + i) := fun z => ei (by have := w2 _ _ (.inl (by omega)) hself z; omega)
      refine ⟨?_, ?_⟩
      · show va_at D cl (va_up κ.1 (9 + i) r (1 + i'), .inr (13, [va_up κ.2 i v i'])) H1
        rw [e1 (1 + i') (by omega), va_up_ne _ _ ei]
        exact va_at.kept a1 (hk _ hne)
      · show (_ ∧ va_up κ.2 i v i' = _) ∨ (_ ∧ _ ∧ cx_TR ad ι (SH i').2.1 (va_up κ.2 i v i')) ∨ (_ ∧ va_up κ.2 i v i' = .ref (va_up κ.1 (9 + i) r (9 + i')) ∧ va_at D cl (va_up κ.1 (9 + i) r (9 + i'), _) H1)
        rw [va_up_ne _ _ ei, e1 (9 + i') (by omega)]
        rcases a2 with h | h | ⟨h, h2, h3⟩
        · exact .inl h
        · exact .inr (.inl h)
        · refine .inr (.inr ⟨h, h2, va_at.kept h3 (hk _ fun z => ?_)⟩)
          have := w2 _ _ (.inr ⟨by omega, by rw [show 9 + i' - 9 = i' by omega]; omega⟩) hself z
          omega
  · intro j hj
    show A0 (va_up κ.1 (9 + i) r j)
    by_cases ej : j = 9 + i
    · rw [ej, e2]
      exact hA2 _ (hrow (hnew (ej ▸ hj))).2.2.1
    · rw [e1 j ej]
      exact g5 j (hold j ej hj)
end
