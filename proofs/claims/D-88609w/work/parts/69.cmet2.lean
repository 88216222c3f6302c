/-! THE COMPONENT's CONTRACTS: by induction over the depth of calls; what isn't run by the machine is a premise here. -/
def xm_MQ (below : List Frame) (Qc : Array Value → State → Outcome → State → Prop) (a : Array Value) (s : State) (mc ms : Nat) (free : Addr → Prop) : State → Prop := fun t =>
  ∃ o, t.status = .running ∧ Ended t below o ∧ Qc a s o t ∧ ∃ L, xm_FE s t L mc ms ∧ ∀ q ∈ L, free q.base
theorem xm_MQ.of {below : List Frame} {Qc : Array Value → State → Outcome → State → Prop} {a : Array Value} {s : State} {mc ms : Nat} {free : Addr → Prop} {t : State} (h : MQ below Qc a s mc ms free t) : xm_MQ below Qc a s mc ms free t := by
  obtain ⟨o, h1, h2, h3, L, ⟨-, h4⟩, h5⟩ := h
  exact ⟨o, h1, h2, h3, L, h4, h5⟩
theorem xm_ofW {l : Launch} {y : MethodName} {ws : List Cond} {rm : Room} {Pc : Array Value → State → Prop} {Qc : Array Value → State → Outcome → State → Prop} {mc ms : Nat} {free : Addr → Prop} {cc : ByteArray} {maxL : Nat} {ret : Option FieldType} (hy : plainName y.cls = true)
    (his : ∀ (args : Array Value) (s : State) (m : MethodId), (∀ w ∈ ws, w.before args s = true) → s.methodNamed? y = some m → ∃ (meth : Method) (c : Code), s.vm.method? m = some meth ∧ meth.code = some c ∧ c.code = cc ∧ c.maxLocals = maxL ∧ meth.sig.returnType = ret ∧ meth.locks = false)
    (body : ∀ p e s m args below meth c s₁, BodyLoose p l y (headSpec ws rm) cc maxL ret e s m args below meth c s₁ → c.maxLocals = maxL → Pc args s →
      W p l e (headSpec ws rm).room s m args below meth c s.heap [] 0 0 (xm_MQ below Qc args s mc ms free) (entryFrame m args maxL)) : xm_Met l y ws rm Pc Qc mc ms free := by
  refine MetFree.of_bodyS (code := cc) (maxLocals := maxL) (ret := ret) hy ?_ ?_
  · intro args s m h hn
    exact his args s m (atoms_spec (ws := ws) h) hn
  · intro p e s m args below meth c s₁ B hml hP _
    have hh0 : s₁.heap = s.heap := by rw [B.state]; rfl
    obtain ⟨t, a1, o, b1, b2, b3⟩ := body p e s m args below meth c s₁ B hml hP s₁ hh0 (Stand.of_body B)
    exact ⟨t, o, a1, b1, b2, ⟨b3.1, b3.2⟩⟩
theorem xm_W {p : Program} {l : Launch} {e : Env} {R : Room} {s : State} {m : MethodId} {args : Array Value} {below : List Frame} {meth : Method} {c : Code} {H : Heap} {locs : List Loc} {cells slots : Nat} {Q Q' : State → Prop} {g : JFrame} (h : W p l e R s m args below meth c H locs cells slots Q g) (hq : ∀ t, Q t → Q' t) : W p l e R s m args below meth c H locs cells slots Q' g := by
  intro T hT X
  obtain ⟨t, a, b⟩ := h T hT X
  exact ⟨t, a, hq t b⟩
/-- a method's table of handlers, and the machine's -/
def cx_ex (mt cn : Nat) (c : Code) : Prop := (cs_hd mt = am_no ∧ c.exceptionTable.toList = []) ∨ ∃ (x : ExceptionTableEntry) (a b q : Nat), c.exceptionTable.toList = [x] ∧ cs_hd mt = (fun p => if a ≤ p ∧ p < b then some q else none) ∧ x.startPc = a ∧ x.endPc = b ∧ x.handlerPc = q ∧ x.catchType = 158 ∧ cn = 1
theorem cx_ex.out {mt cn : Nat} {c : Code} (h : cx_ex mt cn c) {pc : Nat} (hn : cs_hd mt pc = none) : ∀ x ∈ c.exceptionTable.toList, covers x pc = false := by
  rcases h with ⟨-, h⟩ | ⟨x0, a, b, q, h, h1, h2, h3, -⟩
  · rw [h]
    intro x hx
    cases hx
  · rw [h]
    intro x hx
    rw [List.mem_singleton.mp hx]
    rw [h1] at hn
    dsimp only at hn
    split at hn
    · cases hn
    · rename_i hc
      show (decide (x0.startPc ≤ pc) && decide (pc < x0.endPc)) = false
      rw [h2, h3]
      by_cases ha : a ≤ pc
      · rw [decide_eq_false (fun z => hc ⟨ha, z⟩), Bool.and_false]
      · rw [decide_eq_false ha, Bool.false_and]
/-- an Endless' cell -/
theorem cx_xat {s : State} {D : va_G} {cl : List vw_C} {ad : Nat → Nat} {d : Nat → ClassId} {A : Nat → Prop} {ι : cx_I} {σ : cs_S} {H : Heap} (hK : cx_K D cl ad d A s) (hcl : cx_clok cl) (hW : cx_W D cl ad d ι σ H) {x : Nat} (hX : cx_X x) : ∃ cell : Cell, H[ad x]? = some cell ∧ cell.vm.isStatics = false ∧ s.vm.findClass "FormulaVoice$Endless" = some cell.cls ∧ s.vm.assignable cell.cls cell.cls = true := by
  obtain ⟨i1, i2, i3, i4, i5, i6, i7, i8⟩ := hW.2.2.2
  have key : ∀ x, x ∈ cx_fix → cx_E ad d ι σ x = .inr (ι.2.2.1 x) → (ι.2.2.1 x).1 = 11 → ∃ cell : Cell, H[ad x]? = some cell ∧ cell.vm.isStatics = false ∧ s.vm.findClass "FormulaVoice$Endless" = some cell.cls ∧ s.vm.assignable cell.cls cell.cls = true := by
    intro x hm hE h11
    obtain ⟨q0, -, hat⟩ := cx_at hW hm
    rw [hE] at hat
    generalize ι.2.2.1 x = pq at hat h11
    obtain ⟨ci, fs⟩ := pq
    dsimp only at h11
    subst h11
    obtain ⟨cell, h1, h2, h3⟩ := va_recv hK.1 (cw_P hW.1) (hcl 11 _ rfl) hat
    have hca := (hK.1.1 11 _ (hcl 11 _ rfl)).2
    refine ⟨cell, h1, h2, h3, ?_⟩
    have h4 : cell.cls = D.1 11 := Option.some.inj (h3.symm.trans hca.1)
    rw [h4]
    exact va_assign hca
  rcases hX with rfl | rfl
  · exact key 143 (by decide) rfl i7
  · exact key 144 (by decide) rfl i8
theorem cx_IH_all {l : Launch} {D : va_G} {cl : List vw_C} {ad : Nat → Nat} {d : Nat → ClassId} (hcl : cx_clok cl) (hprim : ∀ f mt as σ o σ1 q, cs_prim f mt as σ = some (o, σ1) → am_lk cx_MT mt = some q → am_lk cs_T mt = none → cx_Met l D cl ad d (f + 1) q.1 q.2.1 as σ o σ1) (N : Nat) : ∀ f, cx_IH l D cl ad d f (cs_call N f)
  | 0 => fun mt q _ as σ o σ1 h => by cases h
  | f + 1 => by
    have ih := cx_IH_all (l := l) (D := D) (ad := ad) (d := d) hcl hprim N f
    intro mt q hq as σ o σ1 h
    have hmono := cs_call_mc N (f + 1) mt as σ o σ1 h
    refine ⟨?_, hmono.1, hmono.2⟩
    unfold cs_call at h
    cases hM : am_lk cs_T mt with
    | none =>
      rw [hM] at h
      exact hprim f mt as σ o σ1 q h hq hM
    | some M =>
      rw [hM] at h
      obtain ⟨nL, rt, code, y, cc, cn⟩ := M
      obtain ⟨hpl, hcls, hcn, hnl, hcok, ws, hws, hkind⟩ := cx_T_ok _ (am_lk_mem hM)
      dsimp only at h hpl hcls hcn hnl hcok hws hkind
      rw [hws] at hq
      cases hq
      obtain ⟨hble, h⟩ := bif_e h
      have hlay : (am_lay as).length ≤ nL := Nat.le_of_ble_eq_true hble
      intro ι sz rargs hra
      have hwl : ∀ w ∈ lw_all, w ∈ ws := by
        rcases hkind with ⟨rfl, -⟩ | ⟨a, b, q, ct, rfl, -⟩
        · exact fun w h => List.mem_cons_of_mem _ h
        · exact fun w h => List.mem_cons_of_mem _ h
      refine xm_ofW (cc := cc) (maxL := nL) (ret := rt) hpl ?_ ?_
      · intro args s m hw hn
        rcases hkind with ⟨rfl, -⟩ | ⟨a, b, q, ct, rfl, -⟩
        · obtain ⟨meth, c, h1, h2, h3, h4, h5, h6, -, -⟩ := Cond.code_spec hn (hw _ List.mem_cons_self)
          exact ⟨meth, c, h1, h2, h3, h4, h5, h6⟩
        · obtain ⟨m', meth, c, h0, h1, h2, h3, h4, -, h6, h7, -⟩ := Cond.codeWith_spec (hw _ List.mem_cons_self)
          cases hn.symm.trans h0
          exact ⟨meth, c, h1, h2, h3, h4, h6, h7⟩
      · intro p e s m args below meth c s₁ B hml hv
        obtain ⟨rfl, rfl, hW, hK⟩ := hv
        have hx := B.exec
        have hb := B.bytes
        have hr := B.returns
        have hw0 := atoms_spec (ws := ws) B.pre
        have hts : ∀ w ∈ lw_all, w.before rargs.toArray s = true := fun w h => hw0 w (hwl w h)
        have hown : s.vm.findClass (cx_own cn) = some m.cls := by rw [← hcls]; exact findClass_of_methodNamed B.named
        have hlocks := B.notSynchronized
        have hex : cx_ex mt cn c := by
          rcases hkind with ⟨rfl, hh⟩ | ⟨a, b, q, ct, rfl, hh, rfl, rfl⟩
          · have he := BodyLoose.noHandlers B (hw0 _ List.mem_cons_self)
            refine .inl ⟨hh, ?_⟩
            have : c.exceptionTable = #[] := Array.isEmpty_iff.mp he
            rw [this]
          · obtain ⟨m', meth', c', h0, h1, h2, -, -, h5, -⟩ := Cond.codeWith_spec (hw0 _ List.mem_cons_self)
            cases B.named.symm.trans h0
            cases B.method.symm.trans h1
            cases (Stand.of_body B).code.symm.trans h2
            cases ht : c.exceptionTable.toList with
            | nil => rw [ht] at h5; cases h5
            | cons x xs =>
              cases xs with
              | cons x2 xs => rw [ht] at h5; simp at h5
              | nil =>
                rw [ht] at h5
                simp only [List.map_cons, List.map_nil, List.cons.injEq, Prod.mk.injEq, and_true] at h5
                refine .inr ⟨x, a, b, q, ht, ?_, h5.1, h5.2.1, h5.2.2.1, h5.2.2.2, rfl⟩
                unfold cs_hd
                rw [hh]
        have hC : cx_ctx p { frames := f + 1, cells := cs_n1 σ1 - cs_n1 σ, slots := cs_n2 σ1 - cs_n2 σ, locals := 40 * (f + 1) } s m rargs.toArray c (o, σ1) D cl ad d ι σ nL cc (cx_own cn) f := by
          have h1 := hmono.1
          have h2 := hmono.2
          refine ⟨hx, hb, hts, hown, hK, hcl, hml, Nat.le_refl _, Nat.le_refl _, ?_, ?_⟩
          · show cs_n1 σ1 ≤ cs_n1 σ1 - cs_n1 σ + cs_n1 σ
            omega
          · show cs_n2 σ1 ≤ cs_n2 σ1 - cs_n2 σ + cs_n2 σ
            omega
        rw [lg_entry_eq]
        have hhop : cr_hopOk p l e { frames := f + 1, cells := cs_n1 σ1 - cs_n1 σ, slots := cs_n2 σ1 - cs_n2 σ, locals := 40 * (f + 1) } s m rargs.toArray below meth c (xm_MQ below (fun _ st o' t => ∃ ι', cx_ro ad ι' o o' ∧ cx_le ι ι' ∧ cx_W D cl ad d ι' σ1 t.heap ∧ (∀ c ∈ ι'.1, cx_A ι s.heap.size (ι'.2.1 c)) ∧ va_F (cx_A ι s.heap.size) st t) rargs.toArray s (cs_n1 σ1 - cs_n1 σ) (cs_n2 σ1 - cs_n2 σ) (cx_A ι s.heap.size)) cc (o, σ1) (cx_TR ad) ad (cx_G D cl ad d ι σ s.heap) nL (fun s' => cs_le s' σ1) (cs_hop cn (cs_call N f)) :=
          fun pc len i tg hok => cx_hop_step hC hcn ih (cs_call_204 N f) hok
        have hQ : ∀ {σ2 : cs_S} {ι' : cx_I} {H : Heap} {locs : List Loc} {cells slots : Nat} {o' : Outcome}, cx_G D cl ad d ι σ s.heap σ2 ι' H locs cells slots → σ2 = σ1 → cx_ro ad ι' o o' → (cells = cs_n1 σ1 - cs_n1 σ ∧ slots = cs_n2 σ1 - cs_n2 σ ∧ ∀ q ∈ locs, cx_A ι s.heap.size q.base) ∧ ∀ t : State, t.heap = H → ∃ ι', cx_ro ad ι' o o' ∧ cx_le ι ι' ∧ cx_W D cl ad d ι' σ1 t.heap ∧ (∀ c ∈ ι'.1, cx_A ι s.heap.size (ι'.2.1 c)) ∧ va_F (cx_A ι s.heap.size) s t := by
          intro σ2 ι' H locs cells slots o' hG hσ hro
          subst hσ
          obtain ⟨g1, g2, g3, g4, g5, g6⟩ := hG
          exact ⟨⟨by omega, by omega, g4.2.2⟩, fun t ht => ⟨ι', hro, g2, by rw [ht]; exact g1, g3, g4.F ht⟩⟩
        have hend : cr_endOk p l e { frames := f + 1, cells := cs_n1 σ1 - cs_n1 σ, slots := cs_n2 σ1 - cs_n2 σ, locals := 40 * (f + 1) } s m rargs.toArray below meth c (xm_MQ below (fun _ st o' t => ∃ ι', cx_ro ad ι' o o' ∧ cx_le ι ι' ∧ cx_W D cl ad d ι' σ1 t.heap ∧ (∀ c ∈ ι'.1, cx_A ι s.heap.size (ι'.2.1 c)) ∧ va_F (cx_A ι s.heap.size) st t) rargs.toArray s (cs_n1 σ1 - cs_n1 σ) (cs_n2 σ1 - cs_n2 σ) (cx_A ι s.heap.size)) cc rt (o, σ1) (cx_TR ad) ad (cx_G D cl ad d ι σ s.heap) (cs_hd mt) := by
          refine ⟨?_, ?_, ?_, ?_, ?_⟩
          · intro pc x y σ2 ι' H locs cells slots rls hdg hy he hG
            cases he
            obtain ⟨⟨rfl, rfl, hf⟩, hq⟩ := hQ (o' := .returned (some (.int y))) hG rfl ⟨_, rfl, rfl⟩
            rcases hy with ⟨rfl, rfl⟩ | ⟨rfl, rfl⟩
            · exact xm_W (am_nret hx hb hr rfl (fun t ht _ => hq t ht) hf hdg hlocks) (fun t => xm_MQ.of)
            · exact xm_W (am_nret hx hb hr rfl (fun t ht _ => hq t ht) hf hdg hlocks) (fun t => xm_MQ.of)
          · intro pc x σ2 ι' H locs cells slots rls hdg hy he hG
            cases he
            subst hy
            obtain ⟨⟨rfl, rfl, hf⟩, hq⟩ := hQ (o' := .returned (some (.long x))) hG rfl ⟨_, rfl, rfl⟩
            exact xm_W (W.lret hx hb hr (fun t ht _ => hq t ht) hf hdg hlocks) (fun t => xm_MQ.of)
          · intro pc v rv σ2 ι' H locs cells slots rls hdg hy hv hvr he hG
            cases he
            obtain ⟨n, rfl⟩ := hy
            obtain ⟨⟨rfl, rfl, hf⟩, hq⟩ := hQ (o' := .returned (some rv)) hG rfl ⟨_, rfl, hvr⟩
            refine xm_W (W.aret hx hb hr (.inl ⟨n, rfl⟩) ?_ (fun t ht _ => hq t ht) hf hdg hlocks) (fun t => xm_MQ.of)
            rcases hv with ⟨x, rfl⟩ | ⟨t, rfl⟩
            · exact .inr ⟨_, hvr⟩
            · rcases (cx_TRok ad ι').2 t rv hvr with ⟨-, h⟩ | ⟨-, h⟩
              · exact .inl h
              · exact .inr h
          · intro pc σ2 ι' H locs cells slots rls hdg hy he hG
            cases he
            subst hy
            obtain ⟨⟨rfl, rfl, hf⟩, hq⟩ := hQ (o' := .returned none) hG rfl ⟨_, rfl, trivial⟩
            exact xm_W (W.vret hx hb hr (fun t ht _ => hq t ht) hf hdg hlocks) (fun t => xm_MQ.of)
          · intro pc x σ2 ι' H locs cells slots rls hhd hX he hG
            cases he
            obtain ⟨⟨rfl, rfl, hf⟩, hq⟩ := hQ (o' := .threw (ad x)) hG rfl ⟨hX, rfl⟩
            exact ct_leave (Qc := fun _ st o' t => ∃ ι', cx_ro ad ι' (.inr x) o' ∧ cx_le ι ι' ∧ cx_W D cl ad d ι' σ1 t.heap ∧ (∀ c ∈ ι'.1, cx_A ι s.heap.size (ι'.2.1 c)) ∧ va_F (cx_A ι s.heap.size) st t) (hex.out hhd) hlocks (fun t ht _ => hq t ht) hf
        have hcat : cr_catchOk p l e { frames := f + 1, cells := cs_n1 σ1 - cs_n1 σ, slots := cs_n2 σ1 - cs_n2 σ, locals := 40 * (f + 1) } s m rargs.toArray below meth c (xm_MQ below (fun _ st o' t => ∃ ι', cx_ro ad ι' o o' ∧ cx_le ι ι' ∧ cx_W D cl ad d ι' σ1 t.heap ∧ (∀ c ∈ ι'.1, cx_A ι s.heap.size (ι'.2.1 c)) ∧ va_F (cx_A ι s.heap.size) st t) rargs.toArray s (cs_n1 σ1 - cs_n1 σ) (cs_n2 σ1 - cs_n2 σ) (cx_A ι s.heap.size)) ad (cx_G D cl ad d ι σ s.heap) (cs_hd mt) := by
          intro pc q hq x σ2 ι' H locs cells slots rls hX hG hk
          rcases hex with ⟨h1, -⟩ | ⟨x0, a, b, q', h1, h2, h3, h4, h5, h6, rfl⟩
          · rw [h1] at hq
            cases hq
          · rw [h2] at hq
            dsimp only at hq
            split at hq
            · rename_i hab
              cases hq
              obtain ⟨cell, c1, c2, c3, c4⟩ := cx_xat hK hcl hG.1 hX
              refine ct_catch hown [] x0 [] h1 ?_ (by rw [h6]; decide) (by rw [h6]; exact hts _ q473) c3 c1 c2 c4 (fun _ _ y hy => by cases hy) (by rw [h5]; exact hk)
              show (decide (x0.startPc ≤ pc) && decide (pc < x0.endPc)) = true
              rw [h3, h4, decide_eq_true hab.1, decide_eq_true hab.2]
              rfl
            · cases hq
        have hel := cx_hop_el (cn := cn) (cs_call_mc N f) (res := (o, σ1))
        have hback := cr_bk_ok hx hb (cx_TRok ad) hhop hend hcat (cs_le.rf _) hel hcok N
        exact cr_rs_ok hx hb (cx_TRok ad) hhop hend hcat (cs_le.rf _) (am_bk_el hel (cs_le.rf _) code N) hel hback code hcok _ _ _ _ _ _ _ _ _ _ _ h ⟨hW, cx_le.rf ι, fun c hc => .inl ⟨c, hc, rfl⟩, va_S.rf, Nat.zero_add _, Nat.zero_add _⟩ (am_ent_len hlay) (am_ent_ok (cx_TRok ad ι) hra hlay) trivial
