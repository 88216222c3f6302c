/-! EVERY METHOD OF THE MODEL DOES WHAT THE MODEL's MACHINE SAYS. -/
section
variable {p : Program} {l : Launch} {e : Env} {R : Room} {s : State} {m : MethodId} {args : Array Value} {below : List Frame} {meth : Method} {c : Code} {H : Heap} {locs : List Loc} {cells slots : Nat}
/-- an int's end, narrowed -/
theorem am_nret {cc : ByteArray} {Qc : Array Value → State → Outcome → State → Prop} {free : Addr → Prop} {v w : Int32} {ty : FieldType} (hexec : p.tables.exec = Jvm.exec) (hb : c.code = cc) (hr : meth.sig.returnType = some ty) (hn : narrow ty (.int v) = .int w)
    (hq : ∀ t : State, t.heap = H → s.WarmedH t.vm → Qc args s (.returned (some (.int w))) t) (hf : ∀ q ∈ locs, free q.base)
    {pc : Nat} {ls : Array Slot} (hdg : decode cc pc = .ok (.ireturn, 1)) (hlocks : meth.locks = false) : W p l e R s m args below meth c H locs cells slots (MQ below Qc args s cells slots free) (F0 m pc ls [.int v]) := by
  intro T hT X
  obtain ⟨fs, hret, hrun, hended, hW, hframe⟩ := X.leave (v := some (.int w)) (fun h => by rw [hr] at h; cases h)
  have hmeth' : T.vm.method? m = some meth := X.method'
  refine ⟨T.setFrames fs, ?_, .returned (some (.int w)), hrun, hended, hq _ hT hW, locs, ⟨⟨_, rfl⟩, hW, hframe⟩, hf⟩
  jvm_step X.here [X.here.top, hexec, hb, hdg, hmeth', hr, hn]
  (try refine ⟨rfl, ?_⟩); (try refine ⟨rfl, ?_⟩)
  first | (intro acts; rw [hret _ acts rfl rfl rfl]) | rw [hret _ _ rfl rfl rfl]
  exact Steps.refl _
end
theorem mm_met {l : Launch} {D : va_G} {cl : List vw_C} {ad : Nat → Nat} {d : Nat → ClassId} {ci : Nat} (hc : cl[ci]? = some (RX6, TX6, 35)) (N : Nat) : ∀ (f mt : Nat) (as : List am_V) (σ : mm_S) (r : Option am_V) (σ' : mm_S) (M : am_M), mm_call N f mt as σ = some (.inl r, σ') → am_lk mm_T mt = some M → mm_Met l D cl ad d ci f M as σ r σ'
  | 0, mt, as, σ, r, σ', M, h, _ => by cases h
  | f + 1, mt, as, σ, r, σ', M, h, hM => by
    have ih := mm_met (l := l) (D := D) (ad := ad) (d := d) hc N f
    intro rargs hra
    unfold mm_call at h
    rw [hM] at h
    obtain ⟨nL, rt, code, y, cc⟩ := M
    obtain ⟨hpl, hcls, hnl, hcok, hcode⟩ := mm_T_ok _ (am_lk_mem hM)
    dsimp only at h hpl hcls hnl hcok hcode ⊢
    cases hble : Nat.ble (am_lay as).length nL with
    | false => rw [hble] at h; cases h
    | true =>
      rw [hble, cond_true] at h
      have hlay : (am_lay as).length ≤ nL := Nat.le_of_ble_eq_true hble
      refine Met.ofW (cc := cc) (maxL := nL) (ret := rt) hpl rfl ?_
      intro p e s m args below meth c s₁ B hml hv
      obtain ⟨rfl, hP, hK, hD0⟩ := hv
      have hx := B.exec
      have hb := B.bytes
      have hr := B.returns
      have hts := atoms_spec (ws := ws_ y cc nL rt) B.pre
      have hts : ∀ w ∈ lw_all, w.before _ s = true := fun w h => hts w (List.mem_cons_of_mem _ h)
      have hown : s.vm.findClass RX6 = some m.cls := by rw [← hcls]; exact findClass_of_methodNamed B.named
      have hlocks := B.notSynchronized
      have hD : va_D (mm_free ad) (mm_ws ad d ci σ) := by
        refine ⟨hD0.1, fun k0 q hk0 => ?_⟩
        simp only [mm_ws, List.getElem?_map] at hk0
        cases hc0 : mm_ids[k0]? with
        | none => rw [hc0] at hk0; cases hk0
        | some c0 => rw [hc0] at hk0; cases hk0; exact ⟨c0, List.mem_of_getElem? hc0, rfl⟩
      rw [lg_entry_eq]
      have hhop := mm_hop_ok (p := p) (l := l) (e := e) (s := s) (m := m) (args := rargs.toArray) (below := below) (meth := meth) (c := c) (Q := MQ below (fun _ st o t => (∃ rv, o = .returned rv ∧ am_ro (mm_TR #[]) ad r rv) ∧ va_P D cl (mm_ws ad d ci σ') t.heap ∧ va_F (mm_free ad) st t) rargs.toArray s 0 0 (mm_free ad)) (cc := cc) (res := (.inl r, σ')) (nL := nL) (f := f) (ad := ad) hx hb hml hown hts hK hc (call := mm_call N f) ih ⟨r, rfl⟩
      have hend : am_endOk p l e { frames := f + 1, cells := 0, slots := 0, locals := 40 * (f + 1) } s m rargs.toArray below meth c (MQ below (fun _ st o t => (∃ rv, o = .returned rv ∧ am_ro (mm_TR #[]) ad r rv) ∧ va_P D cl (mm_ws ad d ci σ') t.heap ∧ va_F (mm_free ad) st t) rargs.toArray s 0 0 (mm_free ad)) cc rt (.inl r, σ') mm_TR ad (mm_G D cl ad d ci s.heap) := by
        refine ⟨?_, ?_, ?_, ?_, ?_⟩
        · intro pc x y σ1 H locs cells slots rls hdg hy he hG
          obtain ⟨hP1, hD1, hS1, rfl, rfl⟩ := hG
          cases he
          rcases hy with ⟨rfl, rfl⟩ | ⟨rfl, rfl⟩
          · exact am_nret hx hb hr rfl (fun t ht hW => ⟨⟨_, rfl, rfl⟩, by rw [ht]; exact hP1, hS1.F ht⟩) hS1.2.2 hdg hlocks
          · exact am_nret hx hb hr rfl (fun t ht hW => ⟨⟨_, rfl, rfl⟩, by rw [ht]; exact hP1, hS1.F ht⟩) hS1.2.2 hdg hlocks
        · intro pc x σ1 H locs cells slots rls hdg hy he hG
          obtain ⟨hP1, hD1, hS1, rfl, rfl⟩ := hG
          cases he
          subst hy
          exact W.lret hx hb hr (fun t ht hW => ⟨⟨_, rfl, rfl⟩, by rw [ht]; exact hP1, hS1.F ht⟩) hS1.2.2 hdg hlocks
        · intro pc v rv σ1 H locs cells slots rls hdg hy hv hvr he hG
          obtain ⟨hP1, hD1, hS1, rfl, rfl⟩ := hG
          cases he
          obtain ⟨n, rfl⟩ := hy
          refine W.aret hx hb hr (.inl ⟨n, rfl⟩) ?_ (fun t ht hW => ⟨⟨_, rfl, hvr⟩, by rw [ht]; exact hP1, hS1.F ht⟩) hS1.2.2 hdg hlocks
          rcases hv with ⟨x, rfl⟩ | ⟨t, rfl⟩
          · exact .inr ⟨_, hvr⟩
          · exact .inl hvr.2
        · intro pc σ1 H locs cells slots rls hdg hy he hG
          obtain ⟨hP1, hD1, hS1, rfl, rfl⟩ := hG
          cases he
          subst hy
          exact W.vret hx hb hr (fun t ht hW => ⟨⟨_, rfl, trivial⟩, by rw [ht]; exact hP1, hS1.F ht⟩) hS1.2.2 hdg hlocks
        · intro pc x σ1 H locs cells slots rls he hG
          cases he
      have hcat : am_catchOk p l e { frames := f + 1, cells := 0, slots := 0, locals := 40 * (f + 1) } s m rargs.toArray below meth c (MQ below (fun _ st o t => (∃ rv, o = .returned rv ∧ am_ro (mm_TR #[]) ad r rv) ∧ va_P D cl (mm_ws ad d ci σ') t.heap ∧ va_F (mm_free ad) st t) rargs.toArray s 0 0 (mm_free ad)) ad (mm_G D cl ad d ci s.heap) am_no := fun pc q hq => by cases hq
      have hback := am_bk_ok hx hb mm_TRok hhop hend hcat hcok N
      exact am_rs_ok hx hb mm_TRok hhop hend hcat hback code hcok _ _ _ _ _ _ _ _ _ _ h ⟨hP, hD, va_S.rf, rfl, rfl⟩ (am_ent_len hlay) (am_ent_ok (mm_TRok _) hra hlay) trivial
