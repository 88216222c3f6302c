/-! THE COMPONENT's HOPS ARE SOUND: new lists, calls. -/
theorem cw_fresh {ids : List Nat} {adr : Nat → Nat} {E : Nat → va_E} {A : Nat → Prop} {q : Nat} {e' : va_E} (hD : va_D A (cw ids adr E ++ [(q, e')])) : A q ∧ ∀ c ∈ ids, adr c ≠ q := by
  have hl : (cw ids adr E ++ [(q, e')])[ids.length]? = some (q, e') := by
    rw [List.getElem?_append_right (by simp [cw])]
    simp [cw]
  refine ⟨hD.2 _ _ hl, fun c hc hq => ?_⟩
  obtain ⟨k, hk⟩ := List.getElem?_of_mem hc
  have hlt := (List.getElem?_eq_some_iff.mp hk).1
  have hk2 : (cw ids adr E ++ [(q, e')])[k]? = some (adr c, E c) := by
    rw [List.getElem?_append_left (by simpa [cw] using hlt)]
    exact cw_get hk
  have := hD.1 k ids.length _ _ hk2 hl hq
  omega
/-- an id is added -/
theorem cw_inj {ids : List Nat} {adr : Nat → Nat} {c0 q : Nat} (hi : ∀ c ∈ ids, ∀ c' ∈ ids, adr c = adr c' → c = c') (h0 : c0 ∉ ids) (hq : ∀ c ∈ ids, adr c ≠ q) : ∀ c ∈ ids ++ [c0], ∀ c' ∈ ids ++ [c0], va_up adr c0 q c = va_up adr c0 q c' → c = c' := by
  have key : ∀ c ∈ ids, c ≠ c0 := fun c hc z => h0 (z ▸ hc)
  intro c hc c' hc' h
  rcases List.mem_append.mp hc with h1 | h1 <;> rcases List.mem_append.mp hc' with h2 | h2
  · rw [va_up_ne _ _ (key c h1), va_up_ne _ _ (key c' h2)] at h
    exact hi c h1 c' h2 h
  · rw [List.mem_singleton.mp h2, va_up_ne _ _ (key c h1), va_up_self] at h
    exact absurd h (hq c h1)
  · rw [List.mem_singleton.mp h1, va_up_ne _ _ (key c' h2), va_up_self] at h
    exact absurd h.symm (hq c' h2)
  · rw [List.mem_singleton.mp h1, List.mem_singleton.mp h2]
theorem cw_nodup {ids : List Nat} {c0 : Nat} (hn : ids.Nodup) (h0 : c0 ∉ ids) : (ids ++ [c0]).Nodup := by
  rw [List.nodup_append]
  refine ⟨hn, by simp, fun a ha b hb hab => h0 ?_⟩
  rw [← List.mem_singleton.mp hb, ← hab]
  exact ha
theorem cx_fix_lt : ∀ c ∈ cx_fix, c < 400 := by decide
theorem am_cr_x {S : Type} {rk : Nat} {r : am_R S} {kx : Nat → S → am_R S} {k : List am_V → S → am_R S} {st : List am_V} {res : am_O × S} (h : am_cr rk r kx k st = some res) : ∃ o s', r = some (o, s') ∧ ((∃ x, o = .inr x ∧ kx x s' = some res) ∨ (o = .inl none ∧ k st s' = some res) ∨ (∃ v, o = .inl (some v) ∧ k (v :: st) s' = some res)) := by
  unfold am_cr at h
  split at h
  · unfold am_cv at h
    split at h
    · exact ⟨_, _, rfl, .inr (.inl ⟨rfl, h⟩)⟩
    · exact ⟨_, _, rfl, .inl ⟨_, rfl, h⟩⟩
    · cases h
  · unfold am_ci at h
    split at h
    · exact ⟨_, _, rfl, .inr (.inr ⟨_, rfl, h⟩)⟩
    · exact ⟨_, _, rfl, .inl ⟨_, rfl, h⟩⟩
    · cases h
  · unfold am_cl at h
    split at h
    · exact ⟨_, _, rfl, .inr (.inr ⟨_, rfl, h⟩)⟩
    · exact ⟨_, _, rfl, .inl ⟨_, rfl, h⟩⟩
    · cases h
  · unfold am_ct at h
    split at h
    · exact ⟨_, _, rfl, .inr (.inr ⟨_, rfl, h⟩)⟩
    · exact ⟨_, _, rfl, .inl ⟨_, rfl, h⟩⟩
    · cases h
theorem cx_Z.moved {ad : Nat → Nat} {A : Nat → Prop} {u U : State} {H : Heap} (hvm : u.vm.Alike U.vm) (h : cx_Z ad A u H) : cx_Z ad A U H := ⟨h.1.moved hvm, h.2.moved hvm⟩
theorem cx_Z.kept {ad : Nat → Nat} {A : Nat → Prop} {U : State} {H H1 : Heap} (h : cx_Z ad A U H) (hq : ∀ a : Nat, a < H.size → ¬ A a → H1[a]? = H[a]?) : cx_Z ad A U H1 := ⟨h.1.kept hq, h.2.kept hq⟩
theorem cx_Z.narrow {ad : Nat → Nat} {A B : Nat → Prop} {U : State} {H : Heap} (h : cx_Z ad A U H) (hAB : ∀ q, B q → A q) : cx_Z ad B U H := ⟨h.1.narrow hAB, h.2.narrow hAB⟩
section
variable {p : Program} {l : Launch} {e : Env} {R : Room} {s : State} {m : MethodId} {args : Array Value} {below : List Frame} {meth : Method} {c : Code} {Q : State → Prop} {res : am_O × cs_S} {D : va_G} {cl : List vw_C} {ad : Nat → Nat} {d : Nat → ClassId} {ι0 : cx_I} {σ0 : cs_S} {nL pc : Nat} {cc : ByteArray} {own ref : String} {idx f : Nat}
theorem cx_s_new (hC : cx_ctx p R s m args c res D cl ad d ι0 σ0 nL cc own f) (hl : Cond.classLink own idx "java/util/ArrayList" ∈ lw_all) (hi : Cond.instantiable "java/util/ArrayList" 3 ∈ lw_all ∧ Cond.initialized "java/util/ArrayList" ∈ lw_all) (hdg : decode cc pc = .ok (.new idx, 3)) : cx_step p l e R s m args below meth c Q res D cl ad d ι0 σ0 nL pc 3 cs_new := by
  obtain ⟨hx, hb, hts, hown, hK, hcl, hml, hR⟩ := hC
  intro st σ ι H locs cells slots rls rst kx k hG hsz hst he hm1 hm2 hkx hk
  unfold cs_new at he
  obtain ⟨h500, he⟩ := bif_e he
  have h500 := Nat.le_of_ble_eq_true h500
  have hm : cs_n1 σ + 1 ≤ cs_n1 res.2 ∧ cs_n2 σ + 3 ≤ cs_n2 res.2 := hm2 _ _ he
  have g5 := hG.2.2.2.2.1
  have g6 := hG.2.2.2.2.2
  refine va_new hx hb hts in_J2 tyJ2 tyJ2_ok hown (hts _ hl) (hts _ hi.1) (hts _ hi.2) hK.1 (cw_P hG.1.1) (cw_D hG.1.2.2.1 hG.1.2.1 hG.2.2.1) hG.2.2.2.1 (fun q h => .inr h) (hcl 10 _ rfl) (fs := [.int 0, .null, .int 0]) ?_ (by omega) (by omega) hdg fun q H1 hP1 hD1 hS1 => ?_
  · intro j hj
    match j, hj with
    | 0, _ => rfl
    | 1, _ => rfl
    | 2, _ => rfl
  · obtain ⟨hW, g2, g3, -, -, -⟩ := hG
    obtain ⟨i1, i2, i3, i4, i5, i6, i7⟩ := hW.2.2.2
    obtain ⟨hAq, hfr⟩ := cw_fresh hD1
    have hid : 400 + (cs_y σ).length ∉ ι.1 := fun z => by
      have := i2.2.2 _ z (by omega) (by omega)
      omega
    have hne : ∀ c ∈ ι.1, c ≠ 400 + (cs_y σ).length := fun c hc z => hid (z ▸ hc)
    have hle : cx_le ι (ι.1 ++ [400 + (cs_y σ).length], va_up ι.2.1 (400 + (cs_y σ).length) q, ι.2.2.1, ι.2.2.2) := ⟨fun c hc => List.mem_append_left _ hc, fun c hc _ => va_up_ne _ _ (hne c hc), fun _ _ => rfl⟩
    refine hk _ _ (ι.1 ++ [400 + (cs_y σ).length], va_up ι.2.1 (400 + (cs_y σ).length) q, ι.2.2.1, ι.2.2.2) _ _ _ _ _ he ⟨⟨cw_new hP1 (fun c hc => va_up_ne _ _ (hne c hc)) (fun c hc => ?_) (va_up_self _ _ _) ?_, cw_inj hW.2.1 hid hfr, cw_nodup hW.2.2.1 hid, fun c hc => ?_, ⟨?_, fun n hn => ?_, fun c hc h1 h2 => ?_⟩, fun c hc => ?_, fun c hc h1 h2 => ?_, fun j hj => hle.cr _ _ (i5 j hj), i6, i7⟩, g2.tr hle, fun c hc => ?_, hS1, ?_, ?_⟩ hle.cr ⟨.inr (.inr ⟨rfl, h500, List.mem_append_right _ (List.mem_singleton.mpr rfl), by show Value.ref q = .ref (va_up ι.2.1 _ q _); rw [va_up_self]⟩), hst.mono hle.cr.vr⟩
    · have e1 : ∀ c1, c1 + 1000 ≠ 400 + (cs_y σ).length := fun c1 => by omega
      have e2 : cx_lf ad (ι.1 ++ [400 + (cs_y σ).length], va_up ι.2.1 (400 + (cs_y σ).length) q, ι.2.2.1, ι.2.2.2) (cs_mk (cs_py σ (cs_y σ ++ [0])) 1 3) c = cx_lf ad ι σ c := by
        unfold cx_lf
        dsimp only
        rw [va_up_ne _ _ (e1 c)]
        by_cases h4 : 400 ≤ c ∧ c < 1000
        · have h5 := i2.2.2 c hc h4.1 h4.2
          have e3 : (cs_y (cs_mk (cs_py σ (cs_y σ ++ [0])) 1 3)).getD (c - 400) 0 = (cs_y σ).getD (c - 400) 0 := by
            show (cs_y σ ++ [0]).getD (c - 400) 0 = _
            simp only [List.getD_eq_getElem?_getD]
            rw [List.getElem?_append_left (by omega)]
          rw [e3]
          rfl
        · by_cases h6 : c < 400
          · rw [nl_f h6]
            rfl
          · have e3 : (cs_y (cs_mk (cs_py σ (cs_y σ ++ [0])) 1 3)).getD (c - 400) 0 = (cs_y σ).getD (c - 400) 0 := by
              show (cs_y σ ++ [0]).getD (c - 400) 0 = _
              simp only [List.getD_eq_getElem?_getD]
              rw [List.getElem?_eq_none (by simp; omega), List.getElem?_eq_none (by omega)]
            rw [e3]
            rfl
      unfold cx_E
      rw [e2]
      rfl
    · have e2 : cx_lf ad (ι.1 ++ [400 + (cs_y σ).length], va_up ι.2.1 (400 + (cs_y σ).length) q, ι.2.2.1, ι.2.2.2) (cs_mk (cs_py σ (cs_y σ ++ [0])) 1 3) (400 + (cs_y σ).length) = [.int 0, .null, .int 0] := by
        have e3 : (cs_y (cs_mk (cs_py σ (cs_y σ ++ [0])) 1 3)).getD (400 + (cs_y σ).length - 400) 0 = 0 := by
          show (cs_y σ ++ [0]).getD (400 + (cs_y σ).length - 400) 0 = _
          rw [Nat.add_sub_cancel_left]
          simp
        unfold cx_lf
        rw [e3, nl_t (show 400 ≤ 400 + (cs_y σ).length by omega)]
        rfl
      simp only [cx_E, cs_isW, cs_isL, nb_f (show 400 + (cs_y σ).length ≠ 0 by omega), nb_f (show 400 + (cs_y σ).length ≠ 103 by omega), nb_f (show 400 + (cs_y σ).length ≠ 104 by omega), nb_f (show 400 + (cs_y σ).length ≠ 105 by omega), nb_f (show 400 + (cs_y σ).length ≠ 110 by omega), nb_f (show 400 + (cs_y σ).length ≠ 115 by omega), nb_f (show 400 + (cs_y σ).length ≠ 100 by omega), nb_f (show 400 + (cs_y σ).length ≠ 106 by omega), nl_f (show 220 < 400 + (cs_y σ).length by omega), nl_t (show 400 ≤ 400 + (cs_y σ).length by omega), nl_t (show 400 + (cs_y σ).length ≤ 999 by omega), Bool.and_false, Bool.or_false, Bool.false_or, Bool.and_true, cond_false, cond_true, e2]
    · have := cx_fix_lt c hc
      exact ⟨List.mem_append_left _ (i1 c hc).1, (va_up_ne _ _ (by omega)).trans (i1 c hc).2⟩
    · show (cs_y σ ++ [0]).length ≤ 501
      simp; omega
    · have hn : n < (cs_y σ ++ [0]).length := hn
      simp at hn
      by_cases hn2 : n < (cs_y σ).length
      · exact List.mem_append_left _ (i2.2.1 n hn2)
      · have : n = (cs_y σ).length := by omega
        subst this
        exact List.mem_append_right _ (List.mem_singleton.mpr rfl)
    · show c < 400 + (cs_y σ ++ [0]).length
      rcases List.mem_append.mp hc with hc | hc
      · have := i2.2.2 c hc h1 h2
        simp; omega
      · rw [List.mem_singleton.mp hc]
        simp
    · have hc' : cx_isl σ c := by
        rcases hc with h | h | ⟨n, h, h2⟩
        · exact .inl h
        · exact .inr (.inl h)
        · have h2 : (cs_y σ ++ [0])[n]? = some 1 := h2
          rw [List.getElem?_append] at h2
          split at h2
          · exact .inr (.inr ⟨n, h, h2⟩)
          · exfalso
            cases hz : n - (cs_y σ).length with
            | zero => rw [hz] at h2; cases h2
            | succ z => rw [hz] at h2; cases h2
      exact (i3 c hc').mono hle rfl rfl rfl
    · rcases List.mem_append.mp hc with hc | hc
      · obtain ⟨h3, h4⟩ := i4 c hc h1 h2
        refine ⟨?_, h4⟩
        rcases h3 with h | h | ⟨n, h, h5⟩
        · exact .inl h
        · exact .inr (.inl h)
        · refine .inr (.inr ⟨n, h, ?_⟩)
          show (cs_y σ ++ [0])[n]? = some 1
          rw [List.getElem?_append_left (List.getElem?_eq_some_iff.mp h5).1]
          exact h5
      · rw [List.mem_singleton.mp hc] at h1
        omega
    · rcases List.mem_append.mp hc with hc | hc
      · show cx_A ι0 s.heap.size (va_up ι.2.1 _ q c)
        rw [va_up_ne _ _ (hne c hc)]
        exact g3 c hc
      · rw [List.mem_singleton.mp hc]
        show cx_A ι0 s.heap.size (va_up ι.2.1 _ q _)
        rw [va_up_self]
        exact hAq
    · show cells + 1 + cs_n1 σ0 = cs_n1 σ + 1
      omega
    · show slots + 3 + cs_n2 σ0 = cs_n2 σ + 3
      omega
/-- behind a call the world stands again -/
theorem cx_G_call {σ σ1 : cs_S} {ι ι' : cx_I} {H : Heap} {locs L : List Loc} {cells slots : Nat} {st₀ t : State} (hG : cx_G D cl ad d ι0 σ0 s.heap σ ι H locs cells slots) (h0 : st₀.heap = H) (hle : cx_le ι ι') (hW : cx_W D cl ad d ι' σ1 t.heap) (hA : ∀ c ∈ ι'.1, cx_A ι H.size (ι'.2.1 c)) (hF : va_F (cx_A ι H.size) st₀ t) (hL : ∀ q ∈ L, cx_A ι H.size q.base) (hn : cs_n1 σ ≤ cs_n1 σ1 ∧ cs_n2 σ ≤ cs_n2 σ1) : cx_G D cl ad d ι0 σ0 s.heap σ1 ι' t.heap (locs ++ L) (cells + (cs_n1 σ1 - cs_n1 σ)) (slots + (cs_n2 σ1 - cs_n2 σ)) := by
  obtain ⟨hW0, g2, g3, g4, g5, g6⟩ := hG
  have hsub : ∀ q, cx_A ι H.size q → cx_A ι0 s.heap.size q := by
    rintro q (⟨c, hc, rfl⟩ | hq)
    · exact g3 c hc
    · exact .inr (Nat.le_trans g4.1 hq)
  obtain ⟨f1, f2⟩ := hF
  rw [h0] at f1 f2
  refine ⟨hW, g2.tr hle, fun c hc => hsub _ (hA c hc), ⟨Nat.le_trans g4.1 f1, fun q h1 h2 => ?_, fun q hq => ?_⟩, by omega, by omega⟩
  · rw [f2 q (Nat.lt_of_lt_of_le h1 g4.1) (fun z => h2 (hsub q z))]
    exact g4.2.1 q h1 h2
  · rcases List.mem_append.mp hq with h | h
    · exact g4.2.2 q h
    · exact hsub _ (hL q h)
theorem cx_go (hK : cx_K D cl ad d (cx_A ι0 s.heap.size) s) (hR : cs_n1 res.2 ≤ R.cells + cs_n1 σ0 ∧ cs_n2 res.2 ≤ R.slots + cs_n2 σ0) {call : cs_ct} {mt rk : Nat} {y : MethodName} {ws : List Cond} (hcall : ∀ as σ o σ1, call mt as σ = some (o, σ1) → cx_Met l D cl ad d f y ws as σ o σ1 ∧ cs_n1 σ ≤ cs_n1 σ1 ∧ cs_n2 σ ≤ cs_n2 σ1)
    {st as r : List am_V} {σ : cs_S} {ι : cx_I} {H : Heap} {locs : List Loc} {cells slots : Nat} {rls : Array Slot} {rst : List Value} {kx : Nat → cs_S → am_R cs_S} {k : List am_V → cs_S → am_R cs_S}
    (hG : cx_G D cl ad d ι0 σ0 s.heap σ ι H locs cells slots) (hst1 : st = as.reverse ++ r) (hst : am_S2 (am_vr (cx_TR ad ι) ad) st rst) (hble : Nat.ble (am_wt r) 8 = true) (he : am_cr rk (call mt as σ) kx k r = some res)
    (hm1 : ∀ x σ', kx x σ' = some res → cs_n1 σ' ≤ cs_n1 res.2 ∧ cs_n2 σ' ≤ cs_n2 res.2) (hm2 : ∀ st' σ', k st' σ' = some res → cs_n1 σ' ≤ cs_n1 res.2 ∧ cs_n2 σ' ≤ cs_n2 res.2)
    (hkx : ∀ x σ' ι' H' locs' cells' slots', cx_X x → kx x σ' = some res → cx_G D cl ad d ι0 σ0 s.heap σ' ι' H' locs' cells' slots' → cr_le (cx_TR ad) ι ι' → am_WX p l e R s m args below meth c H' locs' cells' slots' Q pc rls (ad x))
    (hk : ∀ st' σ' ι' H' locs' cells' slots' rst', k st' σ' = some res → cx_G D cl ad d ι0 σ0 s.heap σ' ι' H' locs' cells' slots' → cr_le (cx_TR ad) ι ι' → am_S2 (am_vr (cx_TR ad ι') ad) st' rst' → W p l e R s m args below meth c H' locs' cells' slots' Q (F0 m (pc + 3) rls rst'))
    (hrun : ∀ (o : am_O) (σ1 : cs_S) (rargs rr : List Value) (mc ms : Nat) (Pc : Array Value → State → Prop) (Qc : Array Value → State → Outcome → State → Prop), call mt as σ = some (o, σ1) → rst = rargs.reverse ++ rr → am_S2 (am_vr (cx_TR ad ι) ad) as rargs → (rr.map fun v => v.category).sum ≤ 8 → cells + mc ≤ R.cells → slots + ms ≤ R.slots → xm_Met l y ws { frames := f, cells := mc, slots := ms, locals := 40 * f } Pc Qc mc ms (cx_A ι H.size) → (∀ a st o' t, Qc a st o' t → ∃ ι', cx_ro ad ι' o o') → FrameBlind Pc → (∀ U : State, U.heap = H → s.WarmedH U.vm → Pc rargs.toArray U) →
      xm_Run p l e R s m args below meth c H locs cells slots mc ms (F0 m pc rls rst) rr (Qc rargs.toArray) (cx_A ι H.size)) :
    W p l e R s m args below meth c H locs cells slots Q (F0 m pc rls rst) := by
  obtain ⟨o, σ1, hc1, hcase⟩ := am_cr_x he
  obtain ⟨hMet, hn1, hn2⟩ := hcall _ _ _ _ hc1
  rw [hst1] at hst
  obtain ⟨ra, rr, hrst, hra, hrr, -⟩ := am_S2_app hst
  have hra' := am_S2_rev hra
  rw [List.reverse_reverse] at hra'
  have h8 := cx_wt hrr hble
  have hmm : cs_n1 σ1 ≤ cs_n1 res.2 ∧ cs_n2 σ1 ≤ cs_n2 res.2 := by
    rcases hcase with ⟨x, -, h⟩ | ⟨-, h⟩ | ⟨v, -, h⟩
    · exact hm1 _ _ h
    · exact hm2 _ _ h
    · exact hm2 _ _ h
  have g4 := hG.2.2.2.1
  have g5 := hG.2.2.2.2.1
  have g6 := hG.2.2.2.2.2
  have hsub : ∀ q, cx_A ι H.size q → cx_A ι0 s.heap.size q := by
    rintro q (⟨c, hc, rfl⟩ | hq)
    · exact hG.2.2.1 c hc
    · exact .inr (Nat.le_trans g4.1 hq)
  refine xm_callR (hrun o σ1 ra.reverse rr _ _ _ _ hc1 (by rw [List.reverse_reverse]; exact hrst) hra' h8 (by omega) (by omega) (hMet ι H.size ra.reverse hra') (fun a st o' t h => by obtain ⟨ι', h, -⟩ := h; exact ⟨ι', h⟩) ?_ ?_) ?_ ?_
  · intro a U g mk q
    obtain ⟨q0, q1, q2, q3, q4, q5⟩ := q
    exact ⟨q0, q1, q2, va_K.moved (u := U) (U := U.calling g mk a) (Vm.Alike.refl U.vm) q3, cx_N.warm (s := U) (U := U.calling g mk a) (State.WarmedH.refl U) q4, cx_Z.moved (u := U) (U := U.calling g mk a) (Vm.Alike.refl U.vm) q5⟩
  · intro U hU hWm
    refine ⟨rfl, by rw [hU], by rw [hU]; exact hG.1, va_K.moved hWm.alike hK.1, hK.2.1.warm hWm, ?_⟩
    rw [hU]
    exact ((hK.2.2.moved hWm.alike).kept (fun a h1 h2 => g4.2.1 a h1 h2)).narrow hsub
  · intro v st₀ t L h0 hWm hq hL
    obtain ⟨ι', hro, hle, hW1, hA1, hF1⟩ := hq
    have hG1 := cx_G_call hG h0 hle hW1 hA1 hF1 hL ⟨hn1, hn2⟩
    rcases hcase with ⟨x, rfl, h⟩ | ⟨rfl, h⟩ | ⟨v1, rfl, h⟩
    · obtain ⟨-, hro⟩ := hro
      cases hro
    · obtain ⟨rv, hrv, hro⟩ := hro
      cases hrv
      obtain rfl := hro.v
      exact hk _ _ ι' _ _ _ _ _ h hG1 hle.cr (hrr.mono hle.cr.vr)
    · obtain ⟨rv, hrv, hro⟩ := hro
      cases hrv
      obtain ⟨w, rfl, hw⟩ := hro.s
      exact hk _ _ ι' _ _ _ _ _ h hG1 hle.cr ⟨hw, hrr.mono hle.cr.vr⟩
  · intro x st₀ t L h0 hWm hq hL
    obtain ⟨ι', hro, hle, hW1, hA1, hF1⟩ := hq
    have hG1 := cx_G_call hG h0 hle hW1 hA1 hF1 hL ⟨hn1, hn2⟩
    rcases hcase with ⟨x1, rfl, h⟩ | ⟨rfl, h⟩ | ⟨v1, rfl, h⟩
    · obtain ⟨hX, hro⟩ := hro
      cases hro
      exact hkx _ _ ι' _ _ _ _ hX h hG1 hle.cr
    · obtain ⟨rv, hrv, -⟩ := hro
      cases hrv
    · obtain ⟨rv, hrv, -⟩ := hro
      cases hrv
end
