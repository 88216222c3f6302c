def mm_G (D : va_G) (cl : List vw_C) (ad : Nat → Nat) (d : Nat → ClassId) (ci : Nat) (H0 : Heap) : mm_S → Heap → List Loc → Nat → Nat → Prop := fun σ H locs cells slots => va_P D cl (mm_ws ad d ci σ) H ∧ va_D (mm_free ad) (mm_ws ad d ci σ) ∧ va_S (mm_free ad) H0 H locs ∧ cells = 0 ∧ slots = 0
theorem mm_fs_at {ad : Nat → Nat} {σ : mm_S} {j : Nat} (hj : j < 35) : (mm_fs ad σ)[j]? = some (match am_lk mm_A j with
  | some _ => .ref (ad j)
  | none => .int (σ.1 j)) := by
  simp only [mm_fs, List.getElem?_map, List.getElem?_range hj, Option.map_some]
  rfl
theorem mm_fs_set {ad : Nat → Nat} {σ : mm_S} {j : Nat} {v : Int32} (hj : j < 35) (hn : am_lk mm_A j = none) : (mm_fs ad σ).set j (.int v) = mm_fs ad (mm_p σ j v) := by
  apply List.ext_getElem?
  intro i
  by_cases hi : j = i
  · subst hi
    rw [List.getElem?_set_self (by simpa [mm_fs] using hj), mm_fs_at hj, hn]
    simp [mm_p, va_up]
  · rw [List.getElem?_set_ne hi]
    by_cases h35 : i < 35
    · rw [mm_fs_at h35, mm_fs_at h35]
      cases am_lk mm_A i with
      | some _ => rfl
      | none => simp only [mm_p, va_up, if_neg (Ne.symm hi)]
    · rw [List.getElem?_eq_none (by simp [mm_fs]; omega), List.getElem?_eq_none (by simp [mm_fs]; omega)]
theorem mm_ws_p {ad : Nat → Nat} {d : Nat → ClassId} {ci : Nat} {σ : mm_S} {j : Nat} {v : Int32} (hj : j < 35) (hn : am_lk mm_A j = none) : (mm_ws ad d ci σ).set 0 (ad 0, .inr (ci, (mm_fs ad σ).set j (.int v))) = mm_ws ad d ci (mm_p σ j v) :=
  mm_ws_set (c := 0) rfl (fun c' h1 h2 => mm_E_p c' h1 h2) (by rw [mm_fs_set hj hn]; rfl)
theorem mm_ws_pa {ad : Nat → Nat} {d : Nat → ClassId} {ci : Nat} {σ : mm_S} {c q0 i : Nat} {v : Int32} (hq : mm_ids[q0]? = some c) {e : va_E} (he : e = mm_E ad d ci (mm_pa σ c i v) c) : (mm_ws ad d ci σ).set q0 (ad c, e) = mm_ws ad d ci (mm_pa σ c i v) := by
  refine mm_ws_set hq (fun c' h1 h2 => ?_) he
  simp only [mm_E, mm_pa, va_up, if_neg h1]
  rfl
theorem mm_ws_pl {ad : Nat → Nat} {d : Nat → ClassId} {ci : Nat} {σ : mm_S} {c q0 i : Nat} {v : Int64} (hq : mm_ids[q0]? = some c) {e : va_E} (he : e = mm_E ad d ci (mm_pl σ c i v) c) : (mm_ws ad d ci σ).set q0 (ad c, e) = mm_ws ad d ci (mm_pl σ c i v) := by
  refine mm_ws_set hq (fun c' h1 h2 => ?_) he
  simp only [mm_E, mm_pl, va_up, if_neg h1]
  rfl
theorem mm_I_n : ∀ q ∈ mm_I, q.2.2.1 = false → 1 ≤ q.2.2.2.1 := by decide
set_option maxHeartbeats 2000000 in
theorem mm_hop_ok {p : Program} {l : Launch} {e : Env} {s : State} {m : MethodId} {args : Array Value} {below : List Frame} {meth : Method} {c : Code} {Q : State → Prop} {cc : ByteArray} {res : am_O × mm_S} {nL f : Nat} {D : va_G} {cl : List vw_C} {ad : Nat → Nat} {d : Nat → ClassId} {ci : Nat}
    (hx : p.tables.exec = Jvm.exec) (hb : c.code = cc) (hml : c.maxLocals = nL) (hown : s.vm.findClass RX6 = some m.cls) (hts : ∀ w ∈ lw_all, w.before args s = true) (hK : va_K D cl (mm_ty d) s) (hc : cl[ci]? = some (RX6, TX6, 35)) {call : Nat → List am_V → mm_S → am_R mm_S}
    (hcall : ∀ mt as σ r σ' M, call mt as σ = some (.inl r, σ') → am_lk mm_T mt = some M → mm_Met l D cl ad d ci f M as σ r σ') (hres : ∃ v, res.1 = .inl v) :
    am_hopOk p l e { frames := f + 1, cells := 0, slots := 0, locals := 40 * (f + 1) } s m args below meth c Q cc res mm_TR ad (mm_G D cl ad d ci s.heap) nL am_no (mm_hop call) := by
  intro pc len i tg hcok st σ H locs cells slots rls rst kx k hG hsz hst hkx he _ hk
  obtain ⟨hP, hD, hS, rfl, rfl⟩ := hG
  have hkx := hkx (fun _ => rfl)
  have hdg : decode cc pc = .ok (i, len) := hcok.1
  have hln : am_lnok i len = true := hcok.2.1
  have hw0 : (mm_ws ad d ci σ)[0]? = some (ad 0, .inr (ci, mm_fs ad σ)) := mm_ws_at (c := 0) rfl
  -- what a call needs
  have hgo : ∀ (mt : Nat) (M : am_M) (as r : List am_V) (rk : Nat), am_lk mm_T mt = some M → st = as.reverse ++ r → Nat.ble (am_wt r) 8 = true → am_cr rk (call mt as σ) kx k r = some res →
      (∀ (rargs rr : List Value), rst = rargs.reverse ++ rr → am_S2 (am_vr (mm_TR H) ad) as rargs → (rr.map fun v => v.category).sum ≤ 8 → ∀ (Pc : Array Value → State → Prop) (Qc : Array Value → State → Outcome → State → Prop),
        Met l M.2.2.2.1 (ws_ M.2.2.2.1 M.2.2.2.2 M.1 M.2.1) { frames := f, cells := 0, slots := 0, locals := 40 * f } Pc Qc 0 0 (mm_free ad) → FrameBlind Pc → (∀ U : State, U.heap = H → s.WarmedH U.vm → Pc rargs.toArray U) →
        va_Run p l e { frames := f + 1, cells := 0, slots := 0, locals := 40 * (f + 1) } s m args below meth c H locs 0 0 0 0 (F0 m pc rls rst) rr (Qc rargs.toArray) (mm_free ad)) → len = 3 →
      W p l e { frames := f + 1, cells := 0, slots := 0, locals := 40 * (f + 1) } s m args below meth c H locs 0 0 Q (F0 m pc rls rst) := by
    intro mt M as r rk hM hst1 hble hcr hrun hlen3
    subst hlen3
    obtain ⟨o, σ', hcl, hcase⟩ := am_cr_e hkx hres hcr
    have hMet := hcall mt as σ o σ' M hcl hM
    rw [hst1] at hst
    obtain ⟨ra, rr, hrst, hra, hrr, -⟩ := am_S2_app hst
    have hra' := am_S2_rev hra
    rw [List.reverse_reverse] at hra'
    have hrr4 : (rr.map fun v => v.category).sum ≤ 8 := by rw [am_weigh (mm_TRok H) hrr]; exact Nat.le_of_ble_eq_true hble
    refine am_callR (hrun ra.reverse rr (by rw [List.reverse_reverse]; exact hrst) hra' hrr4 _ _ (hMet ra.reverse hra') ?_ ?_) ?_
    · intro a U g mk q
      obtain ⟨q0, qP, qK, qD⟩ := q
      exact ⟨q0, qP, va_K.moved (u := U) (U := U.calling g mk a) (Vm.Alike.refl U.vm) qK, qD⟩
    · intro U hU hW
      exact ⟨rfl, by rw [hU]; exact hP, va_K.moved hW.alike hK, hD.weaken (fun _ _ _ _ => trivial)⟩
    · intro v st₀ t L h0 hW hq hL
      obtain ⟨⟨rv, hrv, hro⟩, hP1, hF1, hF2⟩ := hq
      cases hrv
      rw [h0] at hF1 hF2
      have hS1 : va_S (mm_free ad) s.heap t.heap (locs ++ L) := ⟨Nat.le_trans hS.1 hF1, fun q h1 h2 => by rw [hF2 q (Nat.lt_of_lt_of_le h1 hS.1) h2]; exact hS.2.1 q h1 h2, fun q hq => by
        rcases List.mem_append.mp hq with h | h
        · exact hS.2.2 q h
        · exact hL q h⟩
      have hD1 : va_D (mm_free ad) (mm_ws ad d ci σ') := by
        refine ⟨fun i j x y hi hj hxy => ?_, fun k0 q hk0 => ?_⟩
        · have key : ∀ (k0 : Nat) (q : Nat × va_E), (mm_ws ad d ci σ')[k0]? = some q → ∃ q', (mm_ws ad d ci σ)[k0]? = some q' ∧ q'.1 = q.1 := by
            intro k0 q hk0
            simp only [mm_ws, List.getElem?_map] at hk0 ⊢
            cases hc0 : mm_ids[k0]? with
            | none => rw [hc0] at hk0; cases hk0
            | some c0 => rw [hc0] at hk0; cases hk0; exact ⟨_, rfl, rfl⟩
          obtain ⟨x', a1, a2⟩ := key i x hi
          obtain ⟨y', b1, b2⟩ := key j y hj
          exact hD.1 i j x' y' a1 b1 (a2.trans (hxy.trans b2.symm))
        · simp only [mm_ws, List.getElem?_map] at hk0
          cases hc0 : mm_ids[k0]? with
          | none => rw [hc0] at hk0; cases hk0
          | some c0 => rw [hc0] at hk0; cases hk0; exact ⟨c0, List.mem_of_getElem? hc0, rfl⟩
      rcases hcase with ⟨-, rfl, hk1⟩ | ⟨x, rfl, hk1⟩ | ⟨x, rfl, hk1⟩ | ⟨x, rfl, hk1⟩
      · obtain rfl := hro.v
        exact hk _ _ _ _ _ _ _ hk1 ⟨hP1, hD1, hS1, rfl, rfl⟩ (fun _ _ h => h) hrr
      · obtain ⟨w, rfl, hw⟩ := hro.s
        exact hk _ _ _ _ _ _ _ hk1 ⟨hP1, hD1, hS1, rfl, rfl⟩ (fun _ _ h => h) ⟨hw, hrr⟩
      · obtain ⟨w, rfl, hw⟩ := hro.s
        exact hk _ _ _ _ _ _ _ hk1 ⟨hP1, hD1, hS1, rfl, rfl⟩ (fun _ _ h => h) ⟨hw, hrr⟩
      · obtain ⟨w, rfl, hw⟩ := hro.s
        exact hk _ _ _ _ _ _ _ hk1 ⟨hP1, hD1, hS1, rfl, rfl⟩ (fun _ _ h => h) ⟨hw, hrr⟩
  cases i
  case getfield idx =>
    obtain rfl : len = 3 := by simpa [am_lnok] using hln
    dsimp only [mm_hop] at he
    split at he
    · rename_i r
      obtain ⟨r0, rr, rfl, h0, hs9⟩ := am_S2_c hst
      obtain rfl : r0 = .ref (ad 0) := h0
      split at he
      · rename_i j hj
        obtain ⟨hj1, hj2⟩ := mm_F_ok _ (am_lk_mem hj)
        have hfs := mm_fs_at (ad := ad) (σ := σ) hj1
        refine va_get (D := D) (ci := ci) (C := RX6) (T := TX6) (N := 35) (ref := "FormulaVoiceModel") hx hb hts in_X6 hown hK hP 0 hw0 hc j hj1 (hts _ hj2) (fun x h => by rw [TX6_1] at h; exact h) hfs hdg ?_
        split at he
        · rename_i z hz
          rw [hz]
          exact hk _ _ _ _ _ _ _ he ⟨hP, hD, hS, rfl, rfl⟩ (fun _ _ h => h) ⟨rfl, hs9⟩
        · rename_i hz
          rw [hz]
          exact hk _ _ _ _ _ _ _ he ⟨hP, hD, hS, rfl, rfl⟩ (fun _ _ h => h) ⟨rfl, hs9⟩
      · cases he
    · cases he
  case putfield idx =>
    obtain rfl : len = 3 := by simpa [am_lnok] using hln
    dsimp only [mm_hop] at he
    split at he
    · rename_i v r
      obtain ⟨rr1, rfl, hs8⟩ := am_S2_i hst
      obtain ⟨r0, rr, rfl, h0, hs9⟩ := am_S2_c hs8
      obtain rfl : r0 = .ref (ad 0) := h0
      split at he
      · rename_i j hj
        have hmem := am_lk_mem hj
        obtain ⟨hj1, hj2⟩ := mm_F_ok _ hmem
        have hjl : j < (mm_fs ad σ).length := by simpa [mm_fs] using hj1
        split at he
        · cases he
        · rename_i hz
          obtain ⟨hfin, hty⟩ := mm_F_sc _ hmem hz
          have hput : (fits (tyX6 j) (.int v) = true) → (narrow (tyX6 j) (.int v) = .int v) → k r (mm_p σ j v) = some res → W p l e { frames := f + 1, cells := 0, slots := 0, locals := 40 * (f + 1) } s m args below meth c H locs 0 0 Q (F0 m pc rls (.int v :: .ref (ad 0) :: rr)) := by
            intro hfit hnar hkk
            refine va_put (D := D) (ci := ci) (C := RX6) (T := TX6) (N := 35) (ref := "FormulaVoiceModel") hx hb hts in_X6 tyX6 tyX6_ok nmX6 hown hK hP hD hS 0 hw0 hc j hj1 (hts _ hj2) (fun x h => by rw [TX6_1] at h; exact h) hfin (tyX6_ok j hj1) hnar hfit hjl hdg (fun H1 locs1 hP1 hD1 hS1 => ?_)
            rw [mm_ws_p hj1 hz] at hP1 hD1
            exact hk _ _ _ _ _ _ _ hkk ⟨hP1, hD1, hS1, rfl, rfl⟩ (fun _ _ h => h) hs9
          cases h30 : Nat.beq j 30 with
          | true =>
            rw [h30, cond_true] at he
            have hj30 := Nat.eq_of_beq_eq_true h30
            rw [if_pos hj30] at hty
            split at he
            · rename_i hv
              rw [hty] at hput
              rcases hv with rfl | rfl
              · exact hput (by decide) (by decide) he
              · exact hput (by decide) (by decide) he
            · cases he
          | false =>
            rw [h30, cond_false] at he
            have hj30 : ¬ j = 30 := fun q => by rw [q] at h30; cases h30
            rw [if_neg hj30] at hty
            rw [hty] at hput
            exact hput rfl rfl he
      · cases he
    · cases he
  case iaload =>
    obtain rfl : len = 1 := by simpa [am_lnok] using hln
    dsimp only [mm_hop] at he
    split at he
    · rename_i i c0 r
      obtain ⟨rr1, rfl, hs8⟩ := am_S2_i hst
      obtain ⟨r0, rr, rfl, h0, hs9⟩ := am_S2_c hs8
      obtain rfl : r0 = .ref (ad c0) := h0
      split at he
      · rename_i n hn
        obtain ⟨hmem, -⟩ := mm_A_ids _ (am_lk_mem hn)
        obtain ⟨q0, hq0⟩ := mm_ids_at hmem
        have hat := mm_ws_at (ad := ad) (d := d) (ci := ci) (s := σ) hq0
        simp only [mm_E, hn] at hat
        obtain ⟨hin, he⟩ := am_ix_e he
        exact va_iald hx hb hK hP q0 0 hat rfl hin hdg (hk _ _ _ _ _ _ _ he ⟨hP, hD, hS, rfl, rfl⟩ (fun _ _ h => h) ⟨rfl, hs9⟩)
      · cases he
    · cases he
  case baload =>
    obtain rfl : len = 1 := by simpa [am_lnok] using hln
    dsimp only [mm_hop] at he
    split at he
    · rename_i i c0 r
      obtain ⟨rr1, rfl, hs8⟩ := am_S2_i hst
      obtain ⟨r0, rr, rfl, h0, hs9⟩ := am_S2_c hs8
      obtain rfl : r0 = .ref (ad c0) := h0
      split at he
      · rename_i n hn
        obtain ⟨hmem, -⟩ := mm_A_ids _ (am_lk_mem hn)
        obtain ⟨q0, hq0⟩ := mm_ids_at hmem
        have hat := mm_ws_at (ad := ad) (d := d) (ci := ci) (s := σ) hq0
        simp only [mm_E, hn] at hat
        obtain ⟨hin, he⟩ := am_ix_e he
        exact va_zald hx hb hK hP q0 1 hat rfl hin hdg (hk _ _ _ _ _ _ _ he ⟨hP, hD, hS, rfl, rfl⟩ (fun _ _ h => h) ⟨rfl, hs9⟩)
      · cases he
    · cases he
  case laload =>
    obtain rfl : len = 1 := by simpa [am_lnok] using hln
    dsimp only [mm_hop] at he
    split at he
    · rename_i i c0 r
      obtain ⟨rr1, rfl, hs8⟩ := am_S2_i hst
      obtain ⟨r0, rr, rfl, h0, hs9⟩ := am_S2_c hs8
      obtain rfl : r0 = .ref (ad c0) := h0
      split at he
      · rename_i n hn
        obtain ⟨hmem, -⟩ := mm_A_ids _ (am_lk_mem hn)
        obtain ⟨q0, hq0⟩ := mm_ids_at hmem
        have hat := mm_ws_at (ad := ad) (d := d) (ci := ci) (s := σ) hq0
        simp only [mm_E, hn] at hat
        obtain ⟨hin, he⟩ := am_ix_e he
        exact va_lald hx hb hK hP q0 2 hat rfl hin hdg (hk _ _ _ _ _ _ _ he ⟨hP, hD, hS, rfl, rfl⟩ (fun _ _ h => h) ⟨rfl, hs9⟩)
      · cases he
    · cases he
  case iastore =>
    obtain rfl : len = 1 := by simpa [am_lnok] using hln
    dsimp only [mm_hop] at he
    split at he
    · rename_i v i c0 r
      obtain ⟨rr2, rfl, hs7⟩ := am_S2_i hst
      obtain ⟨rr1, rfl, hs8⟩ := am_S2_i hs7
      obtain ⟨r0, rr, rfl, h0, hs9⟩ := am_S2_c hs8
      obtain rfl : r0 = .ref (ad c0) := h0
      split at he
      · rename_i n hn
        obtain ⟨hmem, -⟩ := mm_A_ids _ (am_lk_mem hn)
        obtain ⟨q0, hq0⟩ := mm_ids_at hmem
        have hat := mm_ws_at (ad := ad) (d := d) (ci := ci) (s := σ) hq0
        simp only [mm_E, hn] at hat
        obtain ⟨hin, he⟩ := am_ix_e he
        refine va_iast hx hb hK hP hD hS q0 0 hat rfl hin hdg (fun H1 locs1 hP1 hD1 hS1 => ?_)
        rw [mm_ws_pa hq0 (i := i.toNatClampNeg) (v := v) (by simp only [mm_E, hn, mm_pa, va_up, if_true])] at hP1 hD1
        exact hk _ _ _ _ _ _ _ he ⟨hP1, hD1, hS1, rfl, rfl⟩ (fun _ _ h => h) hs9
      · cases he
    · cases he
  case bastore =>
    obtain rfl : len = 1 := by simpa [am_lnok] using hln
    dsimp only [mm_hop] at he
    split at he
    · rename_i v i c0 r
      obtain ⟨rr2, rfl, hs7⟩ := am_S2_i hst
      obtain ⟨rr1, rfl, hs8⟩ := am_S2_i hs7
      obtain ⟨r0, rr, rfl, h0, hs9⟩ := am_S2_c hs8
      obtain rfl : r0 = .ref (ad c0) := h0
      split at he
      · rename_i n hn
        obtain ⟨hmem, -⟩ := mm_A_ids _ (am_lk_mem hn)
        obtain ⟨q0, hq0⟩ := mm_ids_at hmem
        have hat := mm_ws_at (ad := ad) (d := d) (ci := ci) (s := σ) hq0
        simp only [mm_E, hn] at hat
        obtain ⟨hin, he⟩ := am_ix_e he
        refine va_zast hx hb hK hP hD hS q0 1 hat rfl hin hdg (fun H1 locs1 hP1 hD1 hS1 => ?_)
        rw [mm_ws_pa hq0 (i := i.toNatClampNeg) (v := v &&& 1) (by simp only [mm_E, hn, mm_pa, va_up, if_true]; rfl)] at hP1 hD1
        exact hk _ _ _ _ _ _ _ he ⟨hP1, hD1, hS1, rfl, rfl⟩ (fun _ _ h => h) hs9
      · cases he
    · cases he
  case lastore =>
    obtain rfl : len = 1 := by simpa [am_lnok] using hln
    dsimp only [mm_hop] at he
    split at he
    · rename_i v i c0 r
      obtain ⟨rr2, rfl, hs7⟩ := am_S2_l hst
      obtain ⟨rr1, rfl, hs8⟩ := am_S2_i hs7
      obtain ⟨r0, rr, rfl, h0, hs9⟩ := am_S2_c hs8
      obtain rfl : r0 = .ref (ad c0) := h0
      split at he
      · rename_i n hn
        obtain ⟨hmem, -⟩ := mm_A_ids _ (am_lk_mem hn)
        obtain ⟨q0, hq0⟩ := mm_ids_at hmem
        have hat := mm_ws_at (ad := ad) (d := d) (ci := ci) (s := σ) hq0
        simp only [mm_E, hn] at hat
        obtain ⟨hin, he⟩ := am_ix_e he
        refine va_last hx hb hK hP hD hS q0 2 hat rfl hin hdg (fun H1 locs1 hP1 hD1 hS1 => ?_)
        rw [mm_ws_pl hq0 (i := i.toNatClampNeg) (v := v) (by simp only [mm_E, hn, mm_pl, va_up, if_true])] at hP1 hD1
        exact hk _ _ _ _ _ _ _ he ⟨hP1, hD1, hS1, rfl, rfl⟩ (fun _ _ h => h) hs9
      · cases he
    · cases he
  case ldc2_w idx =>
    obtain rfl : len = 3 := by simpa [am_lnok] using hln
    dsimp only [mm_hop] at he
    split at he
    · rename_i v hv
      exact lv_ldc2 hx hb hown (hts _ (mm_K_ok _ (am_lk_mem hv))) hdg (hk _ _ _ _ _ _ _ he ⟨hP, hD, hS, rfl, rfl⟩ (fun _ _ h => h) ⟨rfl, hst⟩)
    · cases he
  case invokevirtual idx =>
    obtain rfl : len = 3 := by simpa [am_lnok] using hln
    dsimp only [mm_hop] at he
    split at he
    · rename_i mt n rk hI
      obtain ⟨M, hM1, hlink, hdesc, -, -, hin⟩ := mm_I_ok _ (am_lk_mem hI)
      obtain ⟨hpl, hcls, hnl, -, hcode⟩ := mm_T_ok _ (am_lk_mem hM1)
      obtain ⟨hi1, hi2⟩ := hin rfl
      have hn1 := mm_I_n _ (am_lk_mem hI) rfl
      obtain ⟨as, r, hst1, hlen, he⟩ := am_tk_e he
      rw [List.append_nil] at he
      split at he
      · rename_i tl hrev
        cases hble : Nat.ble (am_wt r) 8 with
        | false => rw [hble] at he; cases he
        | true =>
          rw [hble, cond_true] at he
          refine hgo mt M _ r rk hM1 (by rw [List.reverse_reverse]; exact hst1) hble he ?_ rfl
          intro rargs rr hrst hra hrr4 Pc Qc hMet hFB hPre
          rw [hrev] at hra
          obtain ⟨r0, rt0, rfl, h0, hrt⟩ := am_S2_c hra
          obtain rfl : r0 = .ref (ad 0) := h0
          refine va_runV (C := RX6) (own := RX6) (n := n - 1) (Ts := lw_all) (As := rt0) ⟨hx, hb, hml, hown, hts⟩ hMet (cwV (n - 1) hts (lw_V hlink hi1 hi2 q76 hcode) rfl rfl rfl ⟨hcls, by rw [hcls]; decide, by rw [hcls]; decide, hdesc⟩ ⟨Nat.le_refl _, by dsimp only at hnl ⊢; omega⟩) ⟨hFB, va_recv hK hP (ci := ci) (q0 := 0) hc hw0, hPre⟩ rfl ?_ hsz ?_ ?_ hdg ⟨Nat.le_refl _, Nat.le_refl _⟩
          · have := am_S2_len hrt
            have h5 := congrArg List.length hrev
            rw [List.length_reverse, List.length_cons, hlen] at h5
            omega
          · rw [hrst, List.reverse_cons, List.append_assoc]
            rfl
          · exact (Nat.zero_add _).symm ▸ hrr4
      · cases he
    · cases he
  case invokestatic idx =>
    obtain rfl : len = 3 := by simpa [am_lnok] using hln
    dsimp only [mm_hop] at he
    split at he
    · rename_i mt n rk hI
      obtain ⟨M, hM1, hlink, hdesc, -, hstat, -⟩ := mm_I_ok _ (am_lk_mem hI)
      obtain ⟨hpl, hcls, hnl, -, hcode⟩ := mm_T_ok _ (am_lk_mem hM1)
      have hst2 := hstat rfl
      unfold am_inv at he
      obtain ⟨as, r, hst1, hlen, he⟩ := am_tk_e he
      rw [List.append_nil] at he
      cases hble : Nat.ble (am_wt r) 8 with
      | false => rw [hble] at he; cases he
      | true =>
        rw [hble, cond_true] at he
        refine hgo mt M _ r rk hM1 (by rw [List.reverse_reverse]; exact hst1) hble he ?_ rfl
        intro rargs rr hrst hra hrr4 Pc Qc hMet hFB hPre
        refine va_runS (own := RX6) (n := n) (Ts := lw_all) (As := rargs) ⟨hx, hb, hml, hown, hts⟩ hMet (va_cwS n hts (lw_S hlink hst2 (by rw [hcls]; exact q76) hcode) rfl rfl rfl ⟨by rw [hcls]; decide, by rw [hcls]; decide, hdesc⟩ ⟨Nat.le_refl _, by dsimp only at hnl ⊢; omega⟩) ⟨hFB, hPre⟩ rfl ?_ hsz hrst ?_ hdg ⟨Nat.le_refl _, Nat.le_refl _⟩
        · rw [am_S2_len hra, List.length_reverse, hlen]
        · exact (Nat.zero_add _).symm ▸ hrr4
    · cases he
  all_goals cases he
