set_option maxRecDepth 100000
/-! THE COMPONENT's TREES: what its recursions over a tree answer. -/
section
variable {N : Nat}
theorem cs_s71 : ∀ k, k ≤ 9 → cs_sel [71, 71, 71, 71, 71, 71, 71, 71, 71, 71] k = 71 := by
  have h : ∀ k, k < 10 → cs_sel [71, 71, 71, 71, 71, 71, 71, 71, 71, 71] k = 71 := by decide
  exact fun k q => h k (by omega)
theorem cs_vxi {f n k v : Nat} {x y : Tr} (h : tr_wf (.inner n k v x y)) (s : cs_S) : cs_call N (f + 1) (cs_sel [68, 68, 80, 80, 80, 80, 80, 83, 83, 83] k) [.inr (.inner n k v x y)] (s) = some (.inl (some (.inr (x))), s) := cs_vx h rfl s
theorem cs_vyi {f n k v : Nat} {x y : Tr} (h : tr_wf (.inner n k v x y)) (s : cs_S) : cs_call N (f + 1) (cs_sel [69, 69, 81, 81, 81, 81, 81, 69, 69, 69] k) [.inr (.inner n k v x y)] (s) = some (.inl (some (.inr (y))), s) := cs_vy h rfl s
theorem cs_vvi {f n k v : Nat} {x y : Tr} (h : tr_wf (.inner n k v x y)) (s : cs_S) : cs_call N (f + 1) (cs_sel [74, 74, 67, 67, 67, 67, 67, 67, 67, 87] k) [.inr (.inner n k v x y)] (s) = some (.inl (some (.inl (.int (tr_vI k v)))), s) := cs_vv h rfl s
theorem cs_c201 {f c j : Nat} {s : cs_S} (h : cs_isL c = true) (hj : j < (cs_t s c).length) (hl : (cs_t s c).length < 2 ^ 31) : cs_call N (f + 10) 201 [.inl (.ref c), .inl (.int (nI j))] (s) = some (.inl (some (.inr ((cs_t s c).getD j .leaf))), s) := by
  show cs_prim (f + 9) 201 [.inl (.ref c), .inl (.int (nI j))] s = _
  unfold cs_prim
  have : Nat.ble 9 (f + 9) = true := Nat.ble_eq_true_of_le (by omega)
  simp only [this, cond_true, cs_lid, h]
  rw [am_ix_nI hj hl]
theorem cs_isLike : ∀ (t u : Tr) (s : cs_S) (f : Nat), tr_wf t → tr_wf u → tr_lf t = false → tr_lf u = false → tr_dp t < f →
    cs_call N (f) 71 [.inr (t), .inr (u)] (s) = some (.inl (some (.inl (.int (b2 (tr_like t u))))), s) := by
  intro t
  induction t with
  | leaf => intro u s f _ _ h; cases h
  | inner n k v x y ihx ihy =>
    intro u s f hw hw' ht0 hu0 hf
    cases u with
    | leaf => cases hu0
    | inner n' k' v' x' y' =>
      obtain ⟨f, rfl⟩ : ∃ f', f = f' + 2 := ⟨f - 2, by simp only [tr_dp] at hf; have := hw.2.2; omega⟩
      have hwv := tr_wf_v hw
      have hwv' := tr_wf_v hw'
      simp only [tr_dp] at hf
      rw [dX7_isLike_eq]
      unfold dX7_isLike
      simp (disch := omega) only [ic_lit, ic_m1, ic_m2, ic_m3, am_ix_nI, am_ci_ok, am_cl_ok, am_cv_ok, am_ct_ok, am_dz_nI, nI_inj, nI_leI', nI_ltI', nI_lt0, nI_ge0, nI_eq0, nI_le0, nI_gt0, m2lt, m2ge, m2eq, eq_m2, nI_add, nI_subI, nI_mulI, b2_eq0, b2_eq1, b2_and1, band1, band0, if_true, if_false, ite_true, ite_false, cond_true, cond_false, ↓reduceIte, Nat.reduceAdd, Nat.reduceMul, Nat.reduceSub, Nat.reduceEqDiff, lN_lt', lN_le', lN_inj, lc_lt, lc_gt, lc_le, lc_ge, lc_eq, Nat.reduceLT, Nat.reduceLeDiff, reduceCtorEq, Nat.add_zero, Nat.zero_add, tr_nd_wf hw ht0, tr_nd_wf hw' hu0, cs_vxi hw, cs_vxi hw', cs_vyi hw, cs_vyi hw', cs_vvi hw, cs_vvi hw', tr_ki, tr_xi, tr_yi, tr_vi, tr_like]
      by_cases hk : k' = k
      · subst hk
        rw [if_pos rfl]
        have hlf := tr_wf_lf hw hw'
        simp only [tr_vI_eq hwv'.2.1 hwv.2.1 hwv'.2.2 hwv.2.2]
        have hfin : ∀ (back : cs_bt), jX7_isLike_45 back (cs_call N (f + 1)) s (.inner n k' v x y) (.inner n' k' v' x' y') = some (.inl (some (.inl (.int (b2 (tr_like y y'))))), s) := by
          intro back
          rw [jX7_isLike_45_eq]
          simp (disch := omega) only [ic_lit, ic_m1, ic_m2, ic_m3, am_ix_nI, am_ci_ok, am_cl_ok, am_cv_ok, am_ct_ok, am_dz_nI, nI_inj, nI_leI', nI_ltI', nI_lt0, nI_ge0, nI_eq0, nI_le0, nI_gt0, m2lt, m2ge, m2eq, eq_m2, nI_add, nI_subI, nI_mulI, b2_eq0, b2_eq1, b2_and1, band1, band0, if_true, if_false, ite_true, ite_false, cond_true, cond_false, ↓reduceIte, Nat.reduceAdd, Nat.reduceMul, Nat.reduceSub, Nat.reduceEqDiff, lN_lt', lN_le', lN_inj, lc_lt, lc_gt, lc_le, lc_ge, lc_eq, Nat.reduceLT, Nat.reduceLeDiff, reduceCtorEq, Nat.add_zero, Nat.zero_add, tr_nd_wf hw ht0, tr_nd_wf hw' hu0, cs_vyi hw, cs_vyi hw', tr_ki, tr_yi]
          cases qy : tr_lf y with
          | true =>
            have qy' := hlf.2.trans qy
            cases y with
            | leaf => cases y' with
              | leaf => rfl
              | inner _ _ _ _ _ => cases qy'
            | inner _ _ _ _ _ => cases qy
          | false =>
            have qy' := hlf.2.trans qy
            have hky : tr_k y ≤ 9 := by
              cases y with
              | leaf => cases qy
              | inner _ _ _ _ _ => exact (tr_wf_v hw.2.1).1
            simp (disch := omega) only [ic_lit, ic_m1, ic_m2, ic_m3, am_ix_nI, am_ci_ok, am_cl_ok, am_cv_ok, am_ct_ok, am_dz_nI, nI_inj, nI_leI', nI_ltI', nI_lt0, nI_ge0, nI_eq0, nI_le0, nI_gt0, m2lt, m2ge, m2eq, eq_m2, nI_add, nI_subI, nI_mulI, b2_eq0, b2_eq1, b2_and1, band1, band0, if_true, if_false, ite_true, ite_false, cond_true, cond_false, ↓reduceIte, Nat.reduceAdd, Nat.reduceMul, Nat.reduceSub, Nat.reduceEqDiff, lN_lt', lN_le', lN_inj, lc_lt, lc_gt, lc_le, lc_ge, lc_eq, Nat.reduceLT, Nat.reduceLeDiff, reduceCtorEq, Nat.add_zero, Nat.zero_add, tr_nd_wf hw.2.1 qy, cs_s71 _ hky, ihy y' s (f + 1) hw.2.1 hw'.2.1 qy qy' (by omega)]
            cases tr_like y y' <;> rfl
        by_cases hv : v' = v
        · subst hv
          rw [if_pos rfl]
          cases qx : tr_lf x with
          | true =>
            have qx' := hlf.1.trans qx
            rw [cond_true, jX7_isLike_45_31_eq, hfin]
            cases x with
            | leaf => cases x' with
              | leaf => simp [tr_like]
              | inner _ _ _ _ _ => cases qx'
            | inner _ _ _ _ _ => cases qx
          | false =>
            have qx' := hlf.1.trans qx
            have hkx : tr_k x ≤ 9 := by
              cases x with
              | leaf => cases qx
              | inner _ _ _ _ _ => exact (tr_wf_v hw.1).1
            simp (disch := omega) only [ic_lit, ic_m1, ic_m2, ic_m3, am_ix_nI, am_ci_ok, am_cl_ok, am_cv_ok, am_ct_ok, am_dz_nI, nI_inj, nI_leI', nI_ltI', nI_lt0, nI_ge0, nI_eq0, nI_le0, nI_gt0, m2lt, m2ge, m2eq, eq_m2, nI_add, nI_subI, nI_mulI, b2_eq0, b2_eq1, b2_and1, band1, band0, if_true, if_false, ite_true, ite_false, cond_true, cond_false, ↓reduceIte, Nat.reduceAdd, Nat.reduceMul, Nat.reduceSub, Nat.reduceEqDiff, lN_lt', lN_le', lN_inj, lc_lt, lc_gt, lc_le, lc_ge, lc_eq, Nat.reduceLT, Nat.reduceLeDiff, reduceCtorEq, Nat.add_zero, Nat.zero_add, tr_nd_wf hw.1 qx, cs_s71 _ hkx, ihx x' s (f + 1) hw.1 hw'.1 qx qx' (by omega), hfin]
            cases tr_like x x' <;> simp
        · rw [if_neg hv]
          have : (v == v') = false := beq_eq_false_iff_ne.mpr (fun q => hv q.symm)
          simp only [this, Bool.and_false, Bool.false_and]
      · rw [if_neg hk]
        have : (k == k') = false := beq_eq_false_iff_ne.mpr (fun q => hk q.symm)
        simp only [this, Bool.false_and]
theorem cs_timesIn (u : Tr) (hw' : tr_wf u) (hu0 : tr_lf u = false) : ∀ (t : Tr) (s : cs_S) (f : Nat), tr_wf t → tr_lf t = false → tr_dp t + 1 < f →
    cs_call N (f) 11 [.inr (t), .inr (u)] (s) = some (.inl (some (.inl (.int (nI (tr_has u t))))), s) := by
  intro t
  induction t with
  | leaf => intro s f _ h; cases h
  | inner n k v x y ihx ihy =>
    intro s f hw ht0 hf
    obtain ⟨f, rfl⟩ : ∃ f', f = f' + 2 := ⟨f - 2, by omega⟩
    have hwv := tr_wf_v hw
    have hlk := cs_isLike (N := N) _ u s (f + 1) hw hw' ht0 hu0 (by omega)
    simp only [tr_dp] at hf
    have h2 : ∀ (back : cs_bt) (m : Nat), jX1_timesIn_32 back (cs_call N (f + 1)) s (.inner n k v x y) u (nI m) = some (.inl (some (.inl (.int (nI (m + tr_has u y))))), s) := by
      intro back m
      rw [jX1_timesIn_32_eq]
      simp (disch := omega) only [ic_lit, ic_m1, ic_m2, ic_m3, am_ix_nI, am_ci_ok, am_cl_ok, am_cv_ok, am_ct_ok, am_dz_nI, nI_inj, nI_leI', nI_ltI', nI_lt0, nI_ge0, nI_eq0, nI_le0, nI_gt0, m2lt, m2ge, m2eq, eq_m2, nI_add, nI_subI, nI_mulI, b2_eq0, b2_eq1, b2_and1, band1, band0, if_true, if_false, ite_true, ite_false, cond_true, cond_false, ↓reduceIte, Nat.reduceAdd, Nat.reduceMul, Nat.reduceSub, Nat.reduceEqDiff, lN_lt', lN_le', lN_inj, lc_lt, lc_gt, lc_le, lc_ge, lc_eq, Nat.reduceLT, Nat.reduceLeDiff, reduceCtorEq, Nat.add_zero, Nat.zero_add, tr_nd_wf hw ht0, cs_vyi hw, tr_ki, tr_yi]
      cases qy : tr_lf y with
      | true =>
        cases y with
        | leaf => rfl
        | inner _ _ _ _ _ => cases qy
      | false =>
        simp (disch := omega) only [ic_lit, ic_m1, ic_m2, ic_m3, am_ix_nI, am_ci_ok, am_cl_ok, am_cv_ok, am_ct_ok, am_dz_nI, nI_inj, nI_leI', nI_ltI', nI_lt0, nI_ge0, nI_eq0, nI_le0, nI_gt0, m2lt, m2ge, m2eq, eq_m2, nI_add, nI_subI, nI_mulI, b2_eq0, b2_eq1, b2_and1, band1, band0, if_true, if_false, ite_true, ite_false, cond_true, cond_false, ↓reduceIte, Nat.reduceAdd, Nat.reduceMul, Nat.reduceSub, Nat.reduceEqDiff, lN_lt', lN_le', lN_inj, lc_lt, lc_gt, lc_le, lc_ge, lc_eq, Nat.reduceLT, Nat.reduceLeDiff, reduceCtorEq, Nat.add_zero, Nat.zero_add, ihy s (f + 1) hw.2.1 qy (by omega)]
    have h1 : ∀ (back : cs_bt) (m : Nat), jX1_timesIn_13 back (cs_call N (f + 1)) s (.inner n k v x y) u (nI m) = some (.inl (some (.inl (.int (nI (m + tr_has u x + tr_has u y))))), s) := by
      intro back m
      rw [jX1_timesIn_13_eq]
      simp (disch := omega) only [ic_lit, ic_m1, ic_m2, ic_m3, am_ix_nI, am_ci_ok, am_cl_ok, am_cv_ok, am_ct_ok, am_dz_nI, nI_inj, nI_leI', nI_ltI', nI_lt0, nI_ge0, nI_eq0, nI_le0, nI_gt0, m2lt, m2ge, m2eq, eq_m2, nI_add, nI_subI, nI_mulI, b2_eq0, b2_eq1, b2_and1, band1, band0, if_true, if_false, ite_true, ite_false, cond_true, cond_false, ↓reduceIte, Nat.reduceAdd, Nat.reduceMul, Nat.reduceSub, Nat.reduceEqDiff, lN_lt', lN_le', lN_inj, lc_lt, lc_gt, lc_le, lc_ge, lc_eq, Nat.reduceLT, Nat.reduceLeDiff, reduceCtorEq, Nat.add_zero, Nat.zero_add, tr_nd_wf hw ht0, cs_vxi hw, tr_ki, tr_xi]
      cases qx : tr_lf x with
      | true =>
        rw [cond_true, jX1_timesIn_32_21_eq, h2]
        cases x with
        | leaf => rfl
        | inner _ _ _ _ _ => cases qx
      | false =>
        simp (disch := omega) only [ic_lit, ic_m1, ic_m2, ic_m3, am_ix_nI, am_ci_ok, am_cl_ok, am_cv_ok, am_ct_ok, am_dz_nI, nI_inj, nI_leI', nI_ltI', nI_lt0, nI_ge0, nI_eq0, nI_le0, nI_gt0, m2lt, m2ge, m2eq, eq_m2, nI_add, nI_subI, nI_mulI, b2_eq0, b2_eq1, b2_and1, band1, band0, if_true, if_false, ite_true, ite_false, cond_true, cond_false, ↓reduceIte, Nat.reduceAdd, Nat.reduceMul, Nat.reduceSub, Nat.reduceEqDiff, lN_lt', lN_le', lN_inj, lc_lt, lc_gt, lc_le, lc_ge, lc_eq, Nat.reduceLT, Nat.reduceLeDiff, reduceCtorEq, Nat.add_zero, Nat.zero_add, ihx s (f + 1) hw.1 qx (by omega), h2]
    rw [dX1_timesIn_eq]
    unfold dX1_timesIn
    simp (disch := omega) only [ic_lit, ic_m1, ic_m2, ic_m3, am_ix_nI, am_ci_ok, am_cl_ok, am_cv_ok, am_ct_ok, am_dz_nI, nI_inj, nI_leI', nI_ltI', nI_lt0, nI_ge0, nI_eq0, nI_le0, nI_gt0, m2lt, m2ge, m2eq, eq_m2, nI_add, nI_subI, nI_mulI, b2_eq0, b2_eq1, b2_and1, band1, band0, if_true, if_false, ite_true, ite_false, cond_true, cond_false, ↓reduceIte, Nat.reduceAdd, Nat.reduceMul, Nat.reduceSub, Nat.reduceEqDiff, lN_lt', lN_le', lN_inj, lc_lt, lc_gt, lc_le, lc_ge, lc_eq, Nat.reduceLT, Nat.reduceLeDiff, reduceCtorEq, Nat.add_zero, Nat.zero_add, tr_nd_wf hw ht0, cs_s71 _ hwv.1, hlk, jX1_timesIn_13_12_eq, h1, tr_has, tr_ki]
    cases tr_like (.inner n k v x y) u <;> simp
/-- a letter's bit -/
def hasB (m : Nat) (l : Nat) : Bool := m.testBit l
theorem bit_nI {m l : Nat} (hm : m < 2 ^ 31) (hl : l < 32) : (nI m >>> (nI l &&& 31)) &&& nI 1 = b2 (m.testBit l) := by
  have h1 : ∀ l, l < 32 → ((nI l &&& 31).toBitVec.smod 32).toNat = l := by decide
  rw [pk_shrN hm _ l (h1 l hl), pk_andN (Nat.lt_of_le_of_lt (Nat.div_le_self _ _) (by omega)) 1 (by decide)]
  rw [Nat.testBit, Nat.shiftRight_eq_div_pow]
  have : 1 &&& m / 2 ^ l = (m / 2 ^ l) % 2 := by rw [Nat.one_and_eq_mod_two]
  rw [this]
  rcases Nat.mod_two_eq_zero_or_one (m / 2 ^ l) with h | h
  · simp [h, b2]; decide
  · simp [h, b2]; decide
theorem cs_isRight (F : Nat → Bool) (m : Nat) (hm : m < 1024) (hF : ∀ l, l < 10 → m.testBit l = F l) : ∀ (t : Tr) (s : cs_S) (f : Nat), tr_wf t → tr_lf t = false → 2 * tr_dp t < f →
    cs_call N (f) (cs_sel [75, 78, 70, 70, 70, 70, 70, 70, 70, 88] (tr_k t)) [.inr (t), .inl (.int (nI m))] (s) = some (.inl (some (.inl (.int (b2 (tr_right F t))))), s) := by
  intro t
  induction t with
  | leaf => intro s f _ h; cases h
  | inner n k v x y ihx ihy =>
    intro s f hw ht0 hf
    obtain ⟨f, rfl⟩ : ∃ f', f = f' + 3 := ⟨f - 3, by simp only [tr_dp] at hf; omega⟩
    have hwv := tr_wf_v hw
    have hw0 := hw
    simp only [tr_dp] at hf
    have h2 : ∀ (f0 : Nat) (back : cs_bt), 2 * tr_dp y < f0 → jX7_isRight_18 back (cs_call N f0) s (.inner n k v x y) (nI m) = some (.inl (some (.inl (.int (b2 (tr_right F y))))), s) := by
      intro f0 back hf0
      obtain ⟨f1, rfl⟩ : ∃ f1, f0 = f1 + 1 := ⟨f0 - 1, by omega⟩
      rw [jX7_isRight_18_eq]
      simp (disch := omega) only [ic_lit, ic_m1, ic_m2, ic_m3, am_ix_nI, am_ci_ok, am_cl_ok, am_cv_ok, am_ct_ok, am_dz_nI, nI_inj, nI_leI', nI_ltI', nI_lt0, nI_ge0, nI_eq0, nI_le0, nI_gt0, m2lt, m2ge, m2eq, eq_m2, nI_add, nI_subI, nI_mulI, b2_eq0, b2_eq1, b2_and1, band1, band0, if_true, if_false, ite_true, ite_false, cond_true, cond_false, ↓reduceIte, Nat.reduceAdd, Nat.reduceMul, Nat.reduceSub, Nat.reduceEqDiff, lN_lt', lN_le', lN_inj, lc_lt, lc_gt, lc_le, lc_ge, lc_eq, Nat.reduceLT, Nat.reduceLeDiff, reduceCtorEq, Nat.add_zero, Nat.zero_add, tr_nd_wf hw ht0, cs_vyi hw, tr_ki, tr_yi]
      cases qy : tr_lf y with
      | true =>
        cases y with
        | leaf => rfl
        | inner _ _ _ _ _ => cases qy
      | false =>
        simp (disch := omega) only [ic_lit, ic_m1, ic_m2, ic_m3, am_ix_nI, am_ci_ok, am_cl_ok, am_cv_ok, am_ct_ok, am_dz_nI, nI_inj, nI_leI', nI_ltI', nI_lt0, nI_ge0, nI_eq0, nI_le0, nI_gt0, m2lt, m2ge, m2eq, eq_m2, nI_add, nI_subI, nI_mulI, b2_eq0, b2_eq1, b2_and1, band1, band0, if_true, if_false, ite_true, ite_false, cond_true, cond_false, ↓reduceIte, Nat.reduceAdd, Nat.reduceMul, Nat.reduceSub, Nat.reduceEqDiff, lN_lt', lN_le', lN_inj, lc_lt, lc_gt, lc_le, lc_ge, lc_eq, Nat.reduceLT, Nat.reduceLeDiff, reduceCtorEq, Nat.add_zero, Nat.zero_add, tr_nd_wf hw.2.1 qy, ihy s (f1 + 1) hw.2.1 qy (by omega)]
        cases tr_right F y <;> rfl
    have h1 : ∀ (f0 : Nat), 2 * max (tr_dp x) (tr_dp y) + 1 < f0 → cs_call N (f0) 70 [.inr (.inner n k v x y), .inl (.int (nI m))] (s) = some (.inl (some (.inl (.int (b2 (tr_right F x && tr_right F y))))), s) := by
      intro f0 hf0
      obtain ⟨f1, rfl⟩ : ∃ f1, f0 = f1 + 2 := ⟨f0 - 2, by omega⟩
      rw [dX7_isRight_eq]
      unfold dX7_isRight
      simp (disch := omega) only [ic_lit, ic_m1, ic_m2, ic_m3, am_ix_nI, am_ci_ok, am_cl_ok, am_cv_ok, am_ct_ok, am_dz_nI, nI_inj, nI_leI', nI_ltI', nI_lt0, nI_ge0, nI_eq0, nI_le0, nI_gt0, m2lt, m2ge, m2eq, eq_m2, nI_add, nI_subI, nI_mulI, b2_eq0, b2_eq1, b2_and1, band1, band0, if_true, if_false, ite_true, ite_false, cond_true, cond_false, ↓reduceIte, Nat.reduceAdd, Nat.reduceMul, Nat.reduceSub, Nat.reduceEqDiff, lN_lt', lN_le', lN_inj, lc_lt, lc_gt, lc_le, lc_ge, lc_eq, Nat.reduceLT, Nat.reduceLeDiff, reduceCtorEq, Nat.add_zero, Nat.zero_add, tr_nd_wf hw ht0, cs_vxi hw, tr_ki, tr_xi]
      cases qx : tr_lf x with
      | true =>
        rw [cond_true, jX7_isRight_18_7_eq, h2 _ _ (by omega)]
        cases x with
        | leaf => simp [tr_right]
        | inner _ _ _ _ _ => cases qx
      | false =>
        simp (disch := omega) only [ic_lit, ic_m1, ic_m2, ic_m3, am_ix_nI, am_ci_ok, am_cl_ok, am_cv_ok, am_ct_ok, am_dz_nI, nI_inj, nI_leI', nI_ltI', nI_lt0, nI_ge0, nI_eq0, nI_le0, nI_gt0, m2lt, m2ge, m2eq, eq_m2, nI_add, nI_subI, nI_mulI, b2_eq0, b2_eq1, b2_and1, band1, band0, if_true, if_false, ite_true, ite_false, cond_true, cond_false, ↓reduceIte, Nat.reduceAdd, Nat.reduceMul, Nat.reduceSub, Nat.reduceEqDiff, lN_lt', lN_le', lN_inj, lc_lt, lc_gt, lc_le, lc_ge, lc_eq, Nat.reduceLT, Nat.reduceLeDiff, reduceCtorEq, Nat.add_zero, Nat.zero_add, tr_nd_wf hw.1 qx, ihx s (f1 + 1) hw.1 qx (by omega), h2 (f1 + 1) _ (by omega)]
        cases tr_right F x <;> simp
    obtain ⟨-, -, hw⟩ := hw
    rcases hw with ⟨rfl, hv, hx, hy⟩ | ⟨rfl, hv, hx, hy⟩ | ⟨h2', h6, -⟩ | ⟨h78, -⟩ | ⟨rfl, hv, -⟩
    · show cs_call N (f + 2 + 1) 75 [.inr (.inner n 0 v x y), .inl (.int (nI m))] (s) = _
      rw [dX8_isRight_eq]
      unfold dX8_isRight
      simp (disch := omega) only [ic_lit, ic_m1, ic_m2, ic_m3, am_ix_nI, am_ci_ok, am_cl_ok, am_cv_ok, am_ct_ok, am_dz_nI, nI_inj, nI_leI', nI_ltI', nI_lt0, nI_ge0, nI_eq0, nI_le0, nI_gt0, m2lt, m2ge, m2eq, eq_m2, nI_add, nI_subI, nI_mulI, b2_eq0, b2_eq1, b2_and1, band1, band0, if_true, if_false, ite_true, ite_false, cond_true, cond_false, ↓reduceIte, Nat.reduceAdd, Nat.reduceMul, Nat.reduceSub, Nat.reduceEqDiff, lN_lt', lN_le', lN_inj, lc_lt, lc_gt, lc_le, lc_ge, lc_eq, Nat.reduceLT, Nat.reduceLeDiff, reduceCtorEq, Nat.add_zero, Nat.zero_add, show tr_in 0 1 (.inner n 0 v x y) = true from rfl, tr_vi, bit_nI (m := m) (l := v) (by omega) (by omega), hF v (by omega), tr_right]
      have ex : tr_right F x = true := by cases x with
        | leaf => rfl
        | inner _ _ _ _ _ => cases hx
      have ey : tr_right F y = true := by cases y with
        | leaf => rfl
        | inner _ _ _ _ _ => cases hy
      rw [ex, ey]
      cases F v <;> rfl
    · show cs_call N (f + 2 + 1) 78 [.inr (.inner n 1 v x y), .inl (.int (nI m))] (s) = _
      rw [dX9_isRight_eq]
      unfold dX9_isRight
      have ex : tr_right F x = true := by cases x with
        | leaf => rfl
        | inner _ _ _ _ _ => cases hx
      have ey : tr_right F y = true := by cases y with
        | leaf => rfl
        | inner _ _ _ _ _ => cases hy
      simp [tr_right, ex, ey]
      rfl
    · have : cs_sel [75, 78, 70, 70, 70, 70, 70, 70, 70, 88] (tr_k (.inner n k v x y)) = 70 := by
        have h : ∀ k, k < 9 → 2 ≤ k → cs_sel [75, 78, 70, 70, 70, 70, 70, 70, 70, 88] k = 70 := by decide
        exact h k (by omega) h2'
      rw [this, h1 _ (by omega)]
      have a : ¬ k = 0 := by omega
      have b : ¬ k = 9 := by omega
      simp only [tr_right, if_neg a, if_neg b, Bool.true_and]
    · have : cs_sel [75, 78, 70, 70, 70, 70, 70, 70, 70, 88] (tr_k (.inner n k v x y)) = 70 := by
        have h : ∀ k, k < 9 → 2 ≤ k → cs_sel [75, 78, 70, 70, 70, 70, 70, 70, 70, 88] k = 70 := by decide
        exact h k (by omega) (by omega)
      rw [this, h1 _ (by omega)]
      have a : ¬ k = 0 := by omega
      have b : ¬ k = 9 := by omega
      simp only [tr_right, if_neg a, if_neg b, Bool.true_and]
    · show cs_call N (f + 2 + 1) 88 [.inr (.inner n 9 v x y), .inl (.int (nI m))] (s) = _
      rw [dX14_isRight_eq]
      unfold dX14_isRight
      have h1 := h1 (f + 2) (by omega)
      simp (disch := omega) only [ic_lit, ic_m1, ic_m2, ic_m3, am_ix_nI, am_ci_ok, am_cl_ok, am_cv_ok, am_ct_ok, am_dz_nI, nI_inj, nI_leI', nI_ltI', nI_lt0, nI_ge0, nI_eq0, nI_le0, nI_gt0, m2lt, m2ge, m2eq, eq_m2, nI_add, nI_subI, nI_mulI, b2_eq0, b2_eq1, b2_and1, band1, band0, if_true, if_false, ite_true, ite_false, cond_true, cond_false, ↓reduceIte, Nat.reduceAdd, Nat.reduceMul, Nat.reduceSub, Nat.reduceEqDiff, lN_lt', lN_le', lN_inj, lc_lt, lc_gt, lc_le, lc_ge, lc_eq, Nat.reduceLT, Nat.reduceLeDiff, reduceCtorEq, Nat.add_zero, Nat.zero_add, show tr_in 9 9 (.inner n 9 v x y) = true from rfl, tr_vi, bit_nI (m := m) (l := v) (by omega) (by omega), hF v (by omega), tr_right, h1]
      cases F v <;> cases tr_right F x <;> cases tr_right F y <;> rfl
theorem cs_keepers : ∀ (t : Tr) (s : cs_S) (f : Nat), tr_wf t → tr_lf t = false → tr_dp t + 2 < f →
    cs_call N (f) 45 [.inr (t)] (s) = some (.inl (some (.inl (.int (nI (kc t))))), s) := by
  intro t
  induction t with
  | leaf => intro s f _ h; cases h
  | inner n k v x y ihx ihy =>
    intro s f hw ht0 hf
    obtain ⟨f, rfl⟩ : ∃ f', f = f' + 3 := ⟨f - 3, by omega⟩
    have hwv := tr_wf_v hw
    simp only [tr_dp] at hf
    have h2 : ∀ (back : cs_bt) (m : Nat), jX1_keepers_33 back (cs_call N (f + 2)) s (.inner n k v x y) (nI m) = some (.inl (some (.inl (.int (nI (m + kc y))))), s) := by
      intro back m
      rw [jX1_keepers_33_eq]
      simp (disch := omega) only [ic_lit, ic_m1, ic_m2, ic_m3, am_ix_nI, am_ci_ok, am_cl_ok, am_cv_ok, am_ct_ok, am_dz_nI, nI_inj, nI_leI', nI_ltI', nI_lt0, nI_ge0, nI_eq0, nI_le0, nI_gt0, m2lt, m2ge, m2eq, eq_m2, nI_add, nI_subI, nI_mulI, b2_eq0, b2_eq1, b2_and1, band1, band0, if_true, if_false, ite_true, ite_false, cond_true, cond_false, ↓reduceIte, Nat.reduceAdd, Nat.reduceMul, Nat.reduceSub, Nat.reduceEqDiff, lN_lt', lN_le', lN_inj, lc_lt, lc_gt, lc_le, lc_ge, lc_eq, Nat.reduceLT, Nat.reduceLeDiff, reduceCtorEq, Nat.add_zero, Nat.zero_add, tr_nd_wf hw ht0, cs_vyi hw, tr_ki, tr_yi]
      cases qy : tr_lf y with
      | true =>
        cases y with
        | leaf => rfl
        | inner _ _ _ _ _ => cases qy
      | false =>
        simp (disch := omega) only [ic_lit, ic_m1, ic_m2, ic_m3, am_ix_nI, am_ci_ok, am_cl_ok, am_cv_ok, am_ct_ok, am_dz_nI, nI_inj, nI_leI', nI_ltI', nI_lt0, nI_ge0, nI_eq0, nI_le0, nI_gt0, m2lt, m2ge, m2eq, eq_m2, nI_add, nI_subI, nI_mulI, b2_eq0, b2_eq1, b2_and1, band1, band0, if_true, if_false, ite_true, ite_false, cond_true, cond_false, ↓reduceIte, Nat.reduceAdd, Nat.reduceMul, Nat.reduceSub, Nat.reduceEqDiff, lN_lt', lN_le', lN_inj, lc_lt, lc_gt, lc_le, lc_ge, lc_eq, Nat.reduceLT, Nat.reduceLeDiff, reduceCtorEq, Nat.add_zero, Nat.zero_add, ihy s (f + 2) hw.2.1 qy (by omega)]
    have h1 : ∀ (back : cs_bt) (m : Nat), jX1_keepers_15 back (cs_call N (f + 2)) s (.inner n k v x y) (nI m) = some (.inl (some (.inl (.int (nI (m + kc x + kc y))))), s) := by
      intro back m
      rw [jX1_keepers_15_eq]
      simp (disch := omega) only [ic_lit, ic_m1, ic_m2, ic_m3, am_ix_nI, am_ci_ok, am_cl_ok, am_cv_ok, am_ct_ok, am_dz_nI, nI_inj, nI_leI', nI_ltI', nI_lt0, nI_ge0, nI_eq0, nI_le0, nI_gt0, m2lt, m2ge, m2eq, eq_m2, nI_add, nI_subI, nI_mulI, b2_eq0, b2_eq1, b2_and1, band1, band0, if_true, if_false, ite_true, ite_false, cond_true, cond_false, ↓reduceIte, Nat.reduceAdd, Nat.reduceMul, Nat.reduceSub, Nat.reduceEqDiff, lN_lt', lN_le', lN_inj, lc_lt, lc_gt, lc_le, lc_ge, lc_eq, Nat.reduceLT, Nat.reduceLeDiff, reduceCtorEq, Nat.add_zero, Nat.zero_add, tr_nd_wf hw ht0, cs_vxi hw, tr_ki, tr_xi]
      cases qx : tr_lf x with
      | true =>
        rw [cond_true, jX1_keepers_33_23_eq, h2]
        cases x with
        | leaf => rfl
        | inner _ _ _ _ _ => cases qx
      | false =>
        simp (disch := omega) only [ic_lit, ic_m1, ic_m2, ic_m3, am_ix_nI, am_ci_ok, am_cl_ok, am_cv_ok, am_ct_ok, am_dz_nI, nI_inj, nI_leI', nI_ltI', nI_lt0, nI_ge0, nI_eq0, nI_le0, nI_gt0, m2lt, m2ge, m2eq, eq_m2, nI_add, nI_subI, nI_mulI, b2_eq0, b2_eq1, b2_and1, band1, band0, if_true, if_false, ite_true, ite_false, cond_true, cond_false, ↓reduceIte, Nat.reduceAdd, Nat.reduceMul, Nat.reduceSub, Nat.reduceEqDiff, lN_lt', lN_le', lN_inj, lc_lt, lc_gt, lc_le, lc_ge, lc_eq, Nat.reduceLT, Nat.reduceLeDiff, reduceCtorEq, Nat.add_zero, Nat.zero_add, ihx s (f + 2) hw.1 qx (by omega), h2]
    rw [dX1_keepers_eq]
    unfold dX1_keepers
    simp (disch := omega) only [ic_lit, ic_m1, ic_m2, ic_m3, am_ix_nI, am_ci_ok, am_cl_ok, am_cv_ok, am_ct_ok, am_dz_nI, nI_inj, nI_leI', nI_ltI', nI_lt0, nI_ge0, nI_eq0, nI_le0, nI_gt0, m2lt, m2ge, m2eq, eq_m2, nI_add, nI_subI, nI_mulI, b2_eq0, b2_eq1, b2_and1, band1, band0, if_true, if_false, ite_true, ite_false, cond_true, cond_false, ↓reduceIte, Nat.reduceAdd, Nat.reduceMul, Nat.reduceSub, Nat.reduceEqDiff, lN_lt', lN_le', lN_inj, lc_lt, lc_gt, lc_le, lc_ge, lc_eq, Nat.reduceLT, Nat.reduceLeDiff, reduceCtorEq, Nat.add_zero, Nat.zero_add, tr_nd_wf hw ht0, cs_isKeeper, tr_ki, mkI_nI, jX1_keepers_15_14_eq, h1, kc]
    cases mk k <;> simp
theorem cs_diff_of {t u : Tr} {s : cs_S} {f : Nat} (ht0 : tr_lf t = false) (hu0 : tr_lf u = false) (hw : tr_wf t) (hw' : tr_wf u) (hz : tr_sz t < 1000) (hz' : tr_sz u < 1000)
    (hin : tr_k t = tr_k u → cs_call N (f) 56 [.inr (t), .inr (u)] (s) = some (.inl (some (.inl (.int (nI (tr_ins t u))))), s)) : cs_call N (f + 1) 55 [.inr (t), .inr (u)] (s) = some (.inl (some (.inl (.int (nI (tr_df t u))))), s) := by
  have hk1 : tr_k t ≤ 9 := by
    cases t with
    | leaf => cases ht0
    | inner _ _ _ _ _ => exact (tr_wf_v hw).1
  have hk2 : tr_k u ≤ 9 := by
    cases u with
    | leaf => cases hu0
    | inner _ _ _ _ _ => exact (tr_wf_v hw').1
  have hile := tr_ins_le t u
  rw [dX1_difference_eq]
  unfold dX1_difference tr_df
  simp (disch := omega) only [ic_lit, ic_m1, ic_m2, ic_m3, am_ix_nI, am_ci_ok, am_cl_ok, am_cv_ok, am_ct_ok, am_dz_nI, nI_inj, nI_leI', nI_ltI', nI_lt0, nI_ge0, nI_eq0, nI_le0, nI_gt0, m2lt, m2ge, m2eq, eq_m2, nI_add, nI_subI, nI_mulI, b2_eq0, b2_eq1, b2_and1, band1, band0, if_true, if_false, ite_true, ite_false, cond_true, cond_false, ↓reduceIte, Nat.reduceAdd, Nat.reduceMul, Nat.reduceSub, Nat.reduceEqDiff, lN_lt', lN_le', lN_inj, lc_lt, lc_gt, lc_le, lc_ge, lc_eq, Nat.reduceLT, Nat.reduceLeDiff, reduceCtorEq, Nat.add_zero, Nat.zero_add, tr_nd_wf hw ht0, tr_nd_wf hw' hu0]
  by_cases hk : tr_k t = tr_k u
  · rw [if_pos hk, if_pos hk, hin hk]
    simp (disch := omega) only [ic_lit, ic_m1, ic_m2, ic_m3, am_ix_nI, am_ci_ok, am_cl_ok, am_cv_ok, am_ct_ok, am_dz_nI, nI_inj, nI_leI', nI_ltI', nI_lt0, nI_ge0, nI_eq0, nI_le0, nI_gt0, m2lt, m2ge, m2eq, eq_m2, nI_add, nI_subI, nI_mulI, b2_eq0, b2_eq1, b2_and1, band1, band0, if_true, if_false, ite_true, ite_false, cond_true, cond_false, ↓reduceIte, Nat.reduceAdd, Nat.reduceMul, Nat.reduceSub, Nat.reduceEqDiff, lN_lt', lN_le', lN_inj, lc_lt, lc_gt, lc_le, lc_ge, lc_eq, Nat.reduceLT, Nat.reduceLeDiff, reduceCtorEq, Nat.add_zero, Nat.zero_add]
    by_cases hc : tr_ins t u < tr_sz t + tr_sz u
    · rw [if_pos hc, Nat.min_eq_right (by omega)]
    · rw [if_neg hc, Nat.min_eq_left (by omega)]
  · rw [if_neg hk, if_neg hk]
theorem cs_parts : ∀ (t u : Tr) (s : cs_S) (f : Nat), tr_lf t = false → tr_lf u = false → tr_wf t → tr_wf u → tr_sz t < 1000 → tr_sz u < 1000 → 2 * tr_dp t < f → tr_k t = tr_k u →
    cs_call N (f) 56 [.inr (t), .inr (u)] (s) = some (.inl (some (.inl (.int (nI (tr_ins t u))))), s) := by
  intro t
  induction t with
  | leaf => intro u s f h; cases h
  | inner n k v x y ihx ihy =>
    intro u s f ht0 hu0 hw hw' hz hz' hf hk
    cases u with
    | leaf => cases hu0
    | inner n' k' v' x' y' =>
      simp only [tr_ki] at hk
      subst hk
      obtain ⟨f, rfl⟩ : ∃ f', f = f' + 2 := ⟨f - 2, by simp only [tr_dp] at hf; omega⟩
      have hwv := tr_wf_v hw
      have hwv' := tr_wf_v hw'
      have hlf := tr_wf_lf hw hw'
      simp only [tr_dp] at hf
      simp only [tr_sz] at hz hz'
      have hX : tr_lf x = false → cs_call N (f + 1) 55 [.inr (x), .inr (x')] (s) = some (.inl (some (.inl (.int (nI (tr_df x x'))))), s) := fun q =>
        cs_diff_of q (hlf.1.trans q) hw.1 hw'.1 (by omega) (by omega) fun hk => ihx x' s f q (hlf.1.trans q) hw.1 hw'.1 (by omega) (by omega) (by omega) hk
      have hY : tr_lf y = false → cs_call N (f + 1) 55 [.inr (y), .inr (y')] (s) = some (.inl (some (.inl (.int (nI (tr_df y y'))))), s) := fun q =>
        cs_diff_of q (hlf.2.trans q) hw.2.1 hw'.2.1 (by omega) (by omega) fun hk => ihy y' s f q (hlf.2.trans q) hw.2.1 hw'.2.1 (by omega) (by omega) (by omega) hk
      have h2 : ∀ (back : cs_bt) (m : Nat), jX1_parts_38 back (cs_call N (f + 1)) s (.inner n k v x y) (.inner n' k v' x' y') (nI m) = some (.inl (some (.inl (.int (nI (m + if tr_lf y then 0 else tr_df y y'))))), s) := by
        intro back m
        rw [jX1_parts_38_eq]
        simp (disch := omega) only [ic_lit, ic_m1, ic_m2, ic_m3, am_ix_nI, am_ci_ok, am_cl_ok, am_cv_ok, am_ct_ok, am_dz_nI, nI_inj, nI_leI', nI_ltI', nI_lt0, nI_ge0, nI_eq0, nI_le0, nI_gt0, m2lt, m2ge, m2eq, eq_m2, nI_add, nI_subI, nI_mulI, b2_eq0, b2_eq1, b2_and1, band1, band0, if_true, if_false, ite_true, ite_false, cond_true, cond_false, ↓reduceIte, Nat.reduceAdd, Nat.reduceMul, Nat.reduceSub, Nat.reduceEqDiff, lN_lt', lN_le', lN_inj, lc_lt, lc_gt, lc_le, lc_ge, lc_eq, Nat.reduceLT, Nat.reduceLeDiff, reduceCtorEq, Nat.add_zero, Nat.zero_add, tr_nd_wf hw ht0, tr_nd_wf hw' hu0, cs_vyi hw, cs_vyi hw', tr_ki, tr_yi]
        cases qy : tr_lf y with
        | true => rfl
        | false => simp (disch := omega) only [ic_lit, ic_m1, ic_m2, ic_m3, am_ix_nI, am_ci_ok, am_cl_ok, am_cv_ok, am_ct_ok, am_dz_nI, nI_inj, nI_leI', nI_ltI', nI_lt0, nI_ge0, nI_eq0, nI_le0, nI_gt0, m2lt, m2ge, m2eq, eq_m2, nI_add, nI_subI, nI_mulI, b2_eq0, b2_eq1, b2_and1, band1, band0, if_true, if_false, ite_true, ite_false, cond_true, cond_false, ↓reduceIte, Nat.reduceAdd, Nat.reduceMul, Nat.reduceSub, Nat.reduceEqDiff, lN_lt', lN_le', lN_inj, lc_lt, lc_gt, lc_le, lc_ge, lc_eq, Nat.reduceLT, Nat.reduceLeDiff, reduceCtorEq, Nat.add_zero, Nat.zero_add, hY qy, Bool.false_eq_true]
      have h1 : ∀ (back : cs_bt) (m : Nat), jX1_parts_16 back (cs_call N (f + 1)) s (.inner n k v x y) (.inner n' k v' x' y') (nI m) = some (.inl (some (.inl (.int (nI (m + (if tr_lf x then 0 else tr_df x x') + if tr_lf y then 0 else tr_df y y'))))), s) := by
        intro back m
        rw [jX1_parts_16_eq]
        simp (disch := omega) only [ic_lit, ic_m1, ic_m2, ic_m3, am_ix_nI, am_ci_ok, am_cl_ok, am_cv_ok, am_ct_ok, am_dz_nI, nI_inj, nI_leI', nI_ltI', nI_lt0, nI_ge0, nI_eq0, nI_le0, nI_gt0, m2lt, m2ge, m2eq, eq_m2, nI_add, nI_subI, nI_mulI, b2_eq0, b2_eq1, b2_and1, band1, band0, if_true, if_false, ite_true, ite_false, cond_true, cond_false, ↓reduceIte, Nat.reduceAdd, Nat.reduceMul, Nat.reduceSub, Nat.reduceEqDiff, lN_lt', lN_le', lN_inj, lc_lt, lc_gt, lc_le, lc_ge, lc_eq, Nat.reduceLT, Nat.reduceLeDiff, reduceCtorEq, Nat.add_zero, Nat.zero_add, tr_nd_wf hw ht0, tr_nd_wf hw' hu0, cs_vxi hw, cs_vxi hw', tr_ki, tr_xi]
        cases qx : tr_lf x with
        | true =>
          rw [cond_true, jX1_parts_38_24_eq, h2]
          rfl
        | false =>
          simp (disch := omega) only [ic_lit, ic_m1, ic_m2, ic_m3, am_ix_nI, am_ci_ok, am_cl_ok, am_cv_ok, am_ct_ok, am_dz_nI, nI_inj, nI_leI', nI_ltI', nI_lt0, nI_ge0, nI_eq0, nI_le0, nI_gt0, m2lt, m2ge, m2eq, eq_m2, nI_add, nI_subI, nI_mulI, b2_eq0, b2_eq1, b2_and1, band1, band0, if_true, if_false, ite_true, ite_false, cond_true, cond_false, ↓reduceIte, Nat.reduceAdd, Nat.reduceMul, Nat.reduceSub, Nat.reduceEqDiff, lN_lt', lN_le', lN_inj, lc_lt, lc_gt, lc_le, lc_ge, lc_eq, Nat.reduceLT, Nat.reduceLeDiff, reduceCtorEq, Nat.add_zero, Nat.zero_add, hX qx, h2, Bool.false_eq_true]
      have hte : tr_ins (.inner n k v x y) (.inner n' k v' x' y') = (if v = v' then 0 else 1) + (if tr_lf x then 0 else tr_df x x') + (if tr_lf y then 0 else tr_df y y') := rfl
      rw [dX1_parts_eq, hte]
      unfold dX1_parts
      simp (disch := omega) only [ic_lit, ic_m1, ic_m2, ic_m3, am_ix_nI, am_ci_ok, am_cl_ok, am_cv_ok, am_ct_ok, am_dz_nI, nI_inj, nI_leI', nI_ltI', nI_lt0, nI_ge0, nI_eq0, nI_le0, nI_gt0, m2lt, m2ge, m2eq, eq_m2, nI_add, nI_subI, nI_mulI, b2_eq0, b2_eq1, b2_and1, band1, band0, if_true, if_false, ite_true, ite_false, cond_true, cond_false, ↓reduceIte, Nat.reduceAdd, Nat.reduceMul, Nat.reduceSub, Nat.reduceEqDiff, lN_lt', lN_le', lN_inj, lc_lt, lc_gt, lc_le, lc_ge, lc_eq, Nat.reduceLT, Nat.reduceLeDiff, reduceCtorEq, Nat.add_zero, Nat.zero_add, tr_nd_wf hw ht0, tr_nd_wf hw' hu0, cs_vvi hw, cs_vvi hw', tr_ki, tr_vi, tr_xi, tr_yi, tr_vI_eq hwv.2.1 hwv'.2.1 hwv.2.2 hwv'.2.2, jX1_parts_16_15_eq, h1]
      by_cases hv : v = v' <;> simp [hv]
theorem cs_difference (t u : Tr) (s : cs_S) (f : Nat) (ht0 : tr_lf t = false) (hu0 : tr_lf u = false) (hw : tr_wf t) (hw' : tr_wf u) (hz : tr_sz t < 1000) (hz' : tr_sz u < 1000) (hf : 2 * tr_dp t < f) :
    cs_call N (f + 1) 55 [.inr (t), .inr (u)] (s) = some (.inl (some (.inl (.int (nI (tr_df t u))))), s) :=
  cs_diff_of ht0 hu0 hw hw' hz hz' fun hk => cs_parts t u s f ht0 hu0 hw hw' hz hz' hf hk
theorem cs_exchanges : ∀ (t u : Tr) (s : cs_S) (f : Nat), tr_lf t = false → tr_lf u = false → tr_wf t → tr_wf u → tr_sz t < 1000 → tr_sz u < 1000 → 2 * tr_dp t + 1 < f →
    cs_call N (f) 58 [.inr (t), .inr (u)] (s) = some (.inl (some (.inl (.int (nI (tr_wh t u))))), s) := by
  intro t
  induction t with
  | leaf => intro u s f h; cases h
  | inner n k v x y ihx ihy =>
    intro u s f ht0 hu0 hw hw' hz hz' hf
    obtain ⟨f, rfl⟩ : ∃ f', f = f' + 2 := ⟨f - 2, by omega⟩
    have hin := cs_parts (N := N) _ u s (f + 1) ht0 hu0 hw hw' hz hz' (by omega)
    have hile := tr_ins_le (.inner n k v x y) u
    cases u with
    | leaf => cases hu0
    | inner n' k' v' x' y' =>
      have hwv := tr_wf_v hw
      have hwv' := tr_wf_v hw'
      have hte : tr_wh (.inner n k v x y) (.inner n' k' v' x' y') = if k = k' ∧ tr_ins (.inner n k v x y) (.inner n' k' v' x' y') ≤ tr_sz (.inner n k v x y) + tr_sz (.inner n' k' v' x' y') then (if tr_lf x then 0 else tr_wh x x') + (if tr_lf y then 0 else tr_wh y y') else 1 := rfl
      rw [dX1_exchanges_eq, hte]
      unfold dX1_exchanges
      simp (disch := omega) only [ic_lit, ic_m1, ic_m2, ic_m3, am_ix_nI, am_ci_ok, am_cl_ok, am_cv_ok, am_ct_ok, am_dz_nI, nI_inj, nI_leI', nI_ltI', nI_lt0, nI_ge0, nI_eq0, nI_le0, nI_gt0, m2lt, m2ge, m2eq, eq_m2, nI_add, nI_subI, nI_mulI, b2_eq0, b2_eq1, b2_and1, band1, band0, if_true, if_false, ite_true, ite_false, cond_true, cond_false, ↓reduceIte, Nat.reduceAdd, Nat.reduceMul, Nat.reduceSub, Nat.reduceEqDiff, lN_lt', lN_le', lN_inj, lc_lt, lc_gt, lc_le, lc_ge, lc_eq, Nat.reduceLT, Nat.reduceLeDiff, reduceCtorEq, Nat.add_zero, Nat.zero_add, tr_nd_wf hw ht0, tr_nd_wf hw' hu0, tr_ki]
      by_cases hk : k = k'
      · subst hk
        have hlf := tr_wf_lf hw hw'
        simp only [tr_dp] at hf
        have h2 : ∀ (back : cs_bt) (m : Nat), jX1_exchanges_53 back (cs_call N (f + 1)) s (.inner n k v x y) (.inner n' k v' x' y') (nI m) = some (.inl (some (.inl (.int (nI (m + if tr_lf y then 0 else tr_wh y y'))))), s) := by
          intro back m
          rw [jX1_exchanges_53_eq]
          simp (disch := omega) only [ic_lit, ic_m1, ic_m2, ic_m3, am_ix_nI, am_ci_ok, am_cl_ok, am_cv_ok, am_ct_ok, am_dz_nI, nI_inj, nI_leI', nI_ltI', nI_lt0, nI_ge0, nI_eq0, nI_le0, nI_gt0, m2lt, m2ge, m2eq, eq_m2, nI_add, nI_subI, nI_mulI, b2_eq0, b2_eq1, b2_and1, band1, band0, if_true, if_false, ite_true, ite_false, cond_true, cond_false, ↓reduceIte, Nat.reduceAdd, Nat.reduceMul, Nat.reduceSub, Nat.reduceEqDiff, lN_lt', lN_le', lN_inj, lc_lt, lc_gt, lc_le, lc_ge, lc_eq, Nat.reduceLT, Nat.reduceLeDiff, reduceCtorEq, Nat.add_zero, Nat.zero_add, tr_nd_wf hw ht0, tr_nd_wf hw' hu0, cs_vyi hw, cs_vyi hw', tr_ki, tr_yi]
          cases qy : tr_lf y with
          | true => rfl
          | false => simp (disch := omega) only [ic_lit, ic_m1, ic_m2, ic_m3, am_ix_nI, am_ci_ok, am_cl_ok, am_cv_ok, am_ct_ok, am_dz_nI, nI_inj, nI_leI', nI_ltI', nI_lt0, nI_ge0, nI_eq0, nI_le0, nI_gt0, m2lt, m2ge, m2eq, eq_m2, nI_add, nI_subI, nI_mulI, b2_eq0, b2_eq1, b2_and1, band1, band0, if_true, if_false, ite_true, ite_false, cond_true, cond_false, ↓reduceIte, Nat.reduceAdd, Nat.reduceMul, Nat.reduceSub, Nat.reduceEqDiff, lN_lt', lN_le', lN_inj, lc_lt, lc_gt, lc_le, lc_ge, lc_eq, Nat.reduceLT, Nat.reduceLeDiff, reduceCtorEq, Nat.add_zero, Nat.zero_add, ihy y' s (f + 1) qy (hlf.2.trans qy) hw.2.1 hw'.2.1 (by simp only [tr_sz] at hz; omega) (by simp only [tr_sz] at hz'; omega) (by omega), Bool.false_eq_true]
        rw [if_pos rfl, hin rfl]
        simp (disch := omega) only [ic_lit, ic_m1, ic_m2, ic_m3, am_ix_nI, am_ci_ok, am_cl_ok, am_cv_ok, am_ct_ok, am_dz_nI, nI_inj, nI_leI', nI_ltI', nI_lt0, nI_ge0, nI_eq0, nI_le0, nI_gt0, m2lt, m2ge, m2eq, eq_m2, nI_add, nI_subI, nI_mulI, b2_eq0, b2_eq1, b2_and1, band1, band0, if_true, if_false, ite_true, ite_false, cond_true, cond_false, ↓reduceIte, Nat.reduceAdd, Nat.reduceMul, Nat.reduceSub, Nat.reduceEqDiff, lN_lt', lN_le', lN_inj, lc_lt, lc_gt, lc_le, lc_ge, lc_eq, Nat.reduceLT, Nat.reduceLeDiff, reduceCtorEq, Nat.add_zero, Nat.zero_add, cs_vxi hw, cs_vxi hw', tr_ki]
        rw [if_pos hile, if_pos (And.intro trivial hile)]
        cases qx : tr_lf x with
        | true =>
          simp (disch := omega) only [ic_lit, ic_m1, ic_m2, ic_m3, am_ix_nI, am_ci_ok, am_cl_ok, am_cv_ok, am_ct_ok, am_dz_nI, nI_inj, nI_leI', nI_ltI', nI_lt0, nI_ge0, nI_eq0, nI_le0, nI_gt0, m2lt, m2ge, m2eq, eq_m2, nI_add, nI_subI, nI_mulI, b2_eq0, b2_eq1, b2_and1, band1, band0, if_true, if_false, ite_true, ite_false, cond_true, cond_false, ↓reduceIte, Nat.reduceAdd, Nat.reduceMul, Nat.reduceSub, Nat.reduceEqDiff, lN_lt', lN_le', lN_inj, lc_lt, lc_gt, lc_le, lc_ge, lc_eq, Nat.reduceLT, Nat.reduceLeDiff, reduceCtorEq, Nat.add_zero, Nat.zero_add, jX1_exchanges_53_39_eq, h2]
        | false =>
          simp (disch := omega) only [ic_lit, ic_m1, ic_m2, ic_m3, am_ix_nI, am_ci_ok, am_cl_ok, am_cv_ok, am_ct_ok, am_dz_nI, nI_inj, nI_leI', nI_ltI', nI_lt0, nI_ge0, nI_eq0, nI_le0, nI_gt0, m2lt, m2ge, m2eq, eq_m2, nI_add, nI_subI, nI_mulI, b2_eq0, b2_eq1, b2_and1, band1, band0, if_true, if_false, ite_true, ite_false, cond_true, cond_false, ↓reduceIte, Nat.reduceAdd, Nat.reduceMul, Nat.reduceSub, Nat.reduceEqDiff, lN_lt', lN_le', lN_inj, lc_lt, lc_gt, lc_le, lc_ge, lc_eq, Nat.reduceLT, Nat.reduceLeDiff, reduceCtorEq, Nat.add_zero, Nat.zero_add, ihx x' s (f + 1) qx (hlf.1.trans qx) hw.1 hw'.1 (by simp only [tr_sz] at hz; omega) (by simp only [tr_sz] at hz'; omega) (by omega), h2, Bool.false_eq_true]
      · rw [if_neg hk, if_neg (fun q : k = k' ∧ tr_ins (.inner n k v x y) (.inner n' k' v' x' y') ≤ tr_sz (.inner n k v x y) + tr_sz (.inner n' k' v' x' y') => hk q.1)]
end
