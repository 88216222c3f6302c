set_option maxRecDepth 100000
/-! THE MODEL COUNTS READINGS. -/
def mE (μ : mm_S) (V : EV) (h : Nat) : Prop := h ≤ 20 ∧ μ.1 10 = nI h ∧ (∀ j, j < h → V.1 j ≤ 30 ∧ μ.2.1 9 j = nI (V.1 j)) ∧ (∀ l, l < 10 → μ.2.1 7 l = b2 (V.2.1 l)) ∧
  ∃ st, st ≤ 8 ∧ μ.1 28 = nI st ∧ (st < 8 → ∀ k, k < 10 → ∃ kk : Bool, μ.2.1 8 (10 * st + k) = b2 kk ∧ ∀ b, V.2.2 k b = (kk == b)) ∧ (st = 8 → ∀ k b, k < 10 → V.2.2 k b = (!b || mk k))
def mT (μ : mm_S) (V : EV) (h W : Nat) : Prop := ∀ i j, i < j → j ≤ h → j - i < W → μ.2.2 27 (21 * i + j) = lN (ct V i j) ∧ ∀ c, c < 20 → μ.2.2 26 (20 * (21 * i + j) + c) = lN (cc20 V (ct V) i j c)
section
variable {N : Nat} {V : EV} {h : Nat} {μ : mm_S}
theorem mm_times {f a b : Nat} (ha : a ≤ 100000000) (hb : b ≤ 100000000) (hab : a * b ≤ 1000000000000000) (s : mm_S) : mm_call N (f + 1) 44 [.inl (.long (lN a)), .inl (.long (lN b))] (s) = some (.inl (some (.inl (.long (lN (a * b))))), s) := by
  rw [dX6_times_2_eq]
  unfold dX6_times_2
  simp (disch := omega) only [ic_lit, ic_m1, ic_m2, ic_m3, am_ix_nI, am_ci_ok, am_cl_ok, am_cv_ok, am_ct_ok, am_dz_nI, nI_inj, nI_leI', nI_ltI', nI_lt0, nI_ge0, nI_eq0, nI_le0, nI_gt0, m2lt, m2ge, m2eq, eq_m2, nI_add, nI_subI, nI_mulI, b2_eq0, b2_eq1, b2_and1, band1, band0, if_true, if_false, ite_true, ite_false, cond_true, cond_false, ↓reduceIte, Nat.reduceAdd, Nat.reduceMul, Nat.reduceSub, Nat.reduceEqDiff, lN_lt', lN_le', lN_inj, lc_lt, lc_gt, lc_le, lc_ge, lc_eq, Nat.reduceLT, Nat.reduceLeDiff, reduceCtorEq, Nat.add_zero, Nat.zero_add, jX6_times_2_22_6_eq, jX6_times_2_22_16_eq, jX6_times_2_22_eq]
  by_cases h1 : a = 0
  · rw [if_pos h1, lN_mul]
  · rw [if_neg h1]
    rw [am_dzl_lN ⟨by omega, by omega⟩, MOST_lN, pk_lDiv (by omega) (by omega) (by omega), if_pos ((pk_lLE (by omega) (Nat.lt_of_le_of_lt (Nat.div_le_self _ _) (by omega))).mpr ((Nat.le_div_iff_mul_le (by omega)).mpr (by rw [Nat.mul_comm]; exact hab))), lN_mul]
theorem mm_plus {f a b : Nat} (hab : a + b ≤ 1000000000000000) (s : mm_S) : mm_call N (f + 1) 45 [.inl (.long (lN a)), .inl (.long (lN b))] (s) = some (.inl (some (.inl (.long (lN (a + b))))), s) := by
  rw [dX6_plus_eq]
  unfold dX6_plus
  rw [lN_add, MOST_lN, if_pos ((lg_cmp_le _ _).mpr ((pk_lLE (by omega) (by omega)).mpr hab))]
theorem mm_isLet {f k : Nat} {b : Bool} (hE : mE μ V h) (hk : k < 10) : mm_call N (f + 2) 41 [.inl (.ref 0), .inl (.int (nI k)), .inl (.int (b2 b))] (μ) = some (.inl (some (.inl (.int (b2 (V.2.2 k b))))), μ) := by
  obtain ⟨-, -, -, -, st, hst, h28, hlt, h8⟩ := hE
  rw [dX6_isLet_eq]
  unfold dX6_isLet
  rw [h28]
  simp (disch := omega) only [ic_lit, ic_m1, ic_m2, ic_m3, am_ix_nI, am_ci_ok, am_cl_ok, am_cv_ok, am_ct_ok, am_dz_nI, nI_inj, nI_leI', nI_ltI', nI_lt0, nI_ge0, nI_eq0, nI_le0, nI_gt0, m2lt, m2ge, m2eq, eq_m2, nI_add, nI_subI, nI_mulI, b2_eq0, b2_eq1, b2_and1, band1, band0, if_true, if_false, ite_true, ite_false, cond_true, cond_false, ↓reduceIte, Nat.reduceAdd, Nat.reduceMul, Nat.reduceSub, Nat.reduceEqDiff, lN_lt', lN_le', lN_inj, lc_lt, lc_gt, lc_le, lc_ge, lc_eq, Nat.reduceLT, Nat.reduceLeDiff, reduceCtorEq, Nat.add_zero, Nat.zero_add]
  by_cases e8 : st = 8
  · rw [if_pos e8, h8 e8 k b hk, mm_mayKeep k (by omega)]
    cases b with
    | false => rfl
    | true =>
      simp (disch := omega) only [ic_lit, ic_m1, ic_m2, ic_m3, am_ix_nI, am_ci_ok, am_cl_ok, am_cv_ok, am_ct_ok, am_dz_nI, nI_inj, nI_leI', nI_ltI', nI_lt0, nI_ge0, nI_eq0, nI_le0, nI_gt0, m2lt, m2ge, m2eq, eq_m2, nI_add, nI_subI, nI_mulI, b2_eq0, b2_eq1, b2_and1, band1, band0, if_true, if_false, ite_true, ite_false, cond_true, cond_false, ↓reduceIte, Nat.reduceAdd, Nat.reduceMul, Nat.reduceSub, Nat.reduceEqDiff, lN_lt', lN_le', lN_inj, lc_lt, lc_gt, lc_le, lc_ge, lc_eq, Nat.reduceLT, Nat.reduceLeDiff, reduceCtorEq, Nat.add_zero, Nat.zero_add, Bool.true_eq_false]
      cases mk k <;> rfl
  · rw [if_neg e8]
    obtain ⟨kk, e, hb⟩ := hlt (by omega) k hk
    simp (disch := omega) only [ic_lit, ic_m1, ic_m2, ic_m3, am_ix_nI, am_ci_ok, am_cl_ok, am_cv_ok, am_ct_ok, am_dz_nI, nI_inj, nI_leI', nI_ltI', nI_lt0, nI_ge0, nI_eq0, nI_le0, nI_gt0, m2lt, m2ge, m2eq, eq_m2, nI_add, nI_subI, nI_mulI, b2_eq0, b2_eq1, b2_and1, band1, band0, if_true, if_false, ite_true, ite_false, cond_true, cond_false, ↓reduceIte, Nat.reduceAdd, Nat.reduceMul, Nat.reduceSub, Nat.reduceEqDiff, lN_lt', lN_le', lN_inj, lc_lt, lc_gt, lc_le, lc_ge, lc_eq, Nat.reduceLT, Nat.reduceLeDiff, reduceCtorEq, Nat.add_zero, Nat.zero_add, e, b2_inj]
    rw [hb b]
    cases kk <;> cases b <;> rfl
theorem mm_numLoop {f i : Nat} (hE : mE μ V h) (j : Nat) (hj : j ≤ h) : ∀ (q c n : Nat) (b : Bool), c + q = j → q < n →
    jX6_isNumber_41 (am_bk (mm_hop (mm_call N (f + 1))) am_no (some .boolean) kX6_isNumber n) (mm_call N (f + 1)) μ (nI i) (nI j) (b2 b) (nI c) = some (.inl (some (.inl (.int (b2 (b && (List.range q).all (fun t => decide (10 ≤ V.1 (c + t)) && decide (V.1 (c + t) ≤ 19))))))), μ) := by
  obtain ⟨h20, h10, he, -, -⟩ := hE
  intro q
  induction q with
  | zero =>
    intro c n b hq hn
    obtain rfl : c = j := by omega
    rw [jX6_isNumber_41_eq]
    simp (disch := omega) only [ic_lit, ic_m1, ic_m2, ic_m3, am_ix_nI, am_ci_ok, am_cl_ok, am_cv_ok, am_ct_ok, am_dz_nI, nI_inj, nI_leI', nI_ltI', nI_lt0, nI_ge0, nI_eq0, nI_le0, nI_gt0, m2lt, m2ge, m2eq, eq_m2, nI_add, nI_subI, nI_mulI, b2_eq0, b2_eq1, b2_and1, band1, band0, if_true, if_false, ite_true, ite_false, cond_true, cond_false, ↓reduceIte, Nat.reduceAdd, Nat.reduceMul, Nat.reduceSub, Nat.reduceEqDiff, lN_lt', lN_le', lN_inj, lc_lt, lc_gt, lc_le, lc_ge, lc_eq, Nat.reduceLT, Nat.reduceLeDiff, reduceCtorEq, Nat.add_zero, Nat.zero_add, Nat.le_refl]
    simp
  | succ q ih =>
    intro c n b hq hn
    obtain ⟨n, rfl⟩ : ∃ n', n = n' + 1 := ⟨n - 1, by omega⟩
    obtain ⟨hv1, he1⟩ := he c (by omega)
    rw [jX6_isNumber_41_eq]
    simp (disch := omega) only [ic_lit, ic_m1, ic_m2, ic_m3, am_ix_nI, am_ci_ok, am_cl_ok, am_cv_ok, am_ct_ok, am_dz_nI, nI_inj, nI_leI', nI_ltI', nI_lt0, nI_ge0, nI_eq0, nI_le0, nI_gt0, m2lt, m2ge, m2eq, eq_m2, nI_add, nI_subI, nI_mulI, b2_eq0, b2_eq1, b2_and1, band1, band0, if_true, if_false, ite_true, ite_false, cond_true, cond_false, ↓reduceIte, Nat.reduceAdd, Nat.reduceMul, Nat.reduceSub, Nat.reduceEqDiff, lN_lt', lN_le', lN_inj, lc_lt, lc_gt, lc_le, lc_ge, lc_eq, Nat.reduceLT, Nat.reduceLeDiff, reduceCtorEq, Nat.add_zero, Nat.zero_add]
    rw [if_neg (by omega)]
    cases b with
    | false => rfl
    | true =>
      have hall : (List.range (q + 1)).all (fun t => decide (10 ≤ V.1 (c + t)) && decide (V.1 (c + t) ≤ 19)) = ((decide (10 ≤ V.1 c) && decide (V.1 c ≤ 19)) && (List.range q).all (fun t => decide (10 ≤ V.1 (c + 1 + t)) && decide (V.1 (c + 1 + t) ≤ 19))) := by
        rw [List.range_succ_eq_map, List.all_cons, List.all_map]
        simp only [Nat.add_zero, Function.comp_def, Nat.succ_eq_add_one]
        congr 2
        funext t
        rw [show c + (t + 1) = c + 1 + t by omega]
      rw [if_neg (by decide), he1, mm_inR 10 19 _ _ (by decide) (by decide), am_ci_ok, jX6_isNumber_41_bk, hall]
      have hin : inR 10 19 (nI (V.1 c)) = (decide (10 ≤ V.1 c) && decide (V.1 c ≤ 19)) := by
        unfold inR
        rw [decide_eq_decide.mpr (nI_leI (a := 10) (b := V.1 c) (by omega) (by omega)), decide_eq_decide.mpr (nI_leI (a := V.1 c) (b := 19) (by omega) (by omega))]
      rw [hin, ih (c + 1) n _ (by omega) (by omega), Bool.true_and]
theorem mm_isNumber {f i j : Nat} (hE : mE μ V h) (hij : i < j) (hj : j ≤ h) (hN : 30 ≤ N) : mm_call N (f + 2) 43 [.inl (.ref 0), .inl (.int (nI i)), .inl (.int (nI j))] (μ) = some (.inl (some (.inl (.int (b2 (isNum V.1 i j))))), μ) := by
  have hE' := hE
  obtain ⟨h20, h10, he, -, -⟩ := hE
  obtain ⟨hv1, he1⟩ := he i (by omega)
  have hl0 := mm_numLoop (N := N) (f := f) (i := i) hE' j hj (j - i) i N false (by omega) (by omega)
  have hl1 := mm_numLoop (N := N) (f := f) (i := i) hE' j hj (j - i) i N true (by omega) (by omega)
  rw [b2_f] at hl0
  rw [b2_t] at hl1
  rw [dX6_isNumber_eq]
  unfold dX6_isNumber isNum
  simp (disch := omega) only [ic_lit, ic_m1, ic_m2, ic_m3, am_ix_nI, am_ci_ok, am_cl_ok, am_cv_ok, am_ct_ok, am_dz_nI, nI_inj, nI_leI', nI_ltI', nI_lt0, nI_ge0, nI_eq0, nI_le0, nI_gt0, m2lt, m2ge, m2eq, eq_m2, nI_add, nI_subI, nI_mulI, b2_eq0, b2_eq1, b2_and1, band1, band0, if_true, if_false, ite_true, ite_false, cond_true, cond_false, ↓reduceIte, Nat.reduceAdd, Nat.reduceMul, Nat.reduceSub, Nat.reduceEqDiff, lN_lt', lN_le', lN_inj, lc_lt, lc_gt, lc_le, lc_ge, lc_eq, Nat.reduceLT, Nat.reduceLeDiff, reduceCtorEq, Nat.add_zero, Nat.zero_add, he1, jX6_isNumber_36_7_eq, jX6_isNumber_36_14_eq, jX6_isNumber_36_32_eq, jX6_isNumber_32_25_eq, jX6_isNumber_36_eq, jX6_isNumber_32_eq, jX6_isNumber_37_36_eq, jX6_isNumber_37_eq, hl0, hl1]
  rw [if_neg (show ¬ j - i < 1 by omega), decide_eq_true hij]
  by_cases h4 : 4 < j - i
  · rw [if_pos h4, decide_eq_false (show ¬ j ≤ i + 4 by omega)]
    rfl
  · rw [if_neg h4, decide_eq_true (show j ≤ i + 4 by omega)]
    by_cases hv : V.1 i = 10
    · rw [if_pos hv]
      by_cases h1 : j - i = 1
      · rw [if_pos h1, decide_eq_true (show j = i + 1 by omega)]
        simp
      · rw [if_neg h1, decide_eq_false (show ¬ j = i + 1 by omega)]
        simp [hv]
    · rw [if_neg hv]
      simp [hv]
theorem mm_withLoop {f k i j : Nat} (hE : mE μ V h) (hk : 2 ≤ k ∧ k ≤ 6) (hij : i < j) (hj : j ≤ h) (hT : mT μ V h (j - i)) : ∀ (q w n : Nat), 1 ≤ w → w + q = j - i → q < n →
    jX6_within_84 (am_bk (mm_hop (mm_call N (f + 1))) am_no (some .long) kX6_within n) (mm_call N (f + 1)) μ (nI k) (nI i) (nI j) (lN (sm (tm V (ct V) k i j) 1 (w - 1))) (nI (i + w)) = some (.inl (some (.inl (.long (lN (sm (tm V (ct V) k i j) 1 (j - i)))))), μ) := by
  obtain ⟨h20, h10, he, -, -⟩ := hE
  have hcp := cP_lt V (k := k) (i := i) (j := j) (by omega) (by omega)
  have h3 := cP_two (V := V) (C := ct V) (i := i) (j := j) hk.1 hk.2
  intro q
  induction q with
  | zero =>
    intro w n hw1 hq hn
    obtain rfl : w = j - i := by omega
    rw [jX6_within_84_eq]
    simp (disch := omega) only [ic_lit, ic_m1, ic_m2, ic_m3, am_ix_nI, am_ci_ok, am_cl_ok, am_cv_ok, am_ct_ok, am_dz_nI, nI_inj, nI_leI', nI_ltI', nI_lt0, nI_ge0, nI_eq0, nI_le0, nI_gt0, m2lt, m2ge, m2eq, eq_m2, nI_add, nI_subI, nI_mulI, b2_eq0, b2_eq1, b2_and1, band1, band0, if_true, if_false, ite_true, ite_false, cond_true, cond_false, ↓reduceIte, Nat.reduceAdd, Nat.reduceMul, Nat.reduceSub, Nat.reduceEqDiff, lN_lt', lN_le', lN_inj, lc_lt, lc_gt, lc_le, lc_ge, lc_eq, Nat.reduceLT, Nat.reduceLeDiff, reduceCtorEq, Nat.add_zero, Nat.zero_add]
    rw [if_pos (by omega)]
    have : tm V (ct V) k i j (j - i) = 0 := by
      unfold tm
      rw [if_neg (by omega)]
    rw [sm_last (n := j - i) (by omega), show 1 + (j - i) - 1 = j - i by omega, this, Nat.add_zero]
  | succ q ih =>
    intro w n hw1 hq hn
    obtain ⟨n, rfl⟩ : ∃ n', n = n' + 1 := ⟨n - 1, by omega⟩
    rw [jX6_within_84_eq]
    simp (disch := omega) only [ic_lit, ic_m1, ic_m2, ic_m3, am_ix_nI, am_ci_ok, am_cl_ok, am_cv_ok, am_ct_ok, am_dz_nI, nI_inj, nI_leI', nI_ltI', nI_lt0, nI_ge0, nI_eq0, nI_le0, nI_gt0, m2lt, m2ge, m2eq, eq_m2, nI_add, nI_subI, nI_mulI, b2_eq0, b2_eq1, b2_and1, band1, band0, if_true, if_false, ite_true, ite_false, cond_true, cond_false, ↓reduceIte, Nat.reduceAdd, Nat.reduceMul, Nat.reduceSub, Nat.reduceEqDiff, lN_lt', lN_le', lN_inj, lc_lt, lc_gt, lc_le, lc_ge, lc_eq, Nat.reduceLT, Nat.reduceLeDiff, reduceCtorEq, Nat.add_zero, Nat.zero_add]
    by_cases hend : j - 1 ≤ i + w
    · rw [if_pos hend]
      have hz : ∀ u, w ≤ u → tm V (ct V) k i j u = 0 := fun u hu => by
        unfold tm
        rw [if_neg (by omega)]
      rw [show j - i = (w - 1) + (q + 2) by omega, sm_app, sm_zero (q + 2) (1 + (w - 1)) (fun u h1 h2 => hz u (by omega)), Nat.add_zero]
    · rw [if_neg hend]
      obtain ⟨hv, hew⟩ := he (i + w) (by omega)
      have hnext := ih (w + 1) n (by omega) (by omega) (by omega)
      rw [show w + 1 - 1 = (w - 1) + 1 by omega, sm_app, show 1 + (w - 1) = w by omega] at hnext
      simp only [sm, Nat.add_zero] at hnext
      rw [← Nat.add_assoc i w 1] at hnext
      simp (disch := omega) only [ic_lit, ic_m1, ic_m2, ic_m3, am_ix_nI, am_ci_ok, am_cl_ok, am_cv_ok, am_ct_ok, am_dz_nI, nI_inj, nI_leI', nI_ltI', nI_lt0, nI_ge0, nI_eq0, nI_le0, nI_gt0, m2lt, m2ge, m2eq, eq_m2, nI_add, nI_subI, nI_mulI, b2_eq0, b2_eq1, b2_and1, band1, band0, if_true, if_false, ite_true, ite_false, cond_true, cond_false, ↓reduceIte, Nat.reduceAdd, Nat.reduceMul, Nat.reduceSub, Nat.reduceEqDiff, lN_lt', lN_le', lN_inj, lc_lt, lc_gt, lc_le, lc_ge, lc_eq, Nat.reduceLT, Nat.reduceLeDiff, reduceCtorEq, Nat.add_zero, Nat.zero_add, hew]
      have htmle := tm_le V (C := ct V) (i := i) (j := j) (w := w) hk.1 hk.2
      have hsle := sm_mono (f := tm V (ct V) k i j) (n := w - 1) (m := j - i) 1 (by omega)
      by_cases hop : V.1 (i + w) = 18 + k
      · rw [if_pos hop]
        have htm : tm V (ct V) k i j w = ct V i (i + w) * ct V (i + w + 1) j := tm_w hw1 (by omega) hop
        have c1 := (hT i (i + w) (by omega) (by omega) (by omega)).1
        have c2 := (hT (i + w + 1) j (by omega) hj (by omega)).1
        have l1 := ct_lt V (i := i) (j := i + w) (by omega)
        have l2 := ct_lt V (i := i + w + 1) (j := j) (by omega)
        simp (disch := omega) only [ic_lit, ic_m1, ic_m2, ic_m3, am_ix_nI, am_ci_ok, am_cl_ok, am_cv_ok, am_ct_ok, am_dz_nI, nI_inj, nI_leI', nI_ltI', nI_lt0, nI_ge0, nI_eq0, nI_le0, nI_gt0, m2lt, m2ge, m2eq, eq_m2, nI_add, nI_subI, nI_mulI, b2_eq0, b2_eq1, b2_and1, band1, band0, if_true, if_false, ite_true, ite_false, cond_true, cond_false, ↓reduceIte, Nat.reduceAdd, Nat.reduceMul, Nat.reduceSub, Nat.reduceEqDiff, lN_lt', lN_le', lN_inj, lc_lt, lc_gt, lc_le, lc_ge, lc_eq, Nat.reduceLT, Nat.reduceLeDiff, reduceCtorEq, Nat.add_zero, Nat.zero_add, c1, c2]
        rw [mm_times (by omega) (by omega) (by rw [← htm]; omega), am_cl_ok, ← htm, mm_plus (by omega), am_cl_ok, jX6_within_145_143_eq, jX6_within_145_eq, ic_lit, nI_add, jX6_within_84_bk]
        exact hnext
      · rw [if_neg hop, jX6_within_145_eq, ic_lit, nI_add, jX6_within_84_bk]
        have htm0 : tm V (ct V) k i j w = 0 := by
          unfold tm
          rw [if_neg (by omega)]
        rw [htm0, Nat.add_zero] at hnext
        exact hnext
theorem mm_within {f k i j : Nat} (hE : mE μ V h) (hk : k ≤ 9) (hj : j ≤ h) (hi : i ≤ 20) (hT : mT μ V h (j - i)) (hN : 30 ≤ N) :
    mm_call N (f + 3) 42 [.inl (.ref 0), .inl (.int (nI k)), .inl (.int (nI i)), .inl (.int (nI j))] (μ) = some (.inl (some (.inl (.long (lN (cP V (ct V) k i j))))), μ) := by
  have hE' := hE
  obtain ⟨h20, h10, he, hF, -⟩ := hE
  rw [dX6_within_eq]
  unfold dX6_within
  by_cases hij : i < j
  · obtain ⟨hvi, hei⟩ := he i (by omega)
    obtain ⟨hvj, hej⟩ := he (j - 1) (by omega)
    rw [if_pos (nI_lt hij (by omega))]
    by_cases k0 : k = 0
    · subst k0
      rw [if_pos nI_0]
      show (_ : am_R mm_S) = some (.inl (some (.inl (.long (lN (if j = i + 1 ∧ V.1 i < 10 ∧ V.2.1 (V.1 i) = false then 1 else 0))))), μ)
      simp (disch := omega) only [ic_lit, ic_m1, ic_m2, ic_m3, am_ix_nI, am_ci_ok, am_cl_ok, am_cv_ok, am_ct_ok, am_dz_nI, nI_inj, nI_leI', nI_ltI', nI_lt0, nI_ge0, nI_eq0, nI_le0, nI_gt0, m2lt, m2ge, m2eq, eq_m2, nI_add, nI_subI, nI_mulI, b2_eq0, b2_eq1, b2_and1, band1, band0, if_true, if_false, ite_true, ite_false, cond_true, cond_false, ↓reduceIte, Nat.reduceAdd, Nat.reduceMul, Nat.reduceSub, Nat.reduceEqDiff, lN_lt', lN_le', lN_inj, lc_lt, lc_gt, lc_le, lc_ge, lc_eq, Nat.reduceLT, Nat.reduceLeDiff, reduceCtorEq, Nat.add_zero, Nat.zero_add, hei]
      by_cases hj1 : j - i = 1
      · rw [if_pos hj1]
        by_cases h1 : 10 ≤ V.1 i
        · rw [if_pos h1, if_neg (show ¬ (j = i + 1 ∧ V.1 i < 10 ∧ V.2.1 (V.1 i) = false) by omega)]
        · rw [if_neg h1, hF _ (by omega)]
          rcases Bool.eq_false_or_eq_true (V.2.1 (V.1 i)) with z | z
          · rw [z]
            simp
            decide
          · rw [z]
            simp [show j = i + 1 by omega, show V.1 i < 10 by omega]
            decide
      · rw [if_neg hj1, if_neg (show ¬ (j = i + 1 ∧ V.1 i < 10 ∧ V.2.1 (V.1 i) = false) by omega)]
    · rw [if_neg (fun q => k0 ((nI_eq0 (by omega)).mp q)), ic_lit]
      by_cases k1 : k = 1
      · subst k1
        rw [if_pos rfl, mm_isNumber hE' hij hj hN, am_ci_ok]
        show (_ : am_R mm_S) = some (.inl (some (.inl (.long (lN (if isNum V.1 i j then 1 else 0))))), μ)
        rcases Bool.eq_false_or_eq_true (isNum V.1 i j) with z | z
        · rw [z]
          rfl
        · rw [z]
          rfl
      · rw [if_neg (fun q => k1 ((nI_eq (by omega) (by omega)).mp q)), mm_isTwo k (by omega), am_ci_ok]
        by_cases k2 : 2 ≤ k ∧ k ≤ 6
        · rw [decide_eq_true k2, if_neg (by decide), nI_add]
          have := mm_withLoop (N := N) (f := f + 1) hE' k2 hij hj hT (j - i - 1) 1 N (by omega) (by omega) (by omega)
          rw [← cP_two k2.1 k2.2] at this
          exact this
        · rw [decide_eq_false k2, if_pos (by decide)]
          by_cases k7 : k = 7
          · subst k7
            rw [ic_lit, if_pos rfl]
            show (_ : am_R mm_S) = some (.inl (some (.inl (.long (lN (if i + 1 < j ∧ V.1 i = 25 then ct V (i + 1) j else 0))))), μ)
            simp (disch := omega) only [ic_lit, ic_m1, ic_m2, ic_m3, am_ix_nI, am_ci_ok, am_cl_ok, am_cv_ok, am_ct_ok, am_dz_nI, nI_inj, nI_leI', nI_ltI', nI_lt0, nI_ge0, nI_eq0, nI_le0, nI_gt0, m2lt, m2ge, m2eq, eq_m2, nI_add, nI_subI, nI_mulI, b2_eq0, b2_eq1, b2_and1, band1, band0, if_true, if_false, ite_true, ite_false, cond_true, cond_false, ↓reduceIte, Nat.reduceAdd, Nat.reduceMul, Nat.reduceSub, Nat.reduceEqDiff, lN_lt', lN_le', lN_inj, lc_lt, lc_gt, lc_le, lc_ge, lc_eq, Nat.reduceLT, Nat.reduceLeDiff, reduceCtorEq, Nat.add_zero, Nat.zero_add, hei]
            by_cases h2 : V.1 i = 25
            · rw [if_pos h2]
              by_cases h1 : j - i ≤ 1
              · rw [if_pos h1, if_neg (show ¬ (i + 1 < j ∧ V.1 i = 25) by omega)]
              · rw [if_neg h1, if_pos (show i + 1 < j ∧ V.1 i = 25 by omega), (hT (i + 1) j (by omega) hj (by omega)).1]
            · rw [if_neg h2, if_neg (show ¬ (i + 1 < j ∧ V.1 i = 25) by omega)]
          · rw [ic_lit, if_neg (fun q => k7 ((nI_eq (by omega) (by omega)).mp q)), ic_lit]
            by_cases k8 : k = 8
            · subst k8
              rw [if_pos rfl]
              show (_ : am_R mm_S) = some (.inl (some (.inl (.long (lN (if i + 2 < j ∧ V.1 i = 26 ∧ V.1 (j - 1) = 27 then ct V (i + 1) (j - 1) else 0))))), μ)
              simp (disch := omega) only [ic_lit, ic_m1, ic_m2, ic_m3, am_ix_nI, am_ci_ok, am_cl_ok, am_cv_ok, am_ct_ok, am_dz_nI, nI_inj, nI_leI', nI_ltI', nI_lt0, nI_ge0, nI_eq0, nI_le0, nI_gt0, m2lt, m2ge, m2eq, eq_m2, nI_add, nI_subI, nI_mulI, b2_eq0, b2_eq1, b2_and1, band1, band0, if_true, if_false, ite_true, ite_false, cond_true, cond_false, ↓reduceIte, Nat.reduceAdd, Nat.reduceMul, Nat.reduceSub, Nat.reduceEqDiff, lN_lt', lN_le', lN_inj, lc_lt, lc_gt, lc_le, lc_ge, lc_eq, Nat.reduceLT, Nat.reduceLeDiff, reduceCtorEq, Nat.add_zero, Nat.zero_add, hei, hej]
              by_cases h2 : V.1 i = 26
              · rw [if_pos h2]
                by_cases h3 : V.1 (j - 1) = 27
                · rw [if_pos h3]
                  by_cases h1 : j - i ≤ 2
                  · rw [if_pos h1, if_neg (show ¬ (i + 2 < j ∧ V.1 i = 26 ∧ V.1 (j - 1) = 27) by omega)]
                  · have := (hT (i + 1) (j - 1) (by omega) (by omega) (by omega)).1
                    rw [show 21 * (i + 1) + (j - 1) = 21 * (i + 1) + j - 1 by omega] at this
                    rw [if_neg h1, if_pos (show i + 2 < j ∧ V.1 i = 26 ∧ V.1 (j - 1) = 27 by omega), this]
                · rw [if_neg h3, if_neg (show ¬ (i + 2 < j ∧ V.1 i = 26 ∧ V.1 (j - 1) = 27) by omega)]
              · rw [if_neg h2, if_neg (show ¬ (i + 2 < j ∧ V.1 i = 26 ∧ V.1 (j - 1) = 27) by omega)]
            · obtain rfl : k = 9 := by omega
              rw [if_neg (by decide)]
              show (_ : am_R mm_S) = some (.inl (some (.inl (.long (lN (if i + 2 < j ∧ V.1 i < 10 ∧ V.2.1 (V.1 i) = true ∧ V.1 (i + 1) = 28 then ct V (i + 2) j else 0))))), μ)
              simp (disch := omega) only [ic_lit, ic_m1, ic_m2, ic_m3, am_ix_nI, am_ci_ok, am_cl_ok, am_cv_ok, am_ct_ok, am_dz_nI, nI_inj, nI_leI', nI_ltI', nI_lt0, nI_ge0, nI_eq0, nI_le0, nI_gt0, m2lt, m2ge, m2eq, eq_m2, nI_add, nI_subI, nI_mulI, b2_eq0, b2_eq1, b2_and1, band1, band0, if_true, if_false, ite_true, ite_false, cond_true, cond_false, ↓reduceIte, Nat.reduceAdd, Nat.reduceMul, Nat.reduceSub, Nat.reduceEqDiff, lN_lt', lN_le', lN_inj, lc_lt, lc_gt, lc_le, lc_ge, lc_eq, Nat.reduceLT, Nat.reduceLeDiff, reduceCtorEq, Nat.add_zero, Nat.zero_add, hei]
              by_cases h1 : 10 ≤ V.1 i
              · rw [if_pos h1, if_neg (show ¬ (i + 2 < j ∧ V.1 i < 10 ∧ V.2.1 (V.1 i) = true ∧ V.1 (i + 1) = 28) by omega)]
              · rw [if_neg h1, hF _ (by omega)]
                rcases Bool.eq_false_or_eq_true (V.2.1 (V.1 i)) with z | z
                · rw [z, if_neg (by decide)]
                  by_cases h3 : j - i ≤ 2
                  · rw [if_pos h3, if_neg (show ¬ (i + 2 < j ∧ V.1 i < 10 ∧ true = true ∧ V.1 (i + 1) = 28) by omega)]
                  · obtain ⟨hv1, he1⟩ := he (i + 1) (by omega)
                    rw [if_neg h3]
                    simp (disch := omega) only [ic_lit, ic_m1, ic_m2, ic_m3, am_ix_nI, am_ci_ok, am_cl_ok, am_cv_ok, am_ct_ok, am_dz_nI, nI_inj, nI_leI', nI_ltI', nI_lt0, nI_ge0, nI_eq0, nI_le0, nI_gt0, m2lt, m2ge, m2eq, eq_m2, nI_add, nI_subI, nI_mulI, b2_eq0, b2_eq1, b2_and1, band1, band0, if_true, if_false, ite_true, ite_false, cond_true, cond_false, ↓reduceIte, Nat.reduceAdd, Nat.reduceMul, Nat.reduceSub, Nat.reduceEqDiff, lN_lt', lN_le', lN_inj, lc_lt, lc_gt, lc_le, lc_ge, lc_eq, Nat.reduceLT, Nat.reduceLeDiff, reduceCtorEq, Nat.add_zero, Nat.zero_add, he1]
                    by_cases h4 : V.1 (i + 1) = 28
                    · rw [if_pos h4, if_pos (show i + 2 < j ∧ V.1 i < 10 ∧ True ∧ V.1 (i + 1) = 28 from ⟨by omega, by omega, trivial, h4⟩), (hT (i + 2) j (by omega) hj (by omega)).1]
                    · rw [if_neg h4, if_neg (fun q : i + 2 < j ∧ V.1 i < 10 ∧ True ∧ V.1 (i + 1) = 28 => h4 q.2.2.2)]
                · rw [z, if_pos (by decide), if_neg (fun q : i + 2 < j ∧ V.1 i < 10 ∧ false = true ∧ V.1 (i + 1) = 28 => absurd q.2.2.1 (by decide))]
  · rw [if_neg (nI_nlt (by omega) (by omega)), cP_nil (by omega)]
/-- what reckoning writes -/
def mm_kr (μ μ' : mm_S) : Prop := μ'.1 = μ.1 ∧ μ'.2.1 = μ.2.1
theorem mm_kr.E {μ' : mm_S} (hk : mm_kr μ μ') (hE : mE μ V h) : mE μ' V h := by
  unfold mE at *
  rw [hk.1, hk.2]
  exact hE
theorem mm_pl_26 (s : mm_S) (p : Nat) (v : Int64) (q : Nat) : (mm_pl s 26 p v).2.2 26 q = if q = p then v else s.2.2 26 q := by
  show va_up s.2.2 26 (vp_updL (s.2.2 26) p v) 26 q = _
  rw [va_up_self]
  rfl
theorem mm_pl_27 (s : mm_S) (p : Nat) (v : Int64) (q : Nat) : (mm_pl s 27 p v).2.2 27 q = if q = p then v else s.2.2 27 q := by
  show va_up s.2.2 27 (vp_updL (s.2.2 27) p v) 27 q = _
  rw [va_up_self]
  rfl
theorem mm_pl_2627 (s : mm_S) (p : Nat) (v : Int64) : (mm_pl s 26 p v).2.2 27 = s.2.2 27 := va_up_ne s.2.2 (k := 26) (j := 27) (vp_updL (s.2.2 26) p v) (by omega)
theorem mm_pl_2726 (s : mm_S) (p : Nat) (v : Int64) : (mm_pl s 27 p v).2.2 26 = s.2.2 26 := va_up_ne s.2.2 (k := 27) (j := 26) (vp_updL (s.2.2 27) p v) (by omega)
/-- the twenty numbers of a span -/
theorem mm_reckIn {f i j : Nat} (sti : Int32) (wdi : Int32) (hij : i < j) (hj : j ≤ h) (hN : 30 ≤ N) (P : am_R mm_S → Prop) (n0 : Nat) : ∀ (q c n : Nat) (μ : mm_S) (o8 o9 o10 : Option am_V), mE μ V h → mT μ V h (j - i) → c + q = 20 → n0 + q ≤ n → (∀ c', c' < c → μ.2.2 26 (20 * (21 * i + j) + c') = lN (cc20 V (ct V) i j c')) →
    (∀ (n' : Nat) (μ' : mm_S) (o8 o9 o10 : Option am_V), n0 ≤ n' → mm_kr μ μ' → μ'.2.2 27 = μ.2.2 27 → (∀ p, (p < 20 * (21 * i + j) ∨ 20 * (21 * i + j) + 20 ≤ p) → μ'.2.2 26 p = μ.2.2 26 p) → (∀ c', c' < 20 → μ'.2.2 26 (20 * (21 * i + j) + c') = lN (cc20 V (ct V) i j c')) →
      P (am_bk (mm_hop (mm_call N (f + 3))) am_no none kX6_reckons n' 17 [some (.inl (.ref 0)), some (.inl (.int sti)), some (.inl (.int wdi)), some (.inl (.int (nI (i + 1)))), some (.inl (.int (nI j))), some (.inl (.long (lN (ct V i j)))), none, some (.inl (.int (nI 20))), o8, o9, o10, none] [] (mm_pl μ' 27 (21 * i + j) (lN (ct V i j))))) →
    P (jX6_reckons_38 (am_bk (mm_hop (mm_call N (f + 3))) am_no none kX6_reckons n) (mm_call N (f + 3)) μ sti wdi (nI i) (nI j) (lN (sm (cc20 V (ct V) i j) 0 c)) (nI c) o8 o9 o10) := by
  have hS : sm (cc20 V (ct V) i j) 0 20 = ct V i j := (ct_eq V hij).symm
  intro q
  induction q with
  | zero =>
    intro c n μ o8 o9 o10 hE hT hq hn hdone hP
    obtain rfl : c = 20 := by omega
    have h20 := hE.1
    rw [jX6_reckons_38_eq, hS]
    simp (disch := omega) only [ic_lit, ic_m1, ic_m2, ic_m3, am_ix_nI, am_ci_ok, am_cl_ok, am_cv_ok, am_ct_ok, am_dz_nI, nI_inj, nI_leI', nI_ltI', nI_lt0, nI_ge0, nI_eq0, nI_le0, nI_gt0, m2lt, m2ge, m2eq, eq_m2, nI_add, nI_subI, nI_mulI, b2_eq0, b2_eq1, b2_and1, band1, band0, if_true, if_false, ite_true, ite_false, cond_true, cond_false, ↓reduceIte, Nat.reduceAdd, Nat.reduceMul, Nat.reduceSub, Nat.reduceEqDiff, lN_lt', lN_le', lN_inj, lc_lt, lc_gt, lc_le, lc_ge, lc_eq, Nat.reduceLT, Nat.reduceLeDiff, reduceCtorEq, Nat.add_zero, Nat.zero_add, Nat.le_refl]
    exact hP n μ o8 o9 o10 (by omega) ⟨rfl, rfl⟩ rfl (fun _ _ => rfl) hdone
  | succ q ih =>
    intro c n μ o8 o9 o10 hE hT hq hn hdone hP
    have hE' := hE
    obtain ⟨h20, h10, he, hF, -⟩ := hE
    obtain ⟨n, rfl⟩ : ∃ n', n = n' + 1 := ⟨n - 1, by omega⟩
    obtain ⟨hvi, hei⟩ := he i (by omega)
    obtain ⟨hvj, hej⟩ := he (j - 1) (by omega)
    have hl := ct_lt V (i := i) (j := j) (by omega)
    have hsm := sm_mono (f := cc20 V (ct V) i j) (n := c + 1) (m := 20) 0 (by omega)
    have hsa : sm (cc20 V (ct V) i j) 0 (c + 1) = sm (cc20 V (ct V) i j) 0 c + cc20 V (ct V) i j c := by
      rw [sm_app]
      simp [sm]
    -- behind the value
    have hst : ∀ (v8 v9 : Int32) (o10 : Option am_V), P (jX6_reckons_153 (am_bk (mm_hop (mm_call N (f + 3))) am_no none kX6_reckons (n + 1)) (mm_call N (f + 3)) μ sti wdi (nI i) (nI j) (lN (sm (cc20 V (ct V) i j) 0 c)) (nI c) v8 v9 o10 (lN (cc20 V (ct V) i j c))) := by
      intro v8 v9 o10
      rw [jX6_reckons_153_eq]
      simp (disch := omega) only [ic_lit, ic_m1, ic_m2, ic_m3, am_ix_nI, am_ci_ok, am_cl_ok, am_cv_ok, am_ct_ok, am_dz_nI, nI_inj, nI_leI', nI_ltI', nI_lt0, nI_ge0, nI_eq0, nI_le0, nI_gt0, m2lt, m2ge, m2eq, eq_m2, nI_add, nI_subI, nI_mulI, b2_eq0, b2_eq1, b2_and1, band1, band0, if_true, if_false, ite_true, ite_false, cond_true, cond_false, ↓reduceIte, Nat.reduceAdd, Nat.reduceMul, Nat.reduceSub, Nat.reduceEqDiff, lN_lt', lN_le', lN_inj, lc_lt, lc_gt, lc_le, lc_ge, lc_eq, Nat.reduceLT, Nat.reduceLeDiff, reduceCtorEq, Nat.add_zero, Nat.zero_add]
      rw [mm_plus (by omega), am_cl_ok, ← hsa, jX6_reckons_38_bk]
      have hkr : mm_kr μ (mm_pl μ 26 (20 * (21 * i + j) + c) (lN (cc20 V (ct V) i j c))) := ⟨rfl, rfl⟩
      refine ih (c + 1) n _ _ _ _ (hkr.E hE') (fun a b h1 h2 h3 => ?_) (by omega) (by omega) (fun c' hc' => ?_) (fun n' μ' o8 o9 o10 h1 h2 h3 h4 h5 => hP n' μ' o8 o9 o10 h1 ⟨h2.1.trans hkr.1, h2.2.trans hkr.2⟩ (h3.trans (mm_pl_2627 _ _ _)) (fun p hp => ?_) h5)
      · obtain ⟨a1, a2⟩ := hT a b h1 h2 h3
        refine ⟨by rw [mm_pl_2627]; exact a1, fun c' hc' => ?_⟩
        rw [mm_pl_26, if_neg (by omega)]
        exact a2 c' hc'
      · rw [mm_pl_26]
        by_cases e : c' = c
        · subst e
          rw [if_pos rfl]
        · rw [if_neg (by omega)]
          exact hdone c' (by omega)
      · rw [h4 p hp, mm_pl_26, if_neg (by omega)]
    rw [jX6_reckons_38_eq]
    have hb : (nI c - nI c / nI 2 * nI 2 = nI 1) = (c % 2 = 1) := by rw [pk_rem (by omega) (by omega) (by omega), nI_inj (by omega) (by omega)]
    have hd2 : nI c / nI 2 = nI (c / 2) := pk_div (by omega) (by omega) (by omega)
    simp (disch := omega) only [ic_lit, ic_m1, ic_m2, ic_m3, am_ix_nI, am_ci_ok, am_cl_ok, am_cv_ok, am_ct_ok, am_dz_nI, nI_inj, nI_leI', nI_ltI', nI_lt0, nI_ge0, nI_eq0, nI_le0, nI_gt0, m2lt, m2ge, m2eq, eq_m2, nI_add, nI_subI, nI_mulI, b2_eq0, b2_eq1, b2_and1, band1, band0, if_true, if_false, ite_true, ite_false, cond_true, cond_false, ↓reduceIte, Nat.reduceAdd, Nat.reduceMul, Nat.reduceSub, Nat.reduceEqDiff, lN_lt', lN_le', lN_inj, lc_lt, lc_gt, lc_le, lc_ge, lc_eq, Nat.reduceLT, Nat.reduceLeDiff, reduceCtorEq, Nat.add_zero, Nat.zero_add, hb]
    rw [if_neg (by omega)]
    have hmain : ∀ b : Bool, decide (c % 2 = 1) = b → P (jX6_reckons_58 (am_bk (mm_hop (mm_call N (f + 3))) am_no none kX6_reckons (n + 1)) (mm_call N (f + 3)) μ sti wdi (nI i) (nI j) (lN (sm (cc20 V (ct V) i j) 0 c)) (nI c) o8 o9 o10 (b2 b)) := by
      intro b hcb
      have hcc : cc20 V (ct V) i j c = cK V (ct V) (c / 2) b i j := by rw [← hcb]; rfl
      have hno : V.2.2 (c / 2) b = false ∨ (b = true ∧ ¬ (V.1 i = 29 ∧ V.1 (j - 1) = 30)) → cc20 V (ct V) i j c = 0 := by
        intro hq
        rw [hcc]
        unfold cK gK
        rw [if_neg]
        intro hg
        simp only [Bool.and_eq_true, Bool.or_eq_true, Bool.not_eq_true', decide_eq_true_eq] at hg
        rcases hq with hq | ⟨rfl, hq⟩
        · rw [hq] at hg
          exact absurd hg.1 (by decide)
        · rcases hg.2 with q | q
          · cases q
          · exact hq ⟨q.1.2, q.2⟩
      have hzero : cc20 V (ct V) i j c = 0 → ∀ (o9 o10 : Option am_V), P (jX6_reckons_107 (am_bk (mm_hop (mm_call N (f + 3))) am_no none kX6_reckons (n + 1)) (mm_call N (f + 3)) μ sti wdi (nI i) (nI j) (lN (sm (cc20 V (ct V) i j) 0 c)) (nI c) (b2 b) o9 o10) := by
        intro h0 o9' o10'
        rw [jX6_reckons_107_eq, jX6_reckons_108_eq, if_pos (by decide), jX6_reckons_153_119_eq]
        have := hst (b2 b) (ic 0) o10'
        rw [h0] at this
        exact this
      have hk9 : c / 2 ≤ 9 := by omega
      have hgo : V.2.2 (c / 2) b = true → (b = true → V.1 i = 29 ∧ V.1 (j - 1) = 30) → ∀ (o9 o10 : Option am_V), P (jX6_reckons_103 (am_bk (mm_hop (mm_call N (f + 3))) am_no none kX6_reckons (n + 1)) (mm_call N (f + 3)) μ sti wdi (nI i) (nI j) (lN (sm (cc20 V (ct V) i j) 0 c)) (nI c) (b2 b) o9 o10) := by
        intro hV hbe o9' o10'
        rw [jX6_reckons_103_eq, jX6_reckons_108_107_eq, jX6_reckons_108_eq, if_neg (by decide)]
        simp only [b2_eq0]
        cases b with
        | false =>
          have e : cc20 V (ct V) i j c = cP V (ct V) (c / 2) i j := by
            rw [hcc]
            unfold cK gK
            rw [hV]
            rfl
          rw [if_pos rfl, ic_lit, am_dz_nI (by omega), hd2, mm_within hE' hk9 hj (by omega) hT hN, am_cl_ok, ← e]
          exact hst _ _ _
        | true =>
          have e : cc20 V (ct V) i j c = cP V (ct V) (c / 2) (i + 1) (j - 1) := by
            rw [hcc]
            unfold cK gK
            rw [hV, decide_eq_true (hbe rfl).1, decide_eq_true (hbe rfl).2]
            by_cases h3 : i + 2 < j
            · rw [decide_eq_true h3]
              rfl
            · rw [decide_eq_false h3, cP_nil (i := i + 1) (j := j - 1) (by omega)]
              rfl
          rw [if_neg (by decide), ic_lit, ic_lit, am_dz_nI (by omega), hd2, nI_add, nI_subI (by omega), mm_within hE' hk9 (by omega) (by omega) (fun a b h1 h2 h3 => hT a b h1 h2 (by omega)) hN, am_cl_ok, ← e, jX6_reckons_153_142_eq]
          exact hst _ _ _
      rw [jX6_reckons_58_eq, ic_lit, am_dz_nI (by omega), hd2, mm_isLet hE' (by omega), am_ci_ok]
      simp only [b2_eq0]
      cases hV : V.2.2 (c / 2) b with
      | false =>
        rw [if_pos rfl, jX6_reckons_107_73_eq]
        exact hzero (hno (.inl hV)) _ _
      | true =>
        rw [if_neg (by decide)]
        by_cases hbf : b = false
        · rw [if_pos hbf, jX6_reckons_103_78_eq]
          exact hgo hV (fun q => by rw [hbf] at q; cases q) _ _
        · have hbt : b = true := by cases b with
            | true => rfl
            | false => exact absurd rfl hbf
          rw [if_neg hbf]
          simp (disch := omega) only [ic_lit, ic_m1, ic_m2, ic_m3, am_ix_nI, am_ci_ok, am_cl_ok, am_cv_ok, am_ct_ok, am_dz_nI, nI_inj, nI_leI', nI_ltI', nI_lt0, nI_ge0, nI_eq0, nI_le0, nI_gt0, m2lt, m2ge, m2eq, eq_m2, nI_add, nI_subI, nI_mulI, b2_eq0, b2_eq1, b2_and1, band1, band0, if_true, if_false, ite_true, ite_false, cond_true, cond_false, ↓reduceIte, Nat.reduceAdd, Nat.reduceMul, Nat.reduceSub, Nat.reduceEqDiff, lN_lt', lN_le', lN_inj, lc_lt, lc_gt, lc_le, lc_ge, lc_eq, Nat.reduceLT, Nat.reduceLeDiff, reduceCtorEq, Nat.add_zero, Nat.zero_add, hei, hej]
          by_cases h1 : V.1 i = 29
          · rw [if_pos h1]
            by_cases h2 : V.1 (j - 1) = 30
            · rw [if_pos h2]
              exact hgo hV (fun _ => ⟨h1, h2⟩) _ _
            · rw [if_neg h2, jX6_reckons_107_103_eq]
              exact hzero (hno (.inr ⟨hbt, fun q => h2 q.2⟩)) _ _
          · rw [if_neg h1, jX6_reckons_107_89_eq]
            exact hzero (hno (.inr ⟨hbt, fun q => h1 q.1⟩)) _ _
    by_cases hc : c % 2 = 1
    · rw [if_pos hc, jX6_reckons_58_57_eq, ← b2_t]
      exact hmain true (decide_eq_true hc)
    · rw [if_neg hc, ← b2_f]
      exact hmain false (decide_eq_false hc)
theorem mm_reckLoop {f : Nat} (sti : Int32) (hN : 30 ≤ N) : ∀ (q w i n : Nat) (μ : mm_S) (o4 o5 o7 o8 o9 o10 : Option am_V), mE μ V h → 1 ≤ w → w ≤ h → 30 * ((h + 1 - w) * (h + 2) + (h + 1 - i)) ≤ q → q < n → mT μ V h w → (∀ a, a < i → a + w ≤ h → μ.2.2 27 (21 * a + (a + w)) = lN (ct V a (a + w)) ∧ ∀ c, c < 20 → μ.2.2 26 (20 * (21 * a + (a + w)) + c) = lN (cc20 V (ct V) a (a + w) c)) → i + w ≤ h + 1 →
    ∃ μ', jX6_reckons_17 (am_bk (mm_hop (mm_call N (f + 3))) am_no none kX6_reckons n) (mm_call N (f + 3)) μ sti (nI w) (nI i) o4 o5 o7 o8 o9 o10 = some (.inl none, μ') ∧ mm_kr μ μ' ∧ mT μ' V h (h + 1) := by
  intro q
  induction q using Nat.strongRecOn with
  | ind q ih =>
    intro w i n μ o4 o5 o7 o8 o9 o10 hE h1 h2 h3 hn hT hi hiw
    have hE' := hE
    obtain ⟨h20, h10, he, -, -⟩ := hE
    obtain ⟨n, rfl⟩ : ∃ n', n = n' + 1 := ⟨n - 1, by omega⟩
    rw [jX6_reckons_17_eq]
    simp (disch := omega) only [ic_lit, ic_m1, ic_m2, ic_m3, am_ix_nI, am_ci_ok, am_cl_ok, am_cv_ok, am_ct_ok, am_dz_nI, nI_inj, nI_leI', nI_ltI', nI_lt0, nI_ge0, nI_eq0, nI_le0, nI_gt0, m2lt, m2ge, m2eq, eq_m2, nI_add, nI_subI, nI_mulI, b2_eq0, b2_eq1, b2_and1, band1, band0, if_true, if_false, ite_true, ite_false, cond_true, cond_false, ↓reduceIte, Nat.reduceAdd, Nat.reduceMul, Nat.reduceSub, Nat.reduceEqDiff, lN_lt', lN_le', lN_inj, lc_lt, lc_gt, lc_le, lc_ge, lc_eq, Nat.reduceLT, Nat.reduceLeDiff, reduceCtorEq, Nat.add_zero, Nat.zero_add, h10]
    by_cases hend : h < i + w
    · rw [if_pos hend]
      have hT' : mT μ V h (w + 1) := fun a b h4 h5 h6 => by
        by_cases e : b - a < w
        · exact hT a b h4 h5 e
        · obtain rfl : b = a + w := by omega
          exact hi a (by omega) h5
      rw [jX6_reckons_7_bk, jX6_reckons_7_eq]
      simp (disch := omega) only [ic_lit, ic_m1, ic_m2, ic_m3, am_ix_nI, am_ci_ok, am_cl_ok, am_cv_ok, am_ct_ok, am_dz_nI, nI_inj, nI_leI', nI_ltI', nI_lt0, nI_ge0, nI_eq0, nI_le0, nI_gt0, m2lt, m2ge, m2eq, eq_m2, nI_add, nI_subI, nI_mulI, b2_eq0, b2_eq1, b2_and1, band1, band0, if_true, if_false, ite_true, ite_false, cond_true, cond_false, ↓reduceIte, Nat.reduceAdd, Nat.reduceMul, Nat.reduceSub, Nat.reduceEqDiff, lN_lt', lN_le', lN_inj, lc_lt, lc_gt, lc_le, lc_ge, lc_eq, Nat.reduceLT, Nat.reduceLeDiff, reduceCtorEq, Nat.add_zero, Nat.zero_add, h10]
      by_cases hw : h < w + 1
      · rw [if_pos hw]
        exact ⟨μ, rfl, ⟨rfl, rfl⟩, fun a b h4 h5 h6 => hT' a b h4 h5 (by omega)⟩
      · rw [if_neg hw]
        have hmul : (h + 1 - w) * (h + 2) = (h + 1 - (w + 1)) * (h + 2) + (h + 2) := by
          rw [show h + 1 - w = (h + 1 - (w + 1)) + 1 by omega, Nat.add_mul, Nat.one_mul]
        exact ih (30 * ((h + 1 - (w + 1)) * (h + 2) + (h + 1 - 0))) (by omega) (w + 1) 0 n μ _ _ _ _ _ _ hE' (by omega) (by omega) (by omega) (by omega) hT' (fun a h4 => by omega) (by omega)
    · rw [if_neg hend]
      refine mm_reckIn (N := N) (f := f) (V := V) (h := h) sti (nI w) (show i < i + w by omega) (show i + w ≤ h by omega) hN (fun r => ∃ μ', r = some (.inl none, μ') ∧ mm_kr μ μ' ∧ mT μ' V h (h + 1)) (n + 1 - 20) 20 0 (n + 1) μ o8 o9 o10 hE' (fun a b h4 h5 h6 => hT a b h4 h5 (by omega)) (by omega) (by omega) (fun c' hc' => by omega) ?_
      intro n' μ' o8 o9 o10 hn' hk h27 h26 hc
      obtain ⟨n', rfl⟩ : ∃ m, n' = m + 1 := ⟨n' - 1, by omega⟩
      rw [jX6_reckons_17_bk]
      have hk2 : mm_kr μ (mm_pl μ' 27 (21 * i + (i + w)) (lN (ct V i (i + w)))) := ⟨hk.1, hk.2⟩
      have hold : ∀ a b, a < b → b ≤ h → ¬ (a = i ∧ b = i + w) → (mm_pl μ' 27 (21 * i + (i + w)) (lN (ct V i (i + w)))).2.2 27 (21 * a + b) = μ.2.2 27 (21 * a + b) ∧ ∀ c, c < 20 → (mm_pl μ' 27 (21 * i + (i + w)) (lN (ct V i (i + w)))).2.2 26 (20 * (21 * a + b) + c) = μ.2.2 26 (20 * (21 * a + b) + c) := by
        intro a b h4 h5 h6
        have hne : 21 * a + b ≠ 21 * i + (i + w) := by omega
        refine ⟨by rw [mm_pl_27, if_neg hne, h27], fun c hc' => ?_⟩
        rw [mm_pl_2726]
        exact h26 _ (by omega)
      obtain ⟨μ2, e, hk3, hT3⟩ := ih (30 * ((h + 1 - w) * (h + 2) + (h + 1 - (i + 1)))) (by omega) w (i + 1) n' _ _ _ _ o8 o9 o10 (hk2.E hE') h1 h2 (by omega) (by omega) (fun a b h4 h5 h6 => by
          obtain ⟨a1, a2⟩ := hold a b h4 h5 (by omega)
          obtain ⟨b1, b2⟩ := hT a b h4 h5 h6
          exact ⟨a1.trans b1, fun c hc' => (a2 c hc').trans (b2 c hc')⟩) (fun a h4 h5 => by
          by_cases e : a = i
          · subst e
            refine ⟨by rw [mm_pl_27, if_pos rfl], fun c hc' => ?_⟩
            rw [mm_pl_2726]
            exact hc c hc'
          · obtain ⟨a1, a2⟩ := hold a (a + w) (by omega) h5 (by omega)
            obtain ⟨b1, b2⟩ := hi a (by omega) h5
            exact ⟨a1.trans b1, fun c hc' => (a2 c hc').trans (b2 c hc')⟩) (by omega)
      exact ⟨μ2, e, ⟨hk3.1.trans hk2.1, hk3.2.trans hk2.2⟩, hT3⟩
theorem mm_counted {f st : Nat} (hE : mE (mm_p μ 28 (nI st)) V h) (hN : 20000 ≤ N) :
    ∃ μ', mm_call N (f + 5) 39 [.inl (.ref 0), .inl (.int (nI st))] (μ) = some (.inl (some (.inl (.long (lN (ct V 0 h))))), μ') ∧ mm_kr (mm_p μ 28 (nI st)) μ' ∧ mE μ' V h ∧ mT μ' V h (h + 1) := by
  have h20 := hE.1
  have h10 := hE.2.1
  have hrec : ∃ μ', mm_call N (f + 4) 40 [.inl (.ref 0), .inl (.int (nI st))] (μ) = some (.inl none, μ') ∧ mm_kr (mm_p μ 28 (nI st)) μ' ∧ mT μ' V h (h + 1) := by
    rw [dX6_reckons_eq]
    unfold dX6_reckons
    rw [jX6_reckons_7_eq, ic_lit, h10]
    simp only [nI_ltI' (show h < 2 ^ 31 by omega) (show 1 < 2 ^ 31 by omega)]
    by_cases h0 : h < 1
    · rw [if_pos (by omega)]
      exact ⟨_, rfl, ⟨rfl, rfl⟩, fun a b h1 h2 => by omega⟩
    · rw [if_neg h0]
      have hb : (h + 1 - 1) * (h + 2) ≤ 20 * 22 := Nat.mul_le_mul (by omega) (by omega)
      exact mm_reckLoop (N := N) (f := f) (nI st) (by omega) (30 * ((h + 1 - 1) * (h + 2) + (h + 1 - 0))) 1 0 N _ _ _ _ _ _ _ hE (by omega) (by omega) (by omega) (by omega) (fun a b h1 h2 h3 => by omega) (fun a h1 => by omega) (by omega)
  obtain ⟨μ', e, hk, hT⟩ := hrec
  have hE2 := hk.E hE
  rw [dX6_counted_eq]
  unfold dX6_counted
  rw [e, am_cv_ok, hE2.2.1]
  by_cases h0 : h = 0
  · subst h0
    rw [if_pos (by decide)]
    exact ⟨μ', by rw [ct_nil V (Nat.le_refl _)], hk, hE2, hT⟩
  · rw [if_neg (fun q => h0 ((nI_eq0 (by omega)).mp q)), am_ix_nI (by omega) (by omega)]
    have := (hT 0 h (by omega) (Nat.le_refl _) (by omega)).1
    rw [Nat.mul_zero, Nat.zero_add] at this
    exact ⟨μ', by rw [this], hk, hE2, hT⟩
end
