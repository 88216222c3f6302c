set_option maxRecDepth 100000
/-! THE MODEL's ROWS: a node is set, a tree is copied. -/
/-- a node stands at a place now -/
def mm_st (s s' : mm_S) (p : Nat) (k v x y : Int32) (sz dp : Nat) : Prop := s'.1 = s.1 ∧ s'.2.2 = s.2.2 ∧ (∀ c, c = 0 ∨ 6 < c → s'.2.1 c = s.2.1 c) ∧ (∀ c j, j ≠ p → s'.2.1 c j = s.2.1 c j) ∧ s'.2.1 1 p = k ∧ s'.2.1 2 p = v ∧ s'.2.1 3 p = x ∧ s'.2.1 4 p = y ∧ s'.2.1 5 p = nI sz ∧ s'.2.1 6 p = nI dp
section
variable {N : Nat}
theorem mm_sets {f p lo hi : Nat} {s : mm_S} {k v x y : Int32} {tx ty : Tr} (hp : p < 450) (hx : mr s lo hi tx x) (hy : mr s lo hi ty y) (hh : hi ≤ 450) (hsx : tr_sz tx < 1000) (hsy : tr_sz ty < 1000) :
    ∃ s', mm_call N (f + 1) 4 [.inl (.ref 0), .inl (.int (nI p)), .inl (.int (k)), .inl (.int (v)), .inl (.int (x)), .inl (.int (y))] (s) = some (.inl none, s') ∧ mm_st s s' p k v x y (1 + tr_sz tx + tr_sz ty) (1 + max (tr_dp tx) (tr_dp ty)) := by
  have hdx := tr_sz_dp tx
  have hdy := tr_sz_dp ty
  have hfin : ∀ (s1 : mm_S) (v7 v5 : Int32), s1 = mm_pa (mm_pa (mm_pa (mm_pa s 1 p k) 2 p v) 3 p x) 4 p y → v5 = nI (1 + tr_sz tx + tr_sz ty) → v7 = nI (1 + max (tr_dp tx) (tr_dp ty)) → mm_st s (mm_pa (mm_pa s1 5 p v5) 6 p v7) p k v x y (1 + tr_sz tx + tr_sz ty) (1 + max (tr_dp tx) (tr_dp ty)) := by
    intro s1 v7 v5 e e5 e7
    subst e e5 e7
    refine ⟨rfl, rfl, fun c hc => ?_, fun c j hj => ?_, ?_, ?_, ?_, ?_, ?_, ?_⟩
    · funext j
      simp only [mm_pa_get]
      rw [if_neg (by omega), if_neg (by omega), if_neg (by omega), if_neg (by omega), if_neg (by omega), if_neg (by omega)]
    · simp only [mm_pa_get, if_neg hj]
      repeat' split
      all_goals simp_all
    all_goals simp [mm_pa_get]
  rw [dX6_sets_eq]
  unfold dX6_sets
  cases tx with
  | leaf =>
    obtain rfl : x = -2 := hx
    cases ty with
    | leaf =>
      obtain rfl : y = -2 := hy
      simp (disch := omega) only [ic_lit, ic_m1, ic_m2, ic_m3, am_ix_nI, am_ci_ok, am_cl_ok, am_cv_ok, am_ct_ok, am_dz_nI, nI_inj, nI_leI', nI_ltI', nI_lt0, nI_ge0, nI_eq0, nI_le0, nI_gt0, m2lt, m2ge, m2eq, eq_m2, nI_add, nI_subI, nI_mulI, b2_eq0, b2_eq1, b2_and1, band1, band0, if_true, if_false, ite_true, ite_false, cond_true, cond_false, ↓reduceIte, Nat.reduceAdd, Nat.reduceMul, Nat.reduceSub, Nat.reduceEqDiff, lN_lt', lN_le', lN_inj, lc_lt, lc_gt, lc_le, lc_ge, lc_eq, Nat.reduceLT, Nat.reduceLeDiff, reduceCtorEq, Nat.add_zero, Nat.zero_add, jX6_sets_52_45_eq, jX6_sets_69_62_eq, jX6_sets_87_80_eq, jX6_sets_105_98_eq, jX6_sets_127_125_eq, jX6_sets_52_eq, jX6_sets_69_eq, jX6_sets_87_eq, jX6_sets_105_eq, jX6_sets_127_eq, Nat.le_refl]
      exact ⟨_, rfl, hfin _ _ _ rfl (by simp [tr_sz]) (by simp [tr_dp])⟩
    | inner n' k' v' x' y' =>
      obtain ⟨j', _, hj', rfl, ek', ev', es', ed', hx', hy'⟩ := hy
      simp (disch := omega) only [ic_lit, ic_m1, ic_m2, ic_m3, am_ix_nI, am_ci_ok, am_cl_ok, am_cv_ok, am_ct_ok, am_dz_nI, nI_inj, nI_leI', nI_ltI', nI_lt0, nI_ge0, nI_eq0, nI_le0, nI_gt0, m2lt, m2ge, m2eq, eq_m2, nI_add, nI_subI, nI_mulI, b2_eq0, b2_eq1, b2_and1, band1, band0, if_true, if_false, ite_true, ite_false, cond_true, cond_false, ↓reduceIte, Nat.reduceAdd, Nat.reduceMul, Nat.reduceSub, Nat.reduceEqDiff, lN_lt', lN_le', lN_inj, lc_lt, lc_gt, lc_le, lc_ge, lc_eq, Nat.reduceLT, Nat.reduceLeDiff, reduceCtorEq, Nat.add_zero, Nat.zero_add, jX6_sets_52_45_eq, jX6_sets_69_62_eq, jX6_sets_87_80_eq, jX6_sets_105_98_eq, jX6_sets_127_125_eq, jX6_sets_52_eq, jX6_sets_69_eq, jX6_sets_87_eq, jX6_sets_105_eq, jX6_sets_127_eq, mm_pa_get, es', ed']
      rw [if_pos (by omega)]
      refine ⟨_, rfl, hfin _ _ _ rfl ?_ ?_⟩
      · simp only [tr_sz]
      · simp only [tr_dp]; exact congrArg nI (by omega)
  | inner n0 k0 v0 x0 y0 =>
    obtain ⟨j0, _, hj0, rfl, ek0, ev0, es0, ed0, hx0, hy0⟩ := hx
    cases ty with
    | leaf =>
      obtain rfl : y = -2 := hy
      simp (disch := omega) only [ic_lit, ic_m1, ic_m2, ic_m3, am_ix_nI, am_ci_ok, am_cl_ok, am_cv_ok, am_ct_ok, am_dz_nI, nI_inj, nI_leI', nI_ltI', nI_lt0, nI_ge0, nI_eq0, nI_le0, nI_gt0, m2lt, m2ge, m2eq, eq_m2, nI_add, nI_subI, nI_mulI, b2_eq0, b2_eq1, b2_and1, band1, band0, if_true, if_false, ite_true, ite_false, cond_true, cond_false, ↓reduceIte, Nat.reduceAdd, Nat.reduceMul, Nat.reduceSub, Nat.reduceEqDiff, lN_lt', lN_le', lN_inj, lc_lt, lc_gt, lc_le, lc_ge, lc_eq, Nat.reduceLT, Nat.reduceLeDiff, reduceCtorEq, Nat.add_zero, Nat.zero_add, jX6_sets_52_45_eq, jX6_sets_69_62_eq, jX6_sets_87_80_eq, jX6_sets_105_98_eq, jX6_sets_127_125_eq, jX6_sets_52_eq, jX6_sets_69_eq, jX6_sets_87_eq, jX6_sets_105_eq, jX6_sets_127_eq, mm_pa_get, es0, ed0]
      have : ¬ tr_dp (.inner n0 k0 v0 x0 y0) ≤ 0 := by simp only [tr_dp]; omega
      rw [if_neg this]
      refine ⟨_, rfl, hfin _ _ _ rfl ?_ ?_⟩
      · simp only [tr_sz]; exact congrArg nI (by omega)
      · simp only [tr_dp]; exact congrArg nI (by omega)
    | inner n' k' v' x' y' =>
      obtain ⟨j', _, hj', rfl, ek', ev', es', ed', hx', hy'⟩ := hy
      simp (disch := omega) only [ic_lit, ic_m1, ic_m2, ic_m3, am_ix_nI, am_ci_ok, am_cl_ok, am_cv_ok, am_ct_ok, am_dz_nI, nI_inj, nI_leI', nI_ltI', nI_lt0, nI_ge0, nI_eq0, nI_le0, nI_gt0, m2lt, m2ge, m2eq, eq_m2, nI_add, nI_subI, nI_mulI, b2_eq0, b2_eq1, b2_and1, band1, band0, if_true, if_false, ite_true, ite_false, cond_true, cond_false, ↓reduceIte, Nat.reduceAdd, Nat.reduceMul, Nat.reduceSub, Nat.reduceEqDiff, lN_lt', lN_le', lN_inj, lc_lt, lc_gt, lc_le, lc_ge, lc_eq, Nat.reduceLT, Nat.reduceLeDiff, reduceCtorEq, Nat.add_zero, Nat.zero_add, jX6_sets_52_45_eq, jX6_sets_69_62_eq, jX6_sets_87_80_eq, jX6_sets_105_98_eq, jX6_sets_127_125_eq, jX6_sets_52_eq, jX6_sets_69_eq, jX6_sets_87_eq, jX6_sets_105_eq, jX6_sets_127_eq, mm_pa_get, es', ed', es0, ed0]
      by_cases hc : tr_dp (.inner n0 k0 v0 x0 y0) ≤ tr_dp (.inner n' k' v' x' y')
      · rw [if_pos hc]
        exact ⟨_, rfl, hfin _ _ _ rfl (congrArg nI (by omega)) (congrArg nI (by omega))⟩
      · rw [if_neg hc]
        exact ⟨_, rfl, hfin _ _ _ rfl (congrArg nI (by omega)) (congrArg nI (by omega))⟩
/-- a tree stands where it stood, if nothing of it is overwritten -/
theorem mm_st.mv {s s' : mm_S} {p : Nat} {k v x y : Int32} {sz dp lo hi : Nat} (h : mm_st s s' p k v x y sz dp) (hp : p < lo ∨ hi ≤ p) {t : Tr} {i : Int32} (ht : mr s lo hi t i) : mr s' lo hi t i :=
  mr_of (fun c _ _ j h1 h2 => h.2.2.2.1 c j (by omega)) t i ht
theorem mr_up {s : mm_S} {lo hi lo' hi' : Nat} (h1 : lo' ≤ lo) (h2 : hi ≤ hi') : ∀ (t : Tr) (i : Int32), mr s lo hi t i → mr s lo' hi' t i
  | .leaf, _, q => q
  | .inner n k v x y, i, ⟨j, a1, a2, a3, a4, a5, a6, a7, hx, hy⟩ => ⟨j, by omega, by omega, a3, a4, a5, a6, a7, mr_up h1 h2 x _ hx, mr_up h1 h2 y _ hy⟩
/-- the new node -/
theorem mm_st.new {s s' : mm_S} {p n k v lo hi : Nat} {x y : Int32} {tx ty : Tr} (h : mm_st s s' p (nI k) (tr_vI k v) x y (1 + tr_sz tx + tr_sz ty) (1 + max (tr_dp tx) (tr_dp ty))) (hp : hi ≤ p) (hlo : lo ≤ p) (hx : mr s lo hi tx x) (hy : mr s lo hi ty y) : mr s' lo (p + 1) (.inner n k v tx ty) (nI p) := by
  have hx' := h.mv (.inr hp) hx
  have hy' := h.mv (.inr hp) hy
  obtain ⟨-, -, -, -, h1, h2, h3, h4, h5, h6⟩ := h
  exact ⟨p, hlo, by omega, rfl, h1, h2, h5, h6, by rw [h3]; exact mr_up (Nat.le_refl _) (by omega) tx _ hx', by rw [h4]; exact mr_up (Nat.le_refl _) (by omega) ty _ hy'⟩
/-- a reading's rows, from md on: nothing else has changed -/
def mm_kt (md : Nat) (μ μ' : mm_S) : Prop := (∀ j, j ≠ 29 → μ'.1 j = μ.1 j) ∧ (∀ c, c = 0 ∨ 6 < c → μ'.2.1 c = μ.2.1 c) ∧ (∀ c j, j < 400 + md → μ'.2.1 c j = μ.2.1 c j) ∧ μ'.2.2 = μ.2.2
theorem mm_kt.rf (md : Nat) (μ : mm_S) : mm_kt md μ μ := ⟨fun _ _ => rfl, fun _ _ => rfl, fun _ _ _ => rfl, rfl⟩
theorem mm_kt.tr {md md' : Nat} {μ μ' μ'' : mm_S} (a : mm_kt md μ μ') (b : mm_kt md' μ' μ'') (hm : md ≤ md') : mm_kt md μ μ'' :=
  ⟨fun j q => (b.1 j q).trans (a.1 j q), fun c q => (b.2.1 c q).trans (a.2.1 c q), fun c j q => (b.2.2.1 c j (by omega)).trans (a.2.2.1 c j q), b.2.2.2.trans a.2.2.2⟩
theorem mm_kt.E {md h : Nat} {V : EV} {μ μ' : mm_S} (a : mm_kt md μ μ') (hE : mE μ V h) : mE μ' V h := by
  obtain ⟨h1, h2, h3, h4, st, h5, h6, h7, h8⟩ := hE
  exact ⟨h1, (a.1 10 (by omega)).trans h2, fun j hj => ⟨(h3 j hj).1, by rw [a.2.1 9 (by omega)]; exact (h3 j hj).2⟩, fun l hl => by rw [a.2.1 7 (by omega)]; exact h4 l hl, st, h5, (a.1 28 (by omega)).trans h6, fun q k hk => by rw [a.2.1 8 (by omega)]; exact h7 q k hk, h8⟩
theorem mm_kt.T {md h W : Nat} {V : EV} {μ μ' : mm_S} (a : mm_kt md μ μ') (hT : mT μ V h W) : mT μ' V h W := by
  unfold mT at *
  rw [a.2.2.2]
  exact hT
theorem mm_kt.mv {md lo hi : Nat} {μ μ' : mm_S} (a : mm_kt md μ μ') (hh : hi ≤ 400 + md) {t : Tr} {i : Int32} (ht : mr μ lo hi t i) : mr μ' lo hi t i := mr_of (fun c _ _ j _ h2 => a.2.2.1 c j (by omega)) t i ht
theorem mm_makes {f md n k v lo : Nat} {μ : mm_S} {x y : Int32} {tx ty : Tr} (h29 : μ.1 29 = nI md) (hmd : md < 50) (hx : mr μ lo (400 + md) tx x) (hy : mr μ lo (400 + md) ty y) (hlo : lo ≤ 400 + md) (hsx : tr_sz tx < 1000) (hsy : tr_sz ty < 1000) :
    ∃ μ', mm_call N (f + 2) 48 [.inl (.ref 0), .inl (.int (nI k)), .inl (.int (tr_vI k v)), .inl (.int (x)), .inl (.int (y))] (μ) = some (.inl (some (.inl (.int (nI (400 + md))))), μ') ∧ mr μ' lo (400 + md + 1) (.inner n k v tx ty) (nI (400 + md)) ∧ μ'.1 29 = nI (md + 1) ∧ mm_kt md μ μ' := by
  obtain ⟨s', e, hst⟩ := mm_sets (N := N) (f := f) (s := μ) (p := 400 + md) (k := nI k) (v := tr_vI k v) (by omega) hx hy (by omega) hsx hsy
  rw [dX6_makes_eq]
  unfold dX6_makes
  rw [h29, ic_lit, nI_add, e, am_cv_ok]
  have h29' : s'.1 29 = nI md := by rw [hst.1]; exact h29
  refine ⟨mm_p s' 29 (nI (md + 1)), ?_, ?_, ?_, ?_⟩
  · rw [h29', ic_lit, nI_add, mm_p_get, if_pos rfl, nI_add, nI_subI (by omega), show 400 + (md + 1) - 1 = 400 + md by omega]
  · exact mr_of (μ := s') (μ' := mm_p s' 29 (nI (md + 1))) (fun _ _ _ _ _ _ => rfl) _ _ (mm_st.new hst (Nat.le_refl _) hlo hx hy)
  · rw [mm_p_get, if_pos rfl]
  · refine ⟨fun j hj => ?_, fun c hc => ?_, fun c j hj => ?_, ?_⟩
    · rw [mm_p_get, if_neg hj, hst.1]
    · rw [mm_p_2]; exact hst.2.2.1 c hc
    · rw [mm_p_2]; exact hst.2.2.2.1 c j (by omega)
    · rw [mm_p_2]; exact hst.2.1
end
