set_option maxRecDepth 100000
/-! THE MODEL's TREES: what its recursions over a tree answer. -/
def tr_right (F : Nat → Bool) : Tr → Bool
  | .leaf => true
  | .inner _ k v x y => (if k = 0 then !F v else if k = 9 then F v else true) && tr_right F x && tr_right F y
def tr_has (u : Tr) : Tr → Nat
  | .leaf => 0
  | .inner n k v x y => (if tr_like (.inner n k v x y) u then 1 else 0) + tr_has u x + tr_has u y
/-- words of its own -/
def ownW (k v : Nat) : Nat := if k = 1 then dg v else if k = 8 ∨ k = 9 then 2 else 1
/-- words of a tree, a style's kinds kept -/
def wlen (K : Nat → Bool) : Tr → Nat
  | .leaf => 0
  | .inner _ k v x y => ownW k v + (if K k then 2 else 0) + wlen K x + wlen K y
/-- the same, b levels of it; what lies deeper is a word -/
def glen (K : Nat → Bool) : Tr → Nat → Nat
  | .leaf, _ => 0
  | .inner _ _ _ _ _, 0 => 1
  | .inner _ k v x y, b + 1 => ownW k v + (if K k then 2 else 0) + glen K x b + glen K y b
/-- how many may be kept -/
def kc : Tr → Nat
  | .leaf => 0
  | .inner _ k _ x y => (if mk k then 1 else 0) + kc x + kc y
theorem tr_vI_0 (v : Nat) : tr_vI 0 v = nI v := rfl
theorem tr_vI_1 (v : Nat) : tr_vI 1 v = nI v := rfl
theorem tr_vI_9 (v : Nat) : tr_vI 9 v = nI v := rfl
theorem tr_sz_dp : ∀ t : Tr, tr_dp t ≤ tr_sz t
  | .leaf => Nat.le_refl _
  | .inner n k v x y => by
    have := tr_sz_dp x
    have := tr_sz_dp y
    simp only [tr_sz, tr_dp]
    omega
theorem kc_sz : ∀ t : Tr, kc t ≤ tr_sz t
  | .leaf => Nat.le_refl _
  | .inner n k v x y => by
    have := kc_sz x
    have := kc_sz y
    simp only [kc, tr_sz]
    split <;> omega
theorem tr_has_sz (u : Tr) : ∀ t : Tr, tr_has u t ≤ tr_sz t
  | .leaf => Nat.le_refl _
  | .inner n k v x y => by
    have := tr_has_sz u x
    have := tr_has_sz u y
    simp only [tr_has, tr_sz]
    split <;> omega
theorem dg_le (v : Nat) : 1 ≤ dg v ∧ dg v ≤ 4 := by
  unfold dg
  split <;> (try split) <;> (try split) <;> omega
theorem ownW_le (k v : Nat) : 1 ≤ ownW k v ∧ ownW k v ≤ 4 := by
  have := dg_le v
  unfold ownW
  split <;> (try split) <;> omega
theorem wlen_sz (K : Nat → Bool) : ∀ t : Tr, wlen K t ≤ 6 * tr_sz t
  | .leaf => Nat.le_refl _
  | .inner n k v x y => by
    have := wlen_sz K x
    have := wlen_sz K y
    have := ownW_le k v
    simp only [wlen, tr_sz]
    split <;> omega
theorem glen_sz (K : Nat → Bool) : ∀ (t : Tr) (b : Nat), glen K t b ≤ 6 * tr_sz t
  | .leaf, _ => by simp [glen]
  | .inner n k v x y, 0 => by simp only [glen, tr_sz]; omega
  | .inner n k v x y, b + 1 => by
    have := glen_sz K x b
    have := glen_sz K y b
    have := ownW_le k v
    simp only [glen, tr_sz]
    split <;> omega
/-- how two trees of one kind differ inside; how two trees differ; how many parts are exchanged -/
def tr_ins : Tr → Tr → Nat
  | .leaf, _ => 0
  | .inner _ _ v x y, u => (if v = tr_v u then 0 else 1) + (if tr_lf x then 0 else if tr_k x = tr_k (tr_x u) then min (tr_sz x + tr_sz (tr_x u)) (tr_ins x (tr_x u)) else tr_sz x + tr_sz (tr_x u)) + (if tr_lf y then 0 else if tr_k y = tr_k (tr_y u) then min (tr_sz y + tr_sz (tr_y u)) (tr_ins y (tr_y u)) else tr_sz y + tr_sz (tr_y u))
def tr_df (t u : Tr) : Nat := if tr_k t = tr_k u then min (tr_sz t + tr_sz u) (tr_ins t u) else tr_sz t + tr_sz u
theorem tr_ins_eq (n k v : Nat) (x y u : Tr) : tr_ins (.inner n k v x y) u = (if v = tr_v u then 0 else 1) + (if tr_lf x then 0 else tr_df x (tr_x u)) + (if tr_lf y then 0 else tr_df y (tr_y u)) := rfl
def tr_wh : Tr → Tr → Nat
  | .leaf, _ => 0
  | .inner n k v x y, u => if k = tr_k u ∧ tr_ins (.inner n k v x y) u ≤ tr_sz (.inner n k v x y) + tr_sz u then (if tr_lf x then 0 else tr_wh x (tr_x u)) + (if tr_lf y then 0 else tr_wh y (tr_y u)) else 1
theorem tr_df_le (t u : Tr) : tr_df t u ≤ tr_sz t + tr_sz u := by
  unfold tr_df
  split
  · exact Nat.min_le_left _ _
  · exact Nat.le_refl _
theorem tr_sz_xy (u : Tr) : tr_sz (tr_x u) + tr_sz (tr_y u) ≤ tr_sz u := by
  cases u with
  | leaf => simp [tr_x, tr_y, tr_sz]
  | inner n k v x y => simp only [tr_xi, tr_yi, tr_sz]; omega
theorem tr_ins_le (t u : Tr) : tr_ins t u ≤ tr_sz t + tr_sz u := by
  cases t with
  | leaf => simp [tr_ins]
  | inner n k v x y =>
    rw [tr_ins_eq]
    have h1 := tr_df_le x (tr_x u)
    have h2 := tr_df_le y (tr_y u)
    have h3 := tr_sz_xy u
    simp only [tr_sz]
    have a1 : (if v = tr_v u then 0 else 1) ≤ 1 := by split <;> omega
    have a2 : (if tr_lf x then 0 else tr_df x (tr_x u)) ≤ tr_df x (tr_x u) := by split <;> omega
    have a3 : (if tr_lf y then 0 else tr_df y (tr_y u)) ≤ tr_df y (tr_y u) := by split <;> omega
    omega
theorem tr_wh_le : ∀ (t u : Tr), tr_wh t u ≤ tr_sz t
  | .leaf, _ => by simp [tr_wh]
  | .inner n k v x y, u => by
    have h1 := tr_wh_le x (tr_x u)
    have h2 := tr_wh_le y (tr_y u)
    have a2 : (if tr_lf x then 0 else tr_wh x (tr_x u)) ≤ tr_wh x (tr_x u) := by split <;> omega
    have a3 : (if tr_lf y then 0 else tr_wh y (tr_y u)) ≤ tr_wh y (tr_y u) := by split <;> omega
    have e : tr_wh (.inner n k v x y) u = if k = tr_k u ∧ tr_ins (.inner n k v x y) u ≤ tr_sz (.inner n k v x y) + tr_sz u then (if tr_lf x then 0 else tr_wh x (tr_x u)) + (if tr_lf y then 0 else tr_wh y (tr_y u)) else 1 := rfl
    have hs : tr_sz (.inner n k v x y) = 1 + tr_sz x + tr_sz y := rfl
    rw [e]
    by_cases hP : k = tr_k u ∧ tr_ins (.inner n k v x y) u ≤ tr_sz (.inner n k v x y) + tr_sz u
    · rw [if_pos hP]
      omega
    · rw [if_neg hP]
      omega
/-- of one kind, and well formed: parts there are on both sides -/
theorem tr_wf_lf {n k v n' v' : Nat} {x y x' y' : Tr} (h : tr_wf (.inner n k v x y)) (h' : tr_wf (.inner n' k v' x' y')) : tr_lf x' = tr_lf x ∧ tr_lf y' = tr_lf y := by
  obtain ⟨-, -, h⟩ := h
  obtain ⟨-, -, h'⟩ := h'
  rcases h with ⟨rfl, -, h1, h2⟩ | ⟨rfl, -, h1, h2⟩ | ⟨a, b, -, h1, h2⟩ | ⟨a, -, h1, h2⟩ | ⟨rfl, -, h1, h2⟩ <;>
  rcases h' with ⟨c, -, h3, h4⟩ | ⟨c, -, h3, h4⟩ | ⟨c, e, -, h3, h4⟩ | ⟨c, -, h3, h4⟩ | ⟨c, -, h3, h4⟩ <;>
  first | (exfalso; omega) | exact ⟨h3.trans h1.symm, h4.trans h2.symm⟩
section
variable {N : Nat}
theorem mm_isRight (F : Nat → Bool) : ∀ (t : Tr) (s : mm_S) (lo hi : Nat) (i : Int32) (f : Nat), mr s lo hi t i → hi ≤ 450 → tr_wf t → (∀ l, l < 10 → s.2.1 7 l = b2 (F l)) → tr_dp t < f →
    mm_call N (f) 11 [.inl (.ref 0), .inl (.int (i))] (s) = some (.inl (some (.inl (.int (b2 (tr_right F t))))), s) := by
  intro t
  induction t with
  | leaf =>
    intro s lo hi i f ht h1 _ _ hf
    obtain ⟨f, rfl⟩ : ∃ f', f = f' + 1 := ⟨f - 1, by omega⟩
    obtain rfl : i = -2 := ht
    rw [dX6_isRight_eq]
    unfold dX6_isRight
    simp (disch := omega) only [ic_lit, ic_m1, ic_m2, ic_m3, am_ix_nI, am_ci_ok, am_cl_ok, am_cv_ok, am_ct_ok, am_dz_nI, nI_inj, nI_leI', nI_ltI', nI_lt0, nI_ge0, nI_eq0, nI_le0, nI_gt0, m2lt, m2ge, m2eq, eq_m2, nI_add, nI_subI, nI_mulI, b2_eq0, b2_eq1, b2_and1, band1, band0, if_true, if_false, ite_true, ite_false, cond_true, cond_false, ↓reduceIte, Nat.reduceAdd, Nat.reduceMul, Nat.reduceSub, Nat.reduceEqDiff, lN_lt', lN_le', lN_inj, lc_lt, lc_gt, lc_le, lc_ge, lc_eq, Nat.reduceLT, Nat.reduceLeDiff, reduceCtorEq, Nat.add_zero, Nat.zero_add]
    rfl
  | inner n k v x y ihx ihy =>
    intro s lo hi i f ht h1 hw hF hf
    obtain ⟨f, rfl⟩ : ∃ f', f = f' + 1 := ⟨f - 1, by omega⟩
    obtain ⟨j, _, hj, rfl, ek, ev, es, ed, hx, hy⟩ := ht
    have hj9 : j < 450 := by omega
    have hwv := tr_wf_v hw
    simp only [tr_dp] at hf
    have hfin : ∀ (back : mm_bt) (b : Bool), jX6_isRight_67 back (mm_call N f) s (nI j) (b2 b) = some (.inl (some (.inl (.int (b2 (b && tr_right F x && tr_right F y))))), s) := by
      intro back b
      rw [jX6_isRight_67_eq]
      simp (disch := omega) only [ic_lit, ic_m1, ic_m2, ic_m3, am_ix_nI, am_ci_ok, am_cl_ok, am_cv_ok, am_ct_ok, am_dz_nI, nI_inj, nI_leI', nI_ltI', nI_lt0, nI_ge0, nI_eq0, nI_le0, nI_gt0, m2lt, m2ge, m2eq, eq_m2, nI_add, nI_subI, nI_mulI, b2_eq0, b2_eq1, b2_and1, band1, band0, if_true, if_false, ite_true, ite_false, cond_true, cond_false, ↓reduceIte, Nat.reduceAdd, Nat.reduceMul, Nat.reduceSub, Nat.reduceEqDiff, lN_lt', lN_le', lN_inj, lc_lt, lc_gt, lc_le, lc_ge, lc_eq, Nat.reduceLT, Nat.reduceLeDiff, reduceCtorEq, Nat.add_zero, Nat.zero_add, ihx s lo hi _ f hx h1 hw.1 hF (by omega), ihy s lo hi _ f hy h1 hw.2.1 hF (by omega)]
      cases b with
      | false => rfl
      | true =>
        cases hqx : tr_right F x with
        | false => rfl
        | true =>
          cases hqy : tr_right F y with
          | false => rfl
          | true => rfl
    rw [dX6_isRight_eq]
    unfold dX6_isRight
    simp (disch := omega) only [ic_lit, ic_m1, ic_m2, ic_m3, am_ix_nI, am_ci_ok, am_cl_ok, am_cv_ok, am_ct_ok, am_dz_nI, nI_inj, nI_leI', nI_ltI', nI_lt0, nI_ge0, nI_eq0, nI_le0, nI_gt0, m2lt, m2ge, m2eq, eq_m2, nI_add, nI_subI, nI_mulI, b2_eq0, b2_eq1, b2_and1, band1, band0, if_true, if_false, ite_true, ite_false, cond_true, cond_false, ↓reduceIte, Nat.reduceAdd, Nat.reduceMul, Nat.reduceSub, Nat.reduceEqDiff, lN_lt', lN_le', lN_inj, lc_lt, lc_gt, lc_le, lc_ge, lc_eq, Nat.reduceLT, Nat.reduceLeDiff, reduceCtorEq, Nat.add_zero, Nat.zero_add, ek]
    simp only [jX6_isRight_67_33_eq, jX6_isRight_67_37_eq, jX6_isRight_62_48_eq, jX6_isRight_62_eq, jX6_isRight_67_66_eq, ic_lit, ← b2_t, ← b2_f, hfin]
    by_cases h0 : k = 0
    · subst h0
      have hv : v < 10 := by obtain ⟨-, -, h⟩ := hw; omega
      rw [if_pos rfl, ev, tr_vI_0, am_ix_nI hv (by omega), hF v hv]
      simp only [b2_eq0, tr_right, if_true]
      cases F v <;> rfl
    · rw [if_neg h0]
      by_cases h9 : k = 9
      · subst h9
        have hv : v < 10 := by obtain ⟨-, -, h⟩ := hw; omega
        rw [if_pos rfl, ev, tr_vI_9, am_ix_nI hv (by omega), hF v hv]
        simp only [b2_eq0, tr_right, if_true]
        cases F v <;> rfl
      · rw [if_neg h9]
        simp only [tr_right, if_neg h0, if_neg h9]
theorem mm_has (u : Tr) : ∀ (t : Tr) (s : mm_S) (lo hi lo' hi' : Nat) (i i' : Int32) (f : Nat), mr s lo hi t i → mr s lo' hi' u i' → hi ≤ 450 → hi' ≤ 450 → tr_wf t → tr_wf u → tr_sz t < 1000 → tr_sz u < 1000 → tr_dp t + 1 < f →
    mm_call N (f) 15 [.inl (.ref 0), .inl (.int (i)), .inl (.int (i'))] (s) = some (.inl (some (.inl (.int (nI (tr_has u t))))), s) := by
  intro t
  induction t with
  | leaf =>
    intro s lo hi lo' hi' i i' f ht hu h1 h2 _ _ _ _ hf
    obtain ⟨f, rfl⟩ : ∃ f', f = f' + 1 := ⟨f - 1, by omega⟩
    obtain rfl : i = -2 := ht
    rw [dX6_has_eq]
    unfold dX6_has
    simp (disch := omega) only [ic_lit, ic_m1, ic_m2, ic_m3, am_ix_nI, am_ci_ok, am_cl_ok, am_cv_ok, am_ct_ok, am_dz_nI, nI_inj, nI_leI', nI_ltI', nI_lt0, nI_ge0, nI_eq0, nI_le0, nI_gt0, m2lt, m2ge, m2eq, eq_m2, nI_add, nI_subI, nI_mulI, b2_eq0, b2_eq1, b2_and1, band1, band0, if_true, if_false, ite_true, ite_false, cond_true, cond_false, ↓reduceIte, Nat.reduceAdd, Nat.reduceMul, Nat.reduceSub, Nat.reduceEqDiff, lN_lt', lN_le', lN_inj, lc_lt, lc_gt, lc_le, lc_ge, lc_eq, Nat.reduceLT, Nat.reduceLeDiff, reduceCtorEq, Nat.add_zero, Nat.zero_add, tr_has]
  | inner n k v x y ihx ihy =>
    intro s lo hi lo' hi' i i' f ht hu h1 h2 hw hw' hz hz' hf
    obtain ⟨f, rfl⟩ : ∃ f', f = f' + 1 := ⟨f - 1, by omega⟩
    have hal := mm_areAlike N _ u s lo hi lo' hi' _ i' f ht hu h1 h2 hw hw' (by omega) (by omega) (by omega)
    obtain ⟨j, _, hj, rfl, ek, ev, es, ed, hx, hy⟩ := ht
    have hj9 : j < 450 := by omega
    simp only [tr_dp] at hf
    simp only [tr_sz] at hz
    rw [dX6_has_eq]
    unfold dX6_has
    simp (disch := omega) only [ic_lit, ic_m1, ic_m2, ic_m3, am_ix_nI, am_ci_ok, am_cl_ok, am_cv_ok, am_ct_ok, am_dz_nI, nI_inj, nI_leI', nI_ltI', nI_lt0, nI_ge0, nI_eq0, nI_le0, nI_gt0, m2lt, m2ge, m2eq, eq_m2, nI_add, nI_subI, nI_mulI, b2_eq0, b2_eq1, b2_and1, band1, band0, if_true, if_false, ite_true, ite_false, cond_true, cond_false, ↓reduceIte, Nat.reduceAdd, Nat.reduceMul, Nat.reduceSub, Nat.reduceEqDiff, lN_lt', lN_le', lN_inj, lc_lt, lc_gt, lc_le, lc_ge, lc_eq, Nat.reduceLT, Nat.reduceLeDiff, reduceCtorEq, Nat.add_zero, Nat.zero_add, hal, jX6_has_20_eq, jX6_has_20_19_eq, ihx s lo hi lo' hi' _ i' f hx hu h1 h2 hw.1 hw' (by omega) hz' (by omega), ihy s lo hi lo' hi' _ i' f hy hu h1 h2 hw.2.1 hw' (by omega) hz' (by omega), tr_has]
    cases tr_like (.inner n k v x y) u <;> simp
theorem mm_digits (v : Nat) (hv : v ≤ 9999) (f : Nat) (s : mm_S) : mm_call N (f + 1) 22 [.inl (.int (nI v))] (s) = some (.inl (some (.inl (.int (nI (dg v))))), s) := by
  rw [dX6_digits_eq]
  unfold dX6_digits dg
  simp (disch := omega) only [ic_lit, ic_m1, ic_m2, ic_m3, am_ix_nI, am_ci_ok, am_cl_ok, am_cv_ok, am_ct_ok, am_dz_nI, nI_inj, nI_leI', nI_ltI', nI_lt0, nI_ge0, nI_eq0, nI_le0, nI_gt0, m2lt, m2ge, m2eq, eq_m2, nI_add, nI_subI, nI_mulI, b2_eq0, b2_eq1, b2_and1, band1, band0, if_true, if_false, ite_true, ite_false, cond_true, cond_false, ↓reduceIte, Nat.reduceAdd, Nat.reduceMul, Nat.reduceSub, Nat.reduceEqDiff, lN_lt', lN_le', lN_inj, lc_lt, lc_gt, lc_le, lc_ge, lc_eq, Nat.reduceLT, Nat.reduceLeDiff, reduceCtorEq, Nat.add_zero, Nat.zero_add]
  by_cases h1 : v < 10
  · rw [if_neg (by omega), if_pos h1]
  · rw [if_pos (by omega), if_neg h1]
    by_cases h2 : v < 100
    · rw [if_neg (by omega), if_pos h2]
    · rw [if_pos (by omega), if_neg h2]
      by_cases h3 : v < 1000
      · rw [if_neg (by omega), if_pos h3]
      · rw [if_pos (by omega), if_neg h3]
theorem mm_own {n k v : Nat} {x y : Tr} {s : mm_S} {lo hi : Nat} {i : Int32} (ht : mr s lo hi (.inner n k v x y) i) (h1 : hi ≤ 450) (hw : tr_wf (.inner n k v x y)) (f : Nat) : mm_call N (f + 2) 21 [.inl (.ref 0), .inl (.int (i))] (s) = some (.inl (some (.inl (.int (nI (ownW k v))))), s) := by
  obtain ⟨j, _, hj, rfl, ek, ev, es, ed, hx, hy⟩ := ht
  have hj9 : j < 450 := by omega
  have hwv := tr_wf_v hw
  rw [dX6_own_eq]
  unfold dX6_own ownW
  simp (disch := omega) only [ic_lit, ic_m1, ic_m2, ic_m3, am_ix_nI, am_ci_ok, am_cl_ok, am_cv_ok, am_ct_ok, am_dz_nI, nI_inj, nI_leI', nI_ltI', nI_lt0, nI_ge0, nI_eq0, nI_le0, nI_gt0, m2lt, m2ge, m2eq, eq_m2, nI_add, nI_subI, nI_mulI, b2_eq0, b2_eq1, b2_and1, band1, band0, if_true, if_false, ite_true, ite_false, cond_true, cond_false, ↓reduceIte, Nat.reduceAdd, Nat.reduceMul, Nat.reduceSub, Nat.reduceEqDiff, lN_lt', lN_le', lN_inj, lc_lt, lc_gt, lc_le, lc_ge, lc_eq, Nat.reduceLT, Nat.reduceLeDiff, reduceCtorEq, Nat.add_zero, Nat.zero_add, ek]
  by_cases h1 : k = 1
  · subst h1
    rw [if_pos rfl, if_pos rfl, ev, tr_vI_1, mm_digits v hwv.2.1]
    rfl
  · rw [if_neg h1, if_neg h1]
    by_cases h8 : k = 8
    · rw [if_pos h8, if_pos (.inl h8)]
    · rw [if_neg h8]
      by_cases h9 : k = 9
      · rw [if_pos h9, if_pos (.inr h9)]
      · rw [if_neg h9, if_neg (by omega)]
theorem mm_length (K : Nat → Bool) (st : Nat) (hst : st < 8) : ∀ (t : Tr) (s : mm_S) (lo hi : Nat) (i : Int32) (f : Nat), mr s lo hi t i → hi ≤ 450 → tr_wf t → (∀ l, l < 10 → s.2.1 8 (10 * st + l) = b2 (K l)) → tr_dp t + 1 < f →
    mm_call N (f) 20 [.inl (.ref 0), .inl (.int (nI st)), .inl (.int (i))] (s) = some (.inl (some (.inl (.int (nI (wlen K t))))), s) := by
  intro t
  induction t with
  | leaf =>
    intro s lo hi i f ht h1 _ _ hf
    obtain ⟨f, rfl⟩ : ∃ f', f = f' + 1 := ⟨f - 1, by omega⟩
    obtain rfl : i = -2 := ht
    rw [dX6_length_eq]
    unfold dX6_length
    simp (disch := omega) only [ic_lit, ic_m1, ic_m2, ic_m3, am_ix_nI, am_ci_ok, am_cl_ok, am_cv_ok, am_ct_ok, am_dz_nI, nI_inj, nI_leI', nI_ltI', nI_lt0, nI_ge0, nI_eq0, nI_le0, nI_gt0, m2lt, m2ge, m2eq, eq_m2, nI_add, nI_subI, nI_mulI, b2_eq0, b2_eq1, b2_and1, band1, band0, if_true, if_false, ite_true, ite_false, cond_true, cond_false, ↓reduceIte, Nat.reduceAdd, Nat.reduceMul, Nat.reduceSub, Nat.reduceEqDiff, lN_lt', lN_le', lN_inj, lc_lt, lc_gt, lc_le, lc_ge, lc_eq, Nat.reduceLT, Nat.reduceLeDiff, reduceCtorEq, Nat.add_zero, Nat.zero_add, wlen]
  | inner n k v x y ihx ihy =>
    intro s lo hi i f ht h1 hw hK hf
    obtain ⟨f, rfl⟩ : ∃ f', f = f' + 3 := ⟨f - 3, by simp only [tr_dp] at hf; omega⟩
    have how := mm_own (N := N) ht h1 hw f
    obtain ⟨j, _, hj, rfl, ek, ev, es, ed, hx, hy⟩ := ht
    have hj9 : j < 450 := by omega
    have hwv := tr_wf_v hw
    simp only [tr_dp] at hf
    rw [dX6_length_eq]
    unfold dX6_length
    simp (disch := omega) only [ic_lit, ic_m1, ic_m2, ic_m3, am_ix_nI, am_ci_ok, am_cl_ok, am_cv_ok, am_ct_ok, am_dz_nI, nI_inj, nI_leI', nI_ltI', nI_lt0, nI_ge0, nI_eq0, nI_le0, nI_gt0, m2lt, m2ge, m2eq, eq_m2, nI_add, nI_subI, nI_mulI, b2_eq0, b2_eq1, b2_and1, band1, band0, if_true, if_false, ite_true, ite_false, cond_true, cond_false, ↓reduceIte, Nat.reduceAdd, Nat.reduceMul, Nat.reduceSub, Nat.reduceEqDiff, lN_lt', lN_le', lN_inj, lc_lt, lc_gt, lc_le, lc_ge, lc_eq, Nat.reduceLT, Nat.reduceLeDiff, reduceCtorEq, Nat.add_zero, Nat.zero_add, how, ek, hK k (by omega), jX6_length_35_eq, jX6_length_35_34_eq, ihx s lo hi _ (f + 2) hx h1 hw.1 hK (by omega), ihy s lo hi _ (f + 2) hy h1 hw.2.1 hK (by omega), wlen]
    cases K k <;> simp
theorem mm_glanced (K : Nat → Bool) (st : Nat) (hst : st < 8) : ∀ (t : Tr) (s : mm_S) (lo hi : Nat) (i : Int32) (f b : Nat) (bi : Int32), mr s lo hi t i → hi ≤ 450 → tr_wf t → (∀ l, l < 10 → s.2.1 8 (10 * st + l) = b2 (K l)) → bi = nI b - nI 1 → b ≤ 100 → tr_dp t + 1 < f →
    mm_call N (f) 66 [.inl (.ref 0), .inl (.int (nI st)), .inl (.int (i)), .inl (.int (bi))] (s) = some (.inl (some (.inl (.int (nI (glen K t b))))), s) := by
  intro t
  induction t with
  | leaf =>
    intro s lo hi i f b bi ht h1 _ _ _ _ hf
    obtain ⟨f, rfl⟩ : ∃ f', f = f' + 1 := ⟨f - 1, by omega⟩
    obtain rfl : i = -2 := ht
    rw [dX6_glanced_eq]
    unfold dX6_glanced
    simp (disch := omega) only [ic_lit, ic_m1, ic_m2, ic_m3, am_ix_nI, am_ci_ok, am_cl_ok, am_cv_ok, am_ct_ok, am_dz_nI, nI_inj, nI_leI', nI_ltI', nI_lt0, nI_ge0, nI_eq0, nI_le0, nI_gt0, m2lt, m2ge, m2eq, eq_m2, nI_add, nI_subI, nI_mulI, b2_eq0, b2_eq1, b2_and1, band1, band0, if_true, if_false, ite_true, ite_false, cond_true, cond_false, ↓reduceIte, Nat.reduceAdd, Nat.reduceMul, Nat.reduceSub, Nat.reduceEqDiff, lN_lt', lN_le', lN_inj, lc_lt, lc_gt, lc_le, lc_ge, lc_eq, Nat.reduceLT, Nat.reduceLeDiff, reduceCtorEq, Nat.add_zero, Nat.zero_add, glen]
  | inner n k v x y ihx ihy =>
    intro s lo hi i f b bi ht h1 hw hK hb hb9 hf
    obtain ⟨f, rfl⟩ : ∃ f', f = f' + 3 := ⟨f - 3, by simp only [tr_dp] at hf; omega⟩
    have how := mm_own (N := N) ht h1 hw f
    obtain ⟨j, _, hj, rfl, ek, ev, es, ed, hx, hy⟩ := ht
    have hj9 : j < 450 := by omega
    have hwv := tr_wf_v hw
    simp only [tr_dp] at hf
    rw [dX6_glanced_eq]
    unfold dX6_glanced
    cases b with
    | zero =>
      subst hb
      have : (0 : Int32) ≤ nI 0 - nI 1 ↔ False := by decide
      simp (disch := omega) only [ic_lit, ic_m1, ic_m2, ic_m3, am_ix_nI, am_ci_ok, am_cl_ok, am_cv_ok, am_ct_ok, am_dz_nI, nI_inj, nI_leI', nI_ltI', nI_lt0, nI_ge0, nI_eq0, nI_le0, nI_gt0, m2lt, m2ge, m2eq, eq_m2, nI_add, nI_subI, nI_mulI, b2_eq0, b2_eq1, b2_and1, band1, band0, if_true, if_false, ite_true, ite_false, cond_true, cond_false, ↓reduceIte, Nat.reduceAdd, Nat.reduceMul, Nat.reduceSub, Nat.reduceEqDiff, lN_lt', lN_le', lN_inj, lc_lt, lc_gt, lc_le, lc_ge, lc_eq, Nat.reduceLT, Nat.reduceLeDiff, reduceCtorEq, Nat.add_zero, Nat.zero_add, this, glen]
    | succ b =>
      obtain rfl : bi = nI b := by rw [hb]; exact nI_subI (by omega)
      simp (disch := omega) only [ic_lit, ic_m1, ic_m2, ic_m3, am_ix_nI, am_ci_ok, am_cl_ok, am_cv_ok, am_ct_ok, am_dz_nI, nI_inj, nI_leI', nI_ltI', nI_lt0, nI_ge0, nI_eq0, nI_le0, nI_gt0, m2lt, m2ge, m2eq, eq_m2, nI_add, nI_subI, nI_mulI, b2_eq0, b2_eq1, b2_and1, band1, band0, if_true, if_false, ite_true, ite_false, cond_true, cond_false, ↓reduceIte, Nat.reduceAdd, Nat.reduceMul, Nat.reduceSub, Nat.reduceEqDiff, lN_lt', lN_le', lN_inj, lc_lt, lc_gt, lc_le, lc_ge, lc_eq, Nat.reduceLT, Nat.reduceLeDiff, reduceCtorEq, Nat.add_zero, Nat.zero_add, how, ek, hK k (by omega), jX6_glanced_41_eq, jX6_glanced_41_40_eq, ihx s lo hi _ (f + 2) b (nI b - nI 1) hx h1 hw.1 hK rfl (by omega) (by omega), ihy s lo hi _ (f + 2) b (nI b - nI 1) hy h1 hw.2.1 hK rfl (by omega) (by omega), glen]
      cases K k <;> simp
theorem mm_keepable : ∀ (t : Tr) (s : mm_S) (lo hi : Nat) (i : Int32) (f : Nat), mr s lo hi t i → hi ≤ 450 → tr_wf t → tr_dp t + 1 < f →
    mm_call N (f) 57 [.inl (.ref 0), .inl (.int (i))] (s) = some (.inl (some (.inl (.int (nI (kc t))))), s) := by
  intro t
  induction t with
  | leaf =>
    intro s lo hi i f ht h1 _ hf
    obtain ⟨f, rfl⟩ : ∃ f', f = f' + 1 := ⟨f - 1, by omega⟩
    obtain rfl : i = -2 := ht
    rw [dX6_keepable_eq]
    unfold dX6_keepable
    simp (disch := omega) only [ic_lit, ic_m1, ic_m2, ic_m3, am_ix_nI, am_ci_ok, am_cl_ok, am_cv_ok, am_ct_ok, am_dz_nI, nI_inj, nI_leI', nI_ltI', nI_lt0, nI_ge0, nI_eq0, nI_le0, nI_gt0, m2lt, m2ge, m2eq, eq_m2, nI_add, nI_subI, nI_mulI, b2_eq0, b2_eq1, b2_and1, band1, band0, if_true, if_false, ite_true, ite_false, cond_true, cond_false, ↓reduceIte, Nat.reduceAdd, Nat.reduceMul, Nat.reduceSub, Nat.reduceEqDiff, lN_lt', lN_le', lN_inj, lc_lt, lc_gt, lc_le, lc_ge, lc_eq, Nat.reduceLT, Nat.reduceLeDiff, reduceCtorEq, Nat.add_zero, Nat.zero_add, kc]
  | inner n k v x y ihx ihy =>
    intro s lo hi i f ht h1 hw hf
    obtain ⟨f, rfl⟩ : ∃ f', f = f' + 2 := ⟨f - 2, by simp only [tr_dp] at hf; omega⟩
    obtain ⟨j, _, hj, rfl, ek, ev, es, ed, hx, hy⟩ := ht
    have hj9 : j < 450 := by omega
    have hwv := tr_wf_v hw
    simp only [tr_dp] at hf
    rw [dX6_keepable_eq]
    unfold dX6_keepable
    simp (disch := omega) only [ic_lit, ic_m1, ic_m2, ic_m3, am_ix_nI, am_ci_ok, am_cl_ok, am_cv_ok, am_ct_ok, am_dz_nI, nI_inj, nI_leI', nI_ltI', nI_lt0, nI_ge0, nI_eq0, nI_le0, nI_gt0, m2lt, m2ge, m2eq, eq_m2, nI_add, nI_subI, nI_mulI, b2_eq0, b2_eq1, b2_and1, band1, band0, if_true, if_false, ite_true, ite_false, cond_true, cond_false, ↓reduceIte, Nat.reduceAdd, Nat.reduceMul, Nat.reduceSub, Nat.reduceEqDiff, lN_lt', lN_le', lN_inj, lc_lt, lc_gt, lc_le, lc_ge, lc_eq, Nat.reduceLT, Nat.reduceLeDiff, reduceCtorEq, Nat.add_zero, Nat.zero_add, ek, mm_mayKeep k (by omega), jX6_keepable_25_eq, jX6_keepable_25_24_eq, ihx s lo hi _ (f + 1) hx h1 hw.1 (by omega), ihy s lo hi _ (f + 1) hy h1 hw.2.1 (by omega), kc]
    cases mk k <;> simp
/-- where a tree stands: below 0 if it is none -/
theorem mr_lf {s : mm_S} {lo hi : Nat} {t : Tr} {i : Int32} (h : mr s lo hi t i) (hh : hi ≤ 450) : (0 ≤ i) = (tr_lf t = false) := by
  cases t with
  | leaf =>
    obtain rfl : i = -2 := h
    rw [m2ge]
    simp [tr_lf]
  | inner n k v x y =>
    obtain ⟨j, _, hj, rfl, -⟩ := h
    rw [nI_ge0 (by omega)]
    simp [tr_lf]
theorem mm_diff_of {t u : Tr} {s : mm_S} {lo hi lo' hi' : Nat} {i i' : Int32} {f : Nat} (ht : mr s lo hi t i) (hu : mr s lo' hi' u i') (h1 : hi ≤ 450) (h2 : hi' ≤ 450) (ht0 : tr_lf t = false) (hu0 : tr_lf u = false) (hw : tr_wf t) (hw' : tr_wf u) (hz : tr_sz t < 1000) (hz' : tr_sz u < 1000)
    (hin : tr_k t = tr_k u → mm_call N (f) 69 [.inl (.ref 0), .inl (.int (i)), .inl (.int (i'))] (s) = some (.inl (some (.inl (.int (nI (tr_ins t u))))), s)) : mm_call N (f + 1) 68 [.inl (.ref 0), .inl (.int (i)), .inl (.int (i'))] (s) = some (.inl (some (.inl (.int (nI (tr_df t u))))), s) := by
  cases t with
  | leaf => cases ht0
  | inner n k v x y =>
    cases u with
    | leaf => cases hu0
    | inner n' k' v' x' y' =>
      obtain ⟨j, _, hj, rfl, ek, ev, es, ed, hx, hy⟩ := ht
      obtain ⟨j', _, hj', rfl, ek', ev', es', ed', hx', hy'⟩ := hu
      have hj9 : j < 450 := by omega
      have hj9' : j' < 450 := by omega
      have hwv := tr_wf_v hw
      have hwv' := tr_wf_v hw'
      have hdf : tr_df (.inner n k v x y) (.inner n' k' v' x' y') = if k = k' then min (tr_sz (.inner n k v x y) + tr_sz (.inner n' k' v' x' y')) (tr_ins (.inner n k v x y) (.inner n' k' v' x' y')) else tr_sz (.inner n k v x y) + tr_sz (.inner n' k' v' x' y') := rfl
      rw [dX6_difference_eq, hdf]
      unfold dX6_difference
      simp (disch := omega) only [ic_lit, ic_m1, ic_m2, ic_m3, am_ix_nI, am_ci_ok, am_cl_ok, am_cv_ok, am_ct_ok, am_dz_nI, nI_inj, nI_leI', nI_ltI', nI_lt0, nI_ge0, nI_eq0, nI_le0, nI_gt0, m2lt, m2ge, m2eq, eq_m2, nI_add, nI_subI, nI_mulI, b2_eq0, b2_eq1, b2_and1, band1, band0, if_true, if_false, ite_true, ite_false, cond_true, cond_false, ↓reduceIte, Nat.reduceAdd, Nat.reduceMul, Nat.reduceSub, Nat.reduceEqDiff, lN_lt', lN_le', lN_inj, lc_lt, lc_gt, lc_le, lc_ge, lc_eq, Nat.reduceLT, Nat.reduceLeDiff, reduceCtorEq, Nat.add_zero, Nat.zero_add, ek, ek', es, es']
      have hile := tr_ins_le (.inner n k v x y) (.inner n' k' v' x' y')
      by_cases hk : k = k'
      · rw [if_pos hk, if_pos hk, hin hk]
        simp (disch := omega) only [ic_lit, ic_m1, ic_m2, ic_m3, am_ix_nI, am_ci_ok, am_cl_ok, am_cv_ok, am_ct_ok, am_dz_nI, nI_inj, nI_leI', nI_ltI', nI_lt0, nI_ge0, nI_eq0, nI_le0, nI_gt0, m2lt, m2ge, m2eq, eq_m2, nI_add, nI_subI, nI_mulI, b2_eq0, b2_eq1, b2_and1, band1, band0, if_true, if_false, ite_true, ite_false, cond_true, cond_false, ↓reduceIte, Nat.reduceAdd, Nat.reduceMul, Nat.reduceSub, Nat.reduceEqDiff, lN_lt', lN_le', lN_inj, lc_lt, lc_gt, lc_le, lc_ge, lc_eq, Nat.reduceLT, Nat.reduceLeDiff, reduceCtorEq, Nat.add_zero, Nat.zero_add, jX6_difference_39_eq, jX6_difference_39_38_eq]
        by_cases hc : tr_sz (.inner n k v x y) + tr_sz (.inner n' k' v' x' y') ≤ tr_ins (.inner n k v x y) (.inner n' k' v' x' y')
        · rw [if_pos hc, Nat.min_eq_left hc]
        · rw [if_neg hc, Nat.min_eq_right (by omega)]
      · rw [if_neg hk, if_neg hk, jX6_difference_39_eq, if_pos (Int32.le_refl _)]
theorem mm_inside : ∀ (t u : Tr) (s : mm_S) (lo hi lo' hi' : Nat) (i i' : Int32) (f : Nat), mr s lo hi t i → mr s lo' hi' u i' → hi ≤ 450 → hi' ≤ 450 → tr_lf t = false → tr_lf u = false → tr_wf t → tr_wf u → tr_sz t < 1000 → tr_sz u < 1000 → 2 * tr_dp t < f → tr_k t = tr_k u →
    mm_call N (f) 69 [.inl (.ref 0), .inl (.int (i)), .inl (.int (i'))] (s) = some (.inl (some (.inl (.int (nI (tr_ins t u))))), s) := by
  intro t
  induction t with
  | leaf => intro u s lo hi lo' hi' i i' f _ _ _ _ h; cases h
  | inner n k v x y ihx ihy =>
    intro u s lo hi lo' hi' i i' f ht hu h1 h2 _ hu0 hw hw' hz hz' hf hk
    cases u with
    | leaf => cases hu0
    | inner n' k' v' x' y' =>
      simp only [tr_ki] at hk
      subst hk
      obtain ⟨f, rfl⟩ : ∃ f', f = f' + 2 := ⟨f - 2, by simp only [tr_dp] at hf; omega⟩
      obtain ⟨j, _, hj, rfl, ek, ev, es, ed, hx, hy⟩ := ht
      obtain ⟨j', _, hj', rfl, ek', ev', es', ed', hx', hy'⟩ := hu
      have hj9 : j < 450 := by omega
      have hj9' : j' < 450 := by omega
      have hwv := tr_wf_v hw
      have hwv' := tr_wf_v hw'
      have hlf := tr_wf_lf hw hw'
      simp only [tr_dp] at hf
      simp only [tr_sz] at hz hz'
      have hX : tr_lf x = false → mm_call N (f + 1) 68 [.inl (.ref 0), .inl (.int (s.2.1 3 j)), .inl (.int (s.2.1 3 j'))] (s) = some (.inl (some (.inl (.int (nI (tr_df x x'))))), s) := fun q =>
        mm_diff_of hx hx' h1 h2 q (hlf.1.trans q) hw.1 hw'.1 (by omega) (by omega) fun hk => ihx x' s lo hi lo' hi' _ _ f hx hx' h1 h2 q (hlf.1.trans q) hw.1 hw'.1 (by omega) (by omega) (by omega) hk
      have hY : tr_lf y = false → mm_call N (f + 1) 68 [.inl (.ref 0), .inl (.int (s.2.1 4 j)), .inl (.int (s.2.1 4 j'))] (s) = some (.inl (some (.inl (.int (nI (tr_df y y'))))), s) := fun q =>
        mm_diff_of hy hy' h1 h2 q (hlf.2.trans q) hw.2.1 hw'.2.1 (by omega) (by omega) fun hk => ihy y' s lo hi lo' hi' _ _ f hy hy' h1 h2 q (hlf.2.trans q) hw.2.1 hw'.2.1 (by omega) (by omega) (by omega) hk
      have hte : tr_ins (.inner n k v x y) (.inner n' k v' x' y') = (if v = v' then 0 else 1) + (if tr_lf x then 0 else tr_df x x') + (if tr_lf y then 0 else tr_df y y') := rfl
      rw [dX6_inside_eq, hte]
      unfold dX6_inside
      simp (disch := omega) only [ic_lit, ic_m1, ic_m2, ic_m3, am_ix_nI, am_ci_ok, am_cl_ok, am_cv_ok, am_ct_ok, am_dz_nI, nI_inj, nI_leI', nI_ltI', nI_lt0, nI_ge0, nI_eq0, nI_le0, nI_gt0, m2lt, m2ge, m2eq, eq_m2, nI_add, nI_subI, nI_mulI, b2_eq0, b2_eq1, b2_and1, band1, band0, if_true, if_false, ite_true, ite_false, cond_true, cond_false, ↓reduceIte, Nat.reduceAdd, Nat.reduceMul, Nat.reduceSub, Nat.reduceEqDiff, lN_lt', lN_le', lN_inj, lc_lt, lc_gt, lc_le, lc_ge, lc_eq, Nat.reduceLT, Nat.reduceLeDiff, reduceCtorEq, Nat.add_zero, Nat.zero_add, ev, ev', tr_vI_eq hwv.2.1 hwv'.2.1 hwv.2.2 hwv'.2.2, jX6_inside_20_eq, jX6_inside_20_19_eq, jX6_inside_51_eq, jX6_inside_51_35_eq, mr_lf hx h1, mr_lf hy h1]
      cases qx : tr_lf x <;> cases qy : tr_lf y <;> by_cases hv : v = v' <;>
        (try have hX := hX qx) <;> (try have hY := hY qy) <;> simp (disch := omega) only [ic_lit, ic_m1, ic_m2, ic_m3, am_ix_nI, am_ci_ok, am_cl_ok, am_cv_ok, am_ct_ok, am_dz_nI, nI_inj, nI_leI', nI_ltI', nI_lt0, nI_ge0, nI_eq0, nI_le0, nI_gt0, m2lt, m2ge, m2eq, eq_m2, nI_add, nI_subI, nI_mulI, b2_eq0, b2_eq1, b2_and1, band1, band0, if_true, if_false, ite_true, ite_false, cond_true, cond_false, ↓reduceIte, Nat.reduceAdd, Nat.reduceMul, Nat.reduceSub, Nat.reduceEqDiff, lN_lt', lN_le', lN_inj, lc_lt, lc_gt, lc_le, lc_ge, lc_eq, Nat.reduceLT, Nat.reduceLeDiff, reduceCtorEq, Nat.add_zero, Nat.zero_add, hX, hY, hv, qx, qy, mr_lf hx h1, mr_lf hy h1, jX6_inside_51_eq, jX6_inside_51_35_eq, Bool.true_eq_false, Bool.false_eq_true]
theorem mm_difference (t u : Tr) (s : mm_S) (lo hi lo' hi' : Nat) (i i' : Int32) (f : Nat) (ht : mr s lo hi t i) (hu : mr s lo' hi' u i') (h1 : hi ≤ 450) (h2 : hi' ≤ 450) (ht0 : tr_lf t = false) (hu0 : tr_lf u = false) (hw : tr_wf t) (hw' : tr_wf u) (hz : tr_sz t < 1000) (hz' : tr_sz u < 1000) (hf : 2 * tr_dp t < f) :
    mm_call N (f + 1) 68 [.inl (.ref 0), .inl (.int (i)), .inl (.int (i'))] (s) = some (.inl (some (.inl (.int (nI (tr_df t u))))), s) :=
  mm_diff_of ht hu h1 h2 ht0 hu0 hw hw' hz hz' fun hk => mm_inside t u s lo hi lo' hi' i i' f ht hu h1 h2 ht0 hu0 hw hw' hz hz' hf hk
theorem mm_wholes : ∀ (t u : Tr) (s : mm_S) (lo hi lo' hi' : Nat) (i i' : Int32) (f : Nat), mr s lo hi t i → mr s lo' hi' u i' → hi ≤ 450 → hi' ≤ 450 → tr_lf t = false → tr_lf u = false → tr_wf t → tr_wf u → tr_sz t < 1000 → tr_sz u < 1000 → 2 * tr_dp t + 1 < f →
    mm_call N (f) 71 [.inl (.ref 0), .inl (.int (i)), .inl (.int (i'))] (s) = some (.inl (some (.inl (.int (nI (tr_wh t u))))), s) := by
  intro t
  induction t with
  | leaf => intro u s lo hi lo' hi' i i' f _ _ _ _ h; cases h
  | inner n k v x y ihx ihy =>
    intro u s lo hi lo' hi' i i' f ht hu h1 h2 ht0 hu0 hw hw' hz hz' hf
    obtain ⟨f, rfl⟩ : ∃ f', f = f' + 1 := ⟨f - 1, by omega⟩
    have hin := mm_inside (N := N) _ u s lo hi lo' hi' _ i' f ht hu h1 h2 ht0 hu0 hw hw' hz hz' (by omega)
    have hile := tr_ins_le (.inner n k v x y) u
    cases u with
    | leaf => cases hu0
    | inner n' k' v' x' y' =>
      obtain ⟨j, _, hj, rfl, ek, ev, es, ed, hx, hy⟩ := ht
      obtain ⟨j', _, hj', rfl, ek', ev', es', ed', hx', hy'⟩ := hu
      have hj9 : j < 450 := by omega
      have hj9' : j' < 450 := by omega
      have hwv := tr_wf_v hw
      have hwv' := tr_wf_v hw'
      have hte : tr_wh (.inner n k v x y) (.inner n' k' v' x' y') = if k = k' ∧ tr_ins (.inner n k v x y) (.inner n' k' v' x' y') ≤ tr_sz (.inner n k v x y) + tr_sz (.inner n' k' v' x' y') then (if tr_lf x then 0 else tr_wh x x') + (if tr_lf y then 0 else tr_wh y y') else 1 := rfl
      rw [dX6_wholes_eq, hte]
      unfold dX6_wholes
      simp (disch := omega) only [ic_lit, ic_m1, ic_m2, ic_m3, am_ix_nI, am_ci_ok, am_cl_ok, am_cv_ok, am_ct_ok, am_dz_nI, nI_inj, nI_leI', nI_ltI', nI_lt0, nI_ge0, nI_eq0, nI_le0, nI_gt0, m2lt, m2ge, m2eq, eq_m2, nI_add, nI_subI, nI_mulI, b2_eq0, b2_eq1, b2_and1, band1, band0, if_true, if_false, ite_true, ite_false, cond_true, cond_false, ↓reduceIte, Nat.reduceAdd, Nat.reduceMul, Nat.reduceSub, Nat.reduceEqDiff, lN_lt', lN_le', lN_inj, lc_lt, lc_gt, lc_le, lc_ge, lc_eq, Nat.reduceLT, Nat.reduceLeDiff, reduceCtorEq, Nat.add_zero, Nat.zero_add, ek, ek']
      by_cases hk : k = k'
      · subst hk
        have hlf := tr_wf_lf hw hw'
        simp only [tr_dp] at hf
        have hX : tr_lf x = false → mm_call N (f) 71 [.inl (.ref 0), .inl (.int (s.2.1 3 j)), .inl (.int (s.2.1 3 j'))] (s) = some (.inl (some (.inl (.int (nI (tr_wh x x'))))), s) := fun q =>
          ihx x' s lo hi lo' hi' _ _ f hx hx' h1 h2 q (hlf.1.trans q) hw.1 hw'.1 (by simp only [tr_sz] at hz; omega) (by simp only [tr_sz] at hz'; omega) (by omega)
        have hY : tr_lf y = false → mm_call N (f) 71 [.inl (.ref 0), .inl (.int (s.2.1 4 j)), .inl (.int (s.2.1 4 j'))] (s) = some (.inl (some (.inl (.int (nI (tr_wh y y'))))), s) := fun q =>
          ihy y' s lo hi lo' hi' _ _ f hy hy' h1 h2 q (hlf.2.trans q) hw.2.1 hw'.2.1 (by simp only [tr_sz] at hz; omega) (by simp only [tr_sz] at hz'; omega) (by omega)
        rw [if_pos rfl, hin rfl]
        simp (disch := omega) only [ic_lit, ic_m1, ic_m2, ic_m3, am_ix_nI, am_ci_ok, am_cl_ok, am_cv_ok, am_ct_ok, am_dz_nI, nI_inj, nI_leI', nI_ltI', nI_lt0, nI_ge0, nI_eq0, nI_le0, nI_gt0, m2lt, m2ge, m2eq, eq_m2, nI_add, nI_subI, nI_mulI, b2_eq0, b2_eq1, b2_and1, band1, band0, if_true, if_false, ite_true, ite_false, cond_true, cond_false, ↓reduceIte, Nat.reduceAdd, Nat.reduceMul, Nat.reduceSub, Nat.reduceEqDiff, lN_lt', lN_le', lN_inj, lc_lt, lc_gt, lc_le, lc_ge, lc_eq, Nat.reduceLT, Nat.reduceLeDiff, reduceCtorEq, Nat.add_zero, Nat.zero_add, es, es', jX6_wholes_68_eq, jX6_wholes_68_52_eq, mr_lf hx h1, mr_lf hy h1]
        rw [if_pos hile, if_pos (And.intro trivial hile)]
        cases qx : tr_lf x <;> cases qy : tr_lf y <;>
          (try have hX := hX qx) <;> (try have hY := hY qy) <;> simp (disch := omega) only [ic_lit, ic_m1, ic_m2, ic_m3, am_ix_nI, am_ci_ok, am_cl_ok, am_cv_ok, am_ct_ok, am_dz_nI, nI_inj, nI_leI', nI_ltI', nI_lt0, nI_ge0, nI_eq0, nI_le0, nI_gt0, m2lt, m2ge, m2eq, eq_m2, nI_add, nI_subI, nI_mulI, b2_eq0, b2_eq1, b2_and1, band1, band0, if_true, if_false, ite_true, ite_false, cond_true, cond_false, ↓reduceIte, Nat.reduceAdd, Nat.reduceMul, Nat.reduceSub, Nat.reduceEqDiff, lN_lt', lN_le', lN_inj, lc_lt, lc_gt, lc_le, lc_ge, lc_eq, Nat.reduceLT, Nat.reduceLeDiff, reduceCtorEq, Nat.add_zero, Nat.zero_add, hX, hY, qx, qy, mr_lf hx h1, mr_lf hy h1, jX6_wholes_68_eq, jX6_wholes_68_52_eq, Bool.true_eq_false, Bool.false_eq_true]
      · rw [if_neg hk, if_neg (fun q => hk q.1)]
end
