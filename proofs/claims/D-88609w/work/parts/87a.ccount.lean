set_option maxRecDepth 100000
/-! THE COMPONENT COUNTS READINGS. -/
theorem cP_nil {V : EV} {C : Nat → Nat → Nat} {k i j : Nat} (h : j ≤ i) : cP V C k i j = 0 := by
  have hn : isNum V.1 i j = false := by
    unfold isNum
    rw [decide_eq_false (by omega)]
    rfl
  unfold cP
  rw [hn, show j - i = 0 by omega]
  by_cases k0 : k = 0
  · rw [if_pos k0, if_neg (by omega)]
  · rw [if_neg k0]
    by_cases k1 : k = 1
    · rw [if_pos k1]
      rfl
    · rw [if_neg k1]
      by_cases k6 : k ≤ 6
      · rw [if_pos k6]
        rfl
      · rw [if_neg k6]
        by_cases k7 : k = 7
        · rw [if_pos k7, if_neg (by omega)]
        · rw [if_neg k7]
          by_cases k8 : k = 8
          · rw [if_pos k8, if_neg (by omega)]
          · rw [if_neg k8, if_neg (by omega)]
theorem cP_lt (V : EV) {k i j : Nat} (hk : k ≤ 9) (h : j - i ≤ 20) : cP V (ct V) k i j ≤ 20000000 := by
  by_cases e : i < j
  · have hq := cQ_le (V := V) (C := ct V) (i := i) (j := j) (n := j - i) (fun a b h1 h2 h3 => ct_le V (b - a) a b (Nat.le_refl _) (by omega)) rfl (by omega) h
    have hle : cP V (ct V) k i j ≤ cQ V (ct V) i j := by
      unfold cQ
      rw [sm_10]
      obtain rfl | rfl | rfl | rfl | rfl | rfl | rfl | rfl | rfl | rfl : k = 0 ∨ k = 1 ∨ k = 2 ∨ k = 3 ∨ k = 4 ∨ k = 5 ∨ k = 6 ∨ k = 7 ∨ k = 8 ∨ k = 9 := by omega
      all_goals omega
    have hm : (if V.1 i = 29 then 0 else if j - i = 1 then 1 else mz (j - i - 1)) + cvl (j - i) ≤ mz (j - i) := by
      by_cases e1 : j - i = 1
      · rw [e1, mz_1]
        have : cvl 1 = 0 := by decide +kernel
        rw [this]
        split <;> simp
      · have := mz_cvl (n := j - i) (by omega) h
        rw [if_neg e1]
        split <;> omega
    have := mz_top (j - i) h
    omega
  · rw [cP_nil (by omega)]
    omega
theorem tm_le (V : EV) {C : Nat → Nat → Nat} {k i j w : Nat} (h2 : 2 ≤ k) (h6 : k ≤ 6) : tm V C k i j w ≤ cP V C k i j := by
  by_cases e : 1 ≤ w ∧ w + 2 ≤ j - i
  · rw [cP_two h2 h6]
    obtain ⟨a, rfl⟩ : ∃ a, w = 1 + a := ⟨w - 1, by omega⟩
    rw [sm_split (f := tm V C k i j) (a := 1) (n := j - i) a (by omega)]
    omega
  · have : tm V C k i j w = 0 := by
      unfold tm
      rw [if_neg (by omega)]
    omega
/-- the ear, the letters, the style, as the component has them -/
def cE (σ : cs_S) (V : EV) (h : Nat) : Prop := h ≤ 20 ∧ cs_i σ 9 = nI h ∧ (∀ j, j < h → V.1 j ≤ 30 ∧ cs_a σ 108 j = nI (V.1 j)) ∧ (∃ m, m < 1024 ∧ cs_i σ 1 = nI m ∧ ∀ l, l < 10 → m.testBit l = V.2.1 l) ∧
  (∃ st, st ≤ 8 ∧ cs_i σ 11 = nI st ∧ (st < 8 → ∃ m, m < 1024 ∧ cs_a σ 102 st = nI m ∧ ∀ k, k < 10 → mk k = true → ∀ b, V.2.2 k b = (m.testBit k == b)) ∧ (st = 8 → ∀ k b, k < 10 → mk k = true → V.2.2 k b = true)) ∧ ∀ k b, k < 10 → mk k = false → V.2.2 k b = !b
/-- spans narrower than W are counted -/
def cT (σ : cs_S) (V : EV) (h W : Nat) : Prop := ∀ i j, i < j → j ≤ h → j - i < W → cs_l σ i j = lN (ct V i j)
section
variable {N : Nat} {V : EV} {h : Nat} {σ : cs_S}
theorem cs_times {f a b : Nat} (ha : a ≤ 100000000) (hb : b ≤ 100000000) (hab : a * b ≤ 1000000000000000) (s : cs_S) : cs_call N (f + 1) 37 [.inl (.long (lN a)), .inl (.long (lN b))] (s) = some (.inl (some (.inl (.long (lN (a * b))))), s) := by
  rw [dX1_times_2_eq]
  unfold dX1_times_2
  simp (disch := omega) only [ic_lit, ic_m1, ic_m2, ic_m3, am_ix_nI, am_ci_ok, am_cl_ok, am_cv_ok, am_ct_ok, am_dz_nI, nI_inj, nI_leI', nI_ltI', nI_lt0, nI_ge0, nI_eq0, nI_le0, nI_gt0, m2lt, m2ge, m2eq, eq_m2, nI_add, nI_subI, nI_mulI, b2_eq0, b2_eq1, b2_and1, band1, band0, if_true, if_false, ite_true, ite_false, cond_true, cond_false, ↓reduceIte, Nat.reduceAdd, Nat.reduceMul, Nat.reduceSub, Nat.reduceEqDiff, lN_lt', lN_le', lN_inj, lc_lt, lc_gt, lc_le, lc_ge, lc_eq, Nat.reduceLT, Nat.reduceLeDiff, reduceCtorEq, Nat.add_zero, Nat.zero_add]
  by_cases h1 : a = 0
  · subst h1
    rw [if_pos rfl, Nat.zero_mul]
  · rw [if_neg h1]
    by_cases h2 : b = 0
    · subst h2
      rw [if_pos rfl, Nat.mul_zero]
    · rw [if_neg h2]
      rw [am_dzl_lN ⟨by omega, by omega⟩, MOST_lN, pk_lDiv (by omega) (by omega) (by omega), if_pos ((pk_lLE (by omega) (Nat.lt_of_le_of_lt (Nat.div_le_self _ _) (by omega))).mpr ((Nat.le_div_iff_mul_le (by omega)).mpr hab)), lN_mul]
theorem cs_isLetter {f i : Nat} {b : Bool} (hE : cE σ V h) (hi : i < h) : cs_call N (f + 1) 35 [.inl (.ref 0), .inl (.int (nI i)), .inl (.int (b2 b))] (σ) = some (.inl (some (.inl (.int (b2 (decide (V.1 i < 10) && (V.2.1 (V.1 i) == b)))))), σ) := by
  obtain ⟨h20, h9, he, ⟨m, hm, h1, hl⟩, -, -⟩ := hE
  obtain ⟨hv, he⟩ := he i hi
  rw [dX1_isLetter_eq]
  unfold dX1_isLetter
  simp (disch := omega) only [ic_lit, ic_m1, ic_m2, ic_m3, am_ix_nI, am_ci_ok, am_cl_ok, am_cv_ok, am_ct_ok, am_dz_nI, nI_inj, nI_leI', nI_ltI', nI_lt0, nI_ge0, nI_eq0, nI_le0, nI_gt0, m2lt, m2ge, m2eq, eq_m2, nI_add, nI_subI, nI_mulI, b2_eq0, b2_eq1, b2_and1, band1, band0, if_true, if_false, ite_true, ite_false, cond_true, cond_false, ↓reduceIte, Nat.reduceAdd, Nat.reduceMul, Nat.reduceSub, Nat.reduceEqDiff, lN_lt', lN_le', lN_inj, lc_lt, lc_gt, lc_le, lc_ge, lc_eq, Nat.reduceLT, Nat.reduceLeDiff, reduceCtorEq, Nat.add_zero, Nat.zero_add, he]
  by_cases h10 : 10 ≤ V.1 i
  · rw [if_pos h10, decide_eq_false (by omega)]
    rfl
  · rw [if_neg h10, decide_eq_true (by omega), h1, bit_nI (by omega) (by omega), hl _ (by omega), jX1_isLetter_33_32_eq]
    simp only [jX1_isLetter_33_eq]
    cases b <;> cases V.2.1 (V.1 i) <;> rfl
theorem cs_mayBe {f k : Nat} {b : Bool} (hE : cE σ V h) (hk : k < 10) : cs_call N (f + 3) 33 [.inl (.ref 0), .inl (.int (nI k)), .inl (.int (b2 b))] (σ) = some (.inl (some (.inl (.int (b2 (V.2.2 k b))))), σ) := by
  obtain ⟨-, -, -, -, ⟨st, hst, h11, hlt, h8⟩, hno⟩ := hE
  rw [dX1_mayBe_eq]
  unfold dX1_mayBe
  simp (disch := omega) only [ic_lit, ic_m1, ic_m2, ic_m3, am_ix_nI, am_ci_ok, am_cl_ok, am_cv_ok, am_ct_ok, am_dz_nI, nI_inj, nI_leI', nI_ltI', nI_lt0, nI_ge0, nI_eq0, nI_le0, nI_gt0, m2lt, m2ge, m2eq, eq_m2, nI_add, nI_subI, nI_mulI, b2_eq0, b2_eq1, b2_and1, band1, band0, if_true, if_false, ite_true, ite_false, cond_true, cond_false, ↓reduceIte, Nat.reduceAdd, Nat.reduceMul, Nat.reduceSub, Nat.reduceEqDiff, lN_lt', lN_le', lN_inj, lc_lt, lc_gt, lc_le, lc_ge, lc_eq, Nat.reduceLT, Nat.reduceLeDiff, reduceCtorEq, Nat.add_zero, Nat.zero_add, cs_isKeeper, mkI_nI]
  cases qk : mk k with
  | false =>
    rw [hno k b hk qk]
    cases b <;> rfl
  | true =>
    rw [if_neg (by decide), h11]
    by_cases e8 : st = 8
    · subst e8
      rw [if_pos rfl, h8 rfl k b hk qk]
    · rw [if_neg (fun q => e8 ((nI_eq (by omega) (by omega)).mp q)), am_ix_nI (by omega) (by omega)]
      obtain ⟨m, hm, h102, hb⟩ := hlt (by omega)
      rw [h102, bit_nI (by omega) (by omega), hb k hk qk b, jX1_mayBe_48_47_eq]
      simp only [jX1_mayBe_48_eq]
      cases b <;> cases m.testBit k <;> rfl
/-- a number's value, or -1 -/
theorem cs_numLoop {f i : Nat} (hE : cE σ V h) (j : Nat) (hij : i ≤ j) (hj : j ≤ h) : ∀ (q c n : Nat) (v : Nat), i ≤ c → c + q = j → q < n →
    jX1_numberOf_5 (am_bk (cs_hop 1 (cs_call N f)) am_no (some .int) kX1_numberOf n) (cs_call N f) σ (nI i) (nI j) (nI v) (nI c) = some (.inl (some (.inl (.int (if (List.range q).all (fun t => decide (10 ≤ V.1 (c + t)) && decide (V.1 (c + t) ≤ 19)) && (decide (j ≤ i + 4) && (decide (V.1 i ≠ 10) || decide (j ≤ i + 1))) then nI (numV V.1 c q v) else -1)))), σ) := by
  have hE' := hE
  obtain ⟨h20, h9, he, -, -, -⟩ := hE
  intro q
  induction q with
  | zero =>
    intro c n v hc hq hn
    obtain rfl : c = j := by omega
    rw [jX1_numberOf_5_eq]
    simp (disch := omega) only [ic_lit, ic_m1, ic_m2, ic_m3, am_ix_nI, am_ci_ok, am_cl_ok, am_cv_ok, am_ct_ok, am_dz_nI, nI_inj, nI_leI', nI_ltI', nI_lt0, nI_ge0, nI_eq0, nI_le0, nI_gt0, m2lt, m2ge, m2eq, eq_m2, nI_add, nI_subI, nI_mulI, b2_eq0, b2_eq1, b2_and1, band1, band0, if_true, if_false, ite_true, ite_false, cond_true, cond_false, ↓reduceIte, Nat.reduceAdd, Nat.reduceMul, Nat.reduceSub, Nat.reduceEqDiff, lN_lt', lN_le', lN_inj, lc_lt, lc_gt, lc_le, lc_ge, lc_eq, Nat.reduceLT, Nat.reduceLeDiff, reduceCtorEq, Nat.add_zero, Nat.zero_add, Nat.le_refl]
    simp only [List.range_zero, List.all_nil, Bool.true_and, numV]
    by_cases h4 : 4 < c - i
    · rw [if_pos h4, decide_eq_false (by omega)]
      rfl
    · rw [if_neg h4, decide_eq_true (by omega)]
      by_cases h1 : c - i ≤ 1
      · rw [if_pos h1, decide_eq_true (show c ≤ i + 1 by omega)]
        simp
      · rw [if_neg h1, decide_eq_false (show ¬ c ≤ i + 1 by omega)]
        obtain ⟨hv1, he1⟩ := he i (by omega)
        simp (disch := omega) only [ic_lit, ic_m1, ic_m2, ic_m3, am_ix_nI, am_ci_ok, am_cl_ok, am_cv_ok, am_ct_ok, am_dz_nI, nI_inj, nI_leI', nI_ltI', nI_lt0, nI_ge0, nI_eq0, nI_le0, nI_gt0, m2lt, m2ge, m2eq, eq_m2, nI_add, nI_subI, nI_mulI, b2_eq0, b2_eq1, b2_and1, band1, band0, if_true, if_false, ite_true, ite_false, cond_true, cond_false, ↓reduceIte, Nat.reduceAdd, Nat.reduceMul, Nat.reduceSub, Nat.reduceEqDiff, lN_lt', lN_le', lN_inj, lc_lt, lc_gt, lc_le, lc_ge, lc_eq, Nat.reduceLT, Nat.reduceLeDiff, reduceCtorEq, Nat.add_zero, Nat.zero_add, he1]
        by_cases h10 : V.1 i = 10
        · rw [if_pos h10]
          simp [h10]
        · rw [if_neg h10]
          simp [h10]
  | succ q ih =>
    intro c n v hc hq hn
    obtain ⟨n, rfl⟩ : ∃ n', n = n' + 1 := ⟨n - 1, by omega⟩
    obtain ⟨hv1, he1⟩ := he c (by omega)
    rw [jX1_numberOf_5_eq]
    simp (disch := omega) only [ic_lit, ic_m1, ic_m2, ic_m3, am_ix_nI, am_ci_ok, am_cl_ok, am_cv_ok, am_ct_ok, am_dz_nI, nI_inj, nI_leI', nI_ltI', nI_lt0, nI_ge0, nI_eq0, nI_le0, nI_gt0, m2lt, m2ge, m2eq, eq_m2, nI_add, nI_subI, nI_mulI, b2_eq0, b2_eq1, b2_and1, band1, band0, if_true, if_false, ite_true, ite_false, cond_true, cond_false, ↓reduceIte, Nat.reduceAdd, Nat.reduceMul, Nat.reduceSub, Nat.reduceEqDiff, lN_lt', lN_le', lN_inj, lc_lt, lc_gt, lc_le, lc_ge, lc_eq, Nat.reduceLT, Nat.reduceLeDiff, reduceCtorEq, Nat.add_zero, Nat.zero_add, he1]
    rw [if_neg (by omega)]
    have hall : (List.range (q + 1)).all (fun t => decide (10 ≤ V.1 (c + t)) && decide (V.1 (c + t) ≤ 19)) = ((decide (10 ≤ V.1 c) && decide (V.1 c ≤ 19)) && (List.range q).all (fun t => decide (10 ≤ V.1 (c + 1 + t)) && decide (V.1 (c + 1 + t) ≤ 19))) := by
      rw [List.range_succ_eq_map, List.all_cons, List.all_map]
      simp only [Nat.add_zero, Function.comp_def, Nat.succ_eq_add_one]
      congr 2
      funext t
      rw [show c + (t + 1) = c + 1 + t by omega]
    rw [hall]
    by_cases h1 : V.1 c < 10
    · rw [if_pos h1, decide_eq_false (show ¬ 10 ≤ V.1 c by omega)]
      rfl
    · rw [if_neg h1]
      by_cases h2 : V.1 c ≤ 19
      · rw [if_pos h2, jX1_numberOf_5_bk, show numV V.1 c (q + 1) v = numV V.1 (c + 1) q (10 * v + V.1 c - 10) from rfl]
        have := ih (c + 1) n (10 * v + V.1 c - 10) (by omega) (by omega) (by omega)
        rw [this, decide_eq_true (show 10 ≤ V.1 c by omega), decide_eq_true h2]
        rfl
      · rw [if_neg h2, decide_eq_false h2]
        simp
theorem cs_numberOf {f i j : Nat} (hE : cE σ V h) (hij : i ≤ j) (hj : j ≤ h) (hN : 30 ≤ N) : cs_call N (f + 1) 36 [.inl (.ref 0), .inl (.int (nI i)), .inl (.int (nI j))] (σ) = some (.inl (some (.inl (.int (if isNum V.1 i j ∨ i = j then nI (numV V.1 i (j - i) 0) else -1)))), σ) := by
  have h20 := hE.1
  rw [dX1_numberOf_eq]
  unfold dX1_numberOf
  rw [ic_lit, cs_numLoop hE j hij hj (j - i) i N 0 (Nat.le_refl _) (by omega) (by omega)]
  have : ((List.range (j - i)).all (fun t => decide (10 ≤ V.1 (i + t)) && decide (V.1 (i + t) ≤ 19)) && (decide (j ≤ i + 4) && (decide (V.1 i ≠ 10) || decide (j ≤ i + 1)))) = true ↔ (isNum V.1 i j = true ∨ i = j) := by
    unfold isNum
    simp only [Bool.and_eq_true, Bool.or_eq_true, decide_eq_true_eq]
    constructor
    · rintro ⟨h1, h2, h3⟩
      by_cases e : i = j
      · exact .inr e
      · exact .inl ⟨⟨⟨by omega, h2⟩, by omega⟩, h1⟩
    · rintro (⟨⟨⟨h1, h2⟩, h3⟩, h4⟩ | rfl)
      · exact ⟨h4, h2, by omega⟩
      · refine ⟨by rw [Nat.sub_self]; rfl, by omega, by omega⟩
  by_cases e : isNum V.1 i j = true ∨ i = j
  · rw [if_pos (this.mpr e), if_pos e]
  · rw [if_neg (fun q => e (this.mp q)), if_neg e]
end
