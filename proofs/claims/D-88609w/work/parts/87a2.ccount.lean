set_option maxRecDepth 100000
section
variable {N : Nat} {V : EV} {h : Nat} {σ : cs_S}
/-- of two parts: those of w words, or all -/
def pw (V : EV) (k i j w : Nat) : Nat := if w = 0 then cP V (ct V) k i j else tm V (ct V) k i j w
theorem cs_plainLoop {f k i j wd : Nat} (hE : cE σ V h) (hk : 2 ≤ k ∧ k ≤ 6) (hij : i < j) (hj : j ≤ h) (hT : cT σ V h (j - i)) (hwd : wd ≤ 20) : ∀ (q w n : Nat), 1 ≤ w → w + q = j - i → q < n →
    jX1_plain_198 (am_bk (cs_hop 1 (cs_call N (f + 1))) am_no (some .long) kX1_plain n) (cs_call N (f + 1)) σ (nI k) (nI i) (nI j) (nI wd) (lN (sm (fun w => if wd = 0 ∨ w = wd then tm V (ct V) k i j w else 0) 1 (w - 1))) (nI (i + w)) = some (.inl (some (.inl (.long (lN (sm (fun w => if wd = 0 ∨ w = wd then tm V (ct V) k i j w else 0) 1 (j - i)))))), σ) := by
  have hE' := hE
  obtain ⟨h20, h9, he, -, -, -⟩ := hE
  have hcp := cP_lt V (k := k) (i := i) (j := j) (by omega) (by omega)
  have hsm : ∀ a b, sm (fun w => if wd = 0 ∨ w = wd then tm V (ct V) k i j w else 0) a b ≤ sm (tm V (ct V) k i j) a b := fun a b => sm_le b a a fun m _ => by
    split <;> omega
  have hs9 : ∀ b, b ≤ j - i → sm (fun w => if wd = 0 ∨ w = wd then tm V (ct V) k i j w else 0) 1 b ≤ 20000000 := fun b hb => by
    have h1 := hsm 1 b
    have h2 := sm_mono (f := tm V (ct V) k i j) 1 hb
    have h3 := cP_two (V := V) (C := ct V) (i := i) (j := j) hk.1 hk.2
    omega
  intro q
  induction q with
  | zero =>
    intro w n hw1 hq hn
    obtain rfl : w = j - i := by omega
    rw [jX1_plain_198_eq]
    simp (disch := omega) only [ic_lit, ic_m1, ic_m2, ic_m3, am_ix_nI, am_ci_ok, am_cl_ok, am_cv_ok, am_ct_ok, am_dz_nI, nI_inj, nI_leI', nI_ltI', nI_lt0, nI_ge0, nI_eq0, nI_le0, nI_gt0, m2lt, m2ge, m2eq, eq_m2, nI_add, nI_subI, nI_mulI, b2_eq0, b2_eq1, b2_and1, band1, band0, if_true, if_false, ite_true, ite_false, cond_true, cond_false, ↓reduceIte, Nat.reduceAdd, Nat.reduceMul, Nat.reduceSub, Nat.reduceEqDiff, lN_lt', lN_le', lN_inj, lc_lt, lc_gt, lc_le, lc_ge, lc_eq, Nat.reduceLT, Nat.reduceLeDiff, reduceCtorEq, Nat.add_zero, Nat.zero_add]
    rw [if_pos (by omega)]
    have : tm V (ct V) k i j (j - i) = 0 := by
      unfold tm
      rw [if_neg (by omega)]
    rw [sm_last (n := j - i) (by omega), show 1 + (j - i) - 1 = j - i by omega, this]
    simp
  | succ q ih =>
    intro w n hw1 hq hn
    obtain ⟨n, rfl⟩ : ∃ n', n = n' + 1 := ⟨n - 1, by omega⟩
    rw [jX1_plain_198_eq]
    simp (disch := omega) only [ic_lit, ic_m1, ic_m2, ic_m3, am_ix_nI, am_ci_ok, am_cl_ok, am_cv_ok, am_ct_ok, am_dz_nI, nI_inj, nI_leI', nI_ltI', nI_lt0, nI_ge0, nI_eq0, nI_le0, nI_gt0, m2lt, m2ge, m2eq, eq_m2, nI_add, nI_subI, nI_mulI, b2_eq0, b2_eq1, b2_and1, band1, band0, if_true, if_false, ite_true, ite_false, cond_true, cond_false, ↓reduceIte, Nat.reduceAdd, Nat.reduceMul, Nat.reduceSub, Nat.reduceEqDiff, lN_lt', lN_le', lN_inj, lc_lt, lc_gt, lc_le, lc_ge, lc_eq, Nat.reduceLT, Nat.reduceLeDiff, reduceCtorEq, Nat.add_zero, Nat.zero_add]
    by_cases hend : j ≤ i + w + 1
    · rw [if_pos hend]
      have hz : ∀ u, w ≤ u → tm V (ct V) k i j u = 0 := fun u hu => by
        unfold tm
        rw [if_neg (by omega)]
      rw [show j - i = (w - 1) + (q + 2) by omega, sm_app, sm_zero (q + 2) (1 + (w - 1)) (fun u h1 h2 => by rw [hz u (by omega)]; simp), Nat.add_zero]
    · rw [if_neg hend]
      obtain ⟨hv, hew⟩ := he (i + w) (by omega)
      have hnext := ih (w + 1) n (by omega) (by omega) (by omega)
      rw [show w + 1 - 1 = (w - 1) + 1 by omega, sm_app, show 1 + (w - 1) = w by omega] at hnext
      simp only [sm, Nat.add_zero] at hnext
      rw [← Nat.add_assoc i w 1] at hnext
      simp (disch := omega) only [ic_lit, ic_m1, ic_m2, ic_m3, am_ix_nI, am_ci_ok, am_cl_ok, am_cv_ok, am_ct_ok, am_dz_nI, nI_inj, nI_leI', nI_ltI', nI_lt0, nI_ge0, nI_eq0, nI_le0, nI_gt0, m2lt, m2ge, m2eq, eq_m2, nI_add, nI_subI, nI_mulI, b2_eq0, b2_eq1, b2_and1, band1, band0, if_true, if_false, ite_true, ite_false, cond_true, cond_false, ↓reduceIte, Nat.reduceAdd, Nat.reduceMul, Nat.reduceSub, Nat.reduceEqDiff, lN_lt', lN_le', lN_inj, lc_lt, lc_gt, lc_le, lc_ge, lc_eq, Nat.reduceLT, Nat.reduceLeDiff, reduceCtorEq, Nat.add_zero, Nat.zero_add, hew]
      have hadd : ∀ (c : Nat), c ≤ 20000000 → sm (fun w => if wd = 0 ∨ w = wd then tm V (ct V) k i j w else 0) 1 (w - 1) + c ≤ 40000000 := fun c hc => by have := hs9 (w - 1) (by omega); omega
      have htmle := tm_le V (C := ct V) (i := i) (j := j) (w := w) hk.1 hk.2
      by_cases hop : V.1 (i + w) = 18 + k
      · rw [if_pos (by omega)]
        have htm : tm V (ct V) k i j w = ct V i (i + w) * ct V (i + w + 1) j := tm_w hw1 (by omega) hop
        have hgo : ∀ (back : cs_bt), (wd = 0 ∨ w = wd) → jX1_plain_239 back (cs_call N (f + 1)) σ (nI k) (nI i) (nI j) (nI wd) (lN (sm (fun w => if wd = 0 ∨ w = wd then tm V (ct V) k i j w else 0) 1 (w - 1))) (nI (i + w)) = jX1_plain_273 back (cs_call N (f + 1)) σ (nI k) (nI i) (nI j) (nI wd) (lN (sm (fun w => if wd = 0 ∨ w = wd then tm V (ct V) k i j w else 0) 1 (w - 1) + tm V (ct V) k i j w)) (nI (i + w)) := by
          intro back hwd'
          rw [jX1_plain_239_eq]
          have c1 := hT i (i + w) (by omega) (by omega) (by omega)
          have c2 := hT (i + w + 1) j (by omega) hj (by omega)
          have l1 := ct_lt V (i := i) (j := i + w) (by omega)
          have l2 := ct_lt V (i := i + w + 1) (j := j) (by omega)
          simp (disch := omega) only [ic_lit, ic_m1, ic_m2, ic_m3, am_ix_nI, am_ci_ok, am_cl_ok, am_cv_ok, am_ct_ok, am_dz_nI, nI_inj, nI_leI', nI_ltI', nI_lt0, nI_ge0, nI_eq0, nI_le0, nI_gt0, m2lt, m2ge, m2eq, eq_m2, nI_add, nI_subI, nI_mulI, b2_eq0, b2_eq1, b2_and1, band1, band0, if_true, if_false, ite_true, ite_false, cond_true, cond_false, ↓reduceIte, Nat.reduceAdd, Nat.reduceMul, Nat.reduceSub, Nat.reduceEqDiff, lN_lt', lN_le', lN_inj, lc_lt, lc_gt, lc_le, lc_ge, lc_eq, Nat.reduceLT, Nat.reduceLeDiff, reduceCtorEq, Nat.add_zero, Nat.zero_add, c1, c2]
          rw [cs_times (by omega) (by omega) (by rw [← htm]; omega), am_cl_ok, lN_add, MOST_lN, ← htm, if_pos ((pk_lLT (by have := hadd _ (Nat.le_trans htmle hcp); omega) (by omega)).mpr (by have := hadd _ (Nat.le_trans htmle hcp); omega))]
        by_cases h0 : wd = 0
        · rw [if_pos h0, jX1_plain_239_227_eq, hgo _ (.inl h0), jX1_plain_273_eq, ic_lit, nI_add, jX1_plain_198_bk]
          rw [if_pos (.inl h0)] at hnext
          exact hnext
        · rw [if_neg h0]
          by_cases hww : w = wd
          · rw [if_pos (by omega), jX1_plain_239_236_eq, hgo _ (.inr hww), jX1_plain_273_eq, ic_lit, nI_add, jX1_plain_198_bk]
            rw [if_pos (.inr hww)] at hnext
            exact hnext
          · rw [if_neg (by omega), jX1_plain_273_239_eq, jX1_plain_273_eq, ic_lit, nI_add, jX1_plain_198_bk]
            rw [if_neg (by omega), Nat.add_zero] at hnext
            exact hnext
      · rw [if_neg (by omega), jX1_plain_273_222_eq, jX1_plain_273_eq, ic_lit, nI_add, jX1_plain_198_bk]
        have htm0 : tm V (ct V) k i j w = 0 := by
          unfold tm
          rw [if_neg (by omega)]
        rw [htm0, ite_self, Nat.add_zero] at hnext
        exact hnext
theorem pw_sm {k i j wd : Nat} (hk : 2 ≤ k ∧ k ≤ 6) : sm (fun w => if wd = 0 ∨ w = wd then tm V (ct V) k i j w else 0) 1 (j - i) = pw V k i j wd := by
  unfold pw
  by_cases h0 : wd = 0
  · rw [if_pos h0, cP_two hk.1 hk.2]
    exact sm_ext _ _ fun m _ _ => if_pos (.inl h0)
  · rw [if_neg h0]
    by_cases hr : 1 ≤ wd ∧ wd ≤ j - i
    · rw [sm_one wd (j - i) 1 hr.1 (by omega) (fun m _ _ h3 => if_neg (by omega)), if_pos (.inr rfl)]
    · rw [sm_zero _ _ (fun m h1 h2 => by rw [if_neg (by omega)])]
      unfold tm
      rw [if_neg (by omega)]
theorem cs_plain {f k i j wd : Nat} (hE : cE σ V h) (hk : k ≤ 9) (hij : i < j) (hj : j ≤ h) (hT : cT σ V h (j - i)) (hwd : wd ≤ 20) (hw0 : ¬ (2 ≤ k ∧ k ≤ 6) → wd = 0) (hN : 30 ≤ N) :
    cs_call N (f + 2) 34 [.inl (.ref 0), .inl (.int (nI k)), .inl (.int (nI i)), .inl (.int (nI j)), .inl (.int (nI wd))] (σ) = some (.inl (some (.inl (.long (lN (pw V k i j wd))))), σ) := by
  have hE' := hE
  obtain ⟨h20, h9, he, -, -, -⟩ := hE
  obtain ⟨hvi, hei⟩ := he i (by omega)
  obtain ⟨hvj, hej⟩ := he (j - 1) (by omega)
  rw [dX1_plain_eq]
  unfold dX1_plain
  simp (disch := omega) only [ic_lit, ic_m1, ic_m2, ic_m3, am_ix_nI, am_ci_ok, am_cl_ok, am_cv_ok, am_ct_ok, am_dz_nI, nI_inj, nI_leI', nI_ltI', nI_lt0, nI_ge0, nI_eq0, nI_le0, nI_gt0, m2lt, m2ge, m2eq, eq_m2, nI_add, nI_subI, nI_mulI, b2_eq0, b2_eq1, b2_and1, band1, band0, if_true, if_false, ite_true, ite_false, cond_true, cond_false, ↓reduceIte, Nat.reduceAdd, Nat.reduceMul, Nat.reduceSub, Nat.reduceEqDiff, lN_lt', lN_le', lN_inj, lc_lt, lc_gt, lc_le, lc_ge, lc_eq, Nat.reduceLT, Nat.reduceLeDiff, reduceCtorEq, Nat.add_zero, Nat.zero_add, hei]
  have l0 : cs_isLetter (N := N) (f := f) (b := false) hE' (show i < h by omega) = cs_isLetter hE' (by omega) := rfl
  have hl0 := cs_isLetter (N := N) (f := f) (b := false) hE' (show i < h by omega)
  have hl1 := cs_isLetter (N := N) (f := f) (b := true) hE' (show i < h by omega)
  rw [b2_f] at hl0
  rw [b2_t] at hl1
  by_cases k0 : k = 0
  · subst k0
    rw [if_pos rfl, hw0 (by omega)]
    show (_ : am_R cs_S) = some (.inl (some (.inl (.long (lN (if j = i + 1 ∧ V.1 i < 10 ∧ V.2.1 (V.1 i) = false then 1 else 0))))), σ)
    by_cases hj1 : j = i + 1
    · rw [if_pos hj1, hl0, am_ci_ok]
      simp only [b2_eq0]
      by_cases q : V.1 i < 10
      · rcases Bool.eq_false_or_eq_true (V.2.1 (V.1 i)) with z | z <;> simp [hj1, q, z]
      · simp [q]
    · rw [if_neg hj1, if_neg (fun q => hj1 q.1)]
  · rw [if_neg k0]
    by_cases k1 : k = 1
    · subst k1
      rw [if_pos rfl, hw0 (by omega), cs_numberOf hE' (by omega) hj hN, am_ci_ok]
      show (_ : am_R cs_S) = some (.inl (some (.inl (.long (lN (if isNum V.1 i j then 1 else 0))))), σ)
      by_cases hc : isNum V.1 i j = true
      · have hd := (num_dg hc).2
        have e : (if isNum V.1 i j = true ∨ i = j then nI (numV V.1 i (j - i) 0) else -1) = nI (numV V.1 i (j - i) 0) := if_pos (.inl hc)
        rw [e, if_neg (show ¬ nI (numV V.1 i (j - i) 0) = -1 from fun q => nI_pos (n := numV V.1 i (j - i) 0) (by omega) (by rw [q]; decide)), if_pos hc]
      · have e : (if isNum V.1 i j = true ∨ i = j then nI (numV V.1 i (j - i) 0) else -1) = -1 := if_neg (by rintro (q | q); exact hc q; omega)
        rw [e, if_pos rfl, if_neg hc]
    · rw [if_neg k1]
      by_cases k7 : k = 7
      · subst k7
        rw [if_pos rfl, hw0 (by omega)]
        show (_ : am_R cs_S) = some (.inl (some (.inl (.long (lN (if i + 1 < j ∧ V.1 i = 25 then ct V (i + 1) j else 0))))), σ)
        by_cases h1 : j ≤ i + 1
        · rw [if_pos h1, if_neg (by omega)]
        · rw [if_neg h1]
          by_cases h2 : V.1 i = 25
          · rw [if_pos h2, if_pos ⟨by omega, h2⟩]
            simp (disch := omega) only [ic_lit, ic_m1, ic_m2, ic_m3, am_ix_nI, am_ci_ok, am_cl_ok, am_cv_ok, am_ct_ok, am_dz_nI, nI_inj, nI_leI', nI_ltI', nI_lt0, nI_ge0, nI_eq0, nI_le0, nI_gt0, m2lt, m2ge, m2eq, eq_m2, nI_add, nI_subI, nI_mulI, b2_eq0, b2_eq1, b2_and1, band1, band0, if_true, if_false, ite_true, ite_false, cond_true, cond_false, ↓reduceIte, Nat.reduceAdd, Nat.reduceMul, Nat.reduceSub, Nat.reduceEqDiff, lN_lt', lN_le', lN_inj, lc_lt, lc_gt, lc_le, lc_ge, lc_eq, Nat.reduceLT, Nat.reduceLeDiff, reduceCtorEq, Nat.add_zero, Nat.zero_add, hT (i + 1) j (by omega) hj (by omega)]
          · rw [if_neg h2, if_neg (fun q => h2 q.2)]
      · rw [if_neg k7]
        by_cases k8 : k = 8
        · subst k8
          rw [if_pos rfl, hw0 (by omega)]
          show (_ : am_R cs_S) = some (.inl (some (.inl (.long (lN (if i + 2 < j ∧ V.1 i = 26 ∧ V.1 (j - 1) = 27 then ct V (i + 1) (j - 1) else 0))))), σ)
          by_cases h1 : j ≤ i + 2
          · rw [if_pos h1, if_neg (by omega)]
          · rw [if_neg h1]
            by_cases h2 : V.1 i = 26
            · rw [if_pos h2]
              simp (disch := omega) only [ic_lit, ic_m1, ic_m2, ic_m3, am_ix_nI, am_ci_ok, am_cl_ok, am_cv_ok, am_ct_ok, am_dz_nI, nI_inj, nI_leI', nI_ltI', nI_lt0, nI_ge0, nI_eq0, nI_le0, nI_gt0, m2lt, m2ge, m2eq, eq_m2, nI_add, nI_subI, nI_mulI, b2_eq0, b2_eq1, b2_and1, band1, band0, if_true, if_false, ite_true, ite_false, cond_true, cond_false, ↓reduceIte, Nat.reduceAdd, Nat.reduceMul, Nat.reduceSub, Nat.reduceEqDiff, lN_lt', lN_le', lN_inj, lc_lt, lc_gt, lc_le, lc_ge, lc_eq, Nat.reduceLT, Nat.reduceLeDiff, reduceCtorEq, Nat.add_zero, Nat.zero_add, hej]
              by_cases h3 : V.1 (j - 1) = 27
              · rw [if_pos h3, if_pos ⟨by omega, h2, h3⟩]
                simp (disch := omega) only [ic_lit, ic_m1, ic_m2, ic_m3, am_ix_nI, am_ci_ok, am_cl_ok, am_cv_ok, am_ct_ok, am_dz_nI, nI_inj, nI_leI', nI_ltI', nI_lt0, nI_ge0, nI_eq0, nI_le0, nI_gt0, m2lt, m2ge, m2eq, eq_m2, nI_add, nI_subI, nI_mulI, b2_eq0, b2_eq1, b2_and1, band1, band0, if_true, if_false, ite_true, ite_false, cond_true, cond_false, ↓reduceIte, Nat.reduceAdd, Nat.reduceMul, Nat.reduceSub, Nat.reduceEqDiff, lN_lt', lN_le', lN_inj, lc_lt, lc_gt, lc_le, lc_ge, lc_eq, Nat.reduceLT, Nat.reduceLeDiff, reduceCtorEq, Nat.add_zero, Nat.zero_add, hT (i + 1) (j - 1) (by omega) (by omega) (by omega)]
              · rw [if_neg h3, if_neg (fun q => h3 q.2.2)]
            · rw [if_neg h2, if_neg (fun q => h2 q.2.1)]
        · rw [if_neg k8]
          by_cases k9 : k = 9
          · subst k9
            rw [if_pos rfl, hw0 (by omega)]
            show (_ : am_R cs_S) = some (.inl (some (.inl (.long (lN (if i + 2 < j ∧ V.1 i < 10 ∧ V.2.1 (V.1 i) = true ∧ V.1 (i + 1) = 28 then ct V (i + 2) j else 0))))), σ)
            by_cases h1 : j ≤ i + 2
            · rw [if_pos h1, if_neg (by omega)]
            · obtain ⟨hv1, he1⟩ := he (i + 1) (by omega)
              rw [if_neg h1, hl1, am_ci_ok]
              simp only [b2_eq0]
              simp (disch := omega) only [ic_lit, ic_m1, ic_m2, ic_m3, am_ix_nI, am_ci_ok, am_cl_ok, am_cv_ok, am_ct_ok, am_dz_nI, nI_inj, nI_leI', nI_ltI', nI_lt0, nI_ge0, nI_eq0, nI_le0, nI_gt0, m2lt, m2ge, m2eq, eq_m2, nI_add, nI_subI, nI_mulI, b2_eq0, b2_eq1, b2_and1, band1, band0, if_true, if_false, ite_true, ite_false, cond_true, cond_false, ↓reduceIte, Nat.reduceAdd, Nat.reduceMul, Nat.reduceSub, Nat.reduceEqDiff, lN_lt', lN_le', lN_inj, lc_lt, lc_gt, lc_le, lc_ge, lc_eq, Nat.reduceLT, Nat.reduceLeDiff, reduceCtorEq, Nat.add_zero, Nat.zero_add, he1]
              by_cases q : V.1 i < 10
              · rcases Bool.eq_false_or_eq_true (V.2.1 (V.1 i)) with z | z
                · by_cases h3 : V.1 (i + 1) = 28
                  · have := hT (i + 2) j (by omega) (by omega) (by omega)
                    simp [q, z, h3, this, show i + 2 < j by omega]
                  · simp [q, z, h3]
                · simp [q, z]
              · simp [q]
          · rw [if_neg k9]
            have hk2 : 2 ≤ k ∧ k ≤ 6 := by omega
            have := cs_plainLoop (N := N) (f := f) hE' hk2 hij hj hT hwd (j - i - 1) 1 N (by omega) (by omega) (by omega)
            rw [pw_sm hk2] at this
            exact this
end
