set_option maxRecDepth 100000
/-! THE MODEL MAKES A READING BY ITS PLACE. -/
section
variable {N : Nat} {V : EV} {h : Nat}
theorem mm_tkLoop {f i j : Nat} {μ : mm_S} (hh : h ≤ 20) (hij : i < j) (hj : j ≤ h) (hT : mT μ V h (h + 1)) (k0 : Int64) (P : am_R mm_S → Prop) (n0 r : Nat) (hr : r < 2 ^ 60) : ∀ (q c n : Nat), c + q < 20 → n0 + q ≤ n → r < cc20 V (ct V) i j (c + q) →
    (∀ n', n0 ≤ n' → P (am_dz (ic 2) (if (nI (c + q) - nI (c + q) / (ic 2) * (ic 2)) = (ic 1) then jX6_takes_72_71 (am_bk (mm_hop (mm_call N f)) am_no (some .int) kX6_takes n') (mm_call N f) μ (nI i) (nI j) k0 (lN r) (nI (c + q)) (nI i + (ic 1)) else jX6_takes_72 (am_bk (mm_hop (mm_call N f)) am_no (some .int) kX6_takes n') (mm_call N f) μ (nI i) (nI j) k0 (lN r) (nI (c + q)) (nI i)))) →
    P (jX6_takes_6 (am_bk (mm_hop (mm_call N f)) am_no (some .int) kX6_takes n) (mm_call N f) μ (nI i) (nI j) k0 (lN (sm (cc20 V (ct V) i j) c q + r)) (nI c)) := by
  have hl := ct_lt V (i := i) (j := j) (by omega)
  have hle : ∀ c q, c + q ≤ 20 → sm (cc20 V (ct V) i j) c q ≤ 20000000 := fun c q hcq => by
    have h1 := sm_app (f := cc20 V (ct V) i j) c q 0
    have h2 := sm_mono (f := cc20 V (ct V) i j) 0 hcq
    rw [ct_eq V hij] at hl
    unfold cS at hl
    rw [Nat.zero_add] at h1
    omega
  have hcc : ∀ c, c < 20 → cc20 V (ct V) i j c ≤ 20000000 := fun c hc => by
    have := hle c 1 (by omega)
    simpa [sm] using this
  intro q
  induction q with
  | zero =>
    intro c n hc hn hlt hP
    rw [Nat.add_zero] at hlt hP
    have hm := (hT i j hij hj (by omega)).2 c (by omega)
    have hcc := hcc c (by omega)
    rw [jX6_takes_6_eq]
    simp only [sm, Nat.zero_add]
    simp (disch := omega) only [ic_lit, ic_m1, ic_m2, ic_m3, am_ix_nI, am_ci_ok, am_cl_ok, am_cv_ok, am_ct_ok, am_dz_nI, nI_inj, nI_leI', nI_ltI', nI_lt0, nI_ge0, nI_eq0, nI_le0, nI_gt0, m2lt, m2ge, m2eq, eq_m2, nI_add, nI_subI, nI_mulI, b2_eq0, b2_eq1, b2_and1, band1, band0, if_true, if_false, ite_true, ite_false, cond_true, cond_false, ↓reduceIte, Nat.reduceAdd, Nat.reduceMul, Nat.reduceSub, Nat.reduceEqDiff, lN_lt', lN_le', lN_inj, lc_lt, lc_gt, lc_le, lc_ge, lc_eq, Nat.reduceLT, Nat.reduceLeDiff, reduceCtorEq, Nat.add_zero, Nat.zero_add, hm, lc_lt]
    rw [if_pos hlt]
    have := hP n (by omega)
    simp (disch := omega) only [ic_lit, ic_m1, ic_m2, ic_m3, am_ix_nI, am_ci_ok, am_cl_ok, am_cv_ok, am_ct_ok, am_dz_nI, nI_inj, nI_leI', nI_ltI', nI_lt0, nI_ge0, nI_eq0, nI_le0, nI_gt0, m2lt, m2ge, m2eq, eq_m2, nI_add, nI_subI, nI_mulI, b2_eq0, b2_eq1, b2_and1, band1, band0, if_true, if_false, ite_true, ite_false, cond_true, cond_false, ↓reduceIte, Nat.reduceAdd, Nat.reduceMul, Nat.reduceSub, Nat.reduceEqDiff, lN_lt', lN_le', lN_inj, lc_lt, lc_gt, lc_le, lc_ge, lc_eq, Nat.reduceLT, Nat.reduceLeDiff, reduceCtorEq, Nat.add_zero, Nat.zero_add] at this
    exact this
  | succ q ih =>
    intro c n hc hn hlt hP
    obtain ⟨n, rfl⟩ : ∃ n', n = n' + 1 := ⟨n - 1, by omega⟩
    have hm := (hT i j hij hj (by omega)).2 c (by omega)
    have h1 := hle c (q + 1) (by omega)
    rw [jX6_takes_6_eq]
    simp only [sm] at h1 ⊢
    simp (disch := omega) only [ic_lit, ic_m1, ic_m2, ic_m3, am_ix_nI, am_ci_ok, am_cl_ok, am_cv_ok, am_ct_ok, am_dz_nI, nI_inj, nI_leI', nI_ltI', nI_lt0, nI_ge0, nI_eq0, nI_le0, nI_gt0, m2lt, m2ge, m2eq, eq_m2, nI_add, nI_subI, nI_mulI, b2_eq0, b2_eq1, b2_and1, band1, band0, if_true, if_false, ite_true, ite_false, cond_true, cond_false, ↓reduceIte, Nat.reduceAdd, Nat.reduceMul, Nat.reduceSub, Nat.reduceEqDiff, lN_lt', lN_le', lN_inj, lc_lt, lc_gt, lc_le, lc_ge, lc_eq, Nat.reduceLT, Nat.reduceLeDiff, reduceCtorEq, Nat.add_zero, Nat.zero_add, hm, lc_lt]
    rw [if_neg (by omega), lN_sub (by omega), jX6_takes_6_bk, show cc20 V (ct V) i j c + sm (cc20 V (ct V) i j) (c + 1) q + r - cc20 V (ct V) i j c = sm (cc20 V (ct V) i j) (c + 1) q + r by omega]
    refine ih (c + 1) n (by omega) (by omega) (by rw [show c + 1 + q = c + (q + 1) by omega]; exact hlt) (fun n' hn' => ?_)
    rw [show c + 1 + q = c + (q + 1) by omega]
    exact hP n' hn'
theorem mm_tkNum {f i j : Nat} {μ : mm_S} (hE : mE μ V h) (hij : i ≤ j) (hj : j ≤ h) (hdig : ∀ m, i ≤ m → m < j → 10 ≤ V.1 m) (v1 v2 : Int32) (w3 w5 : Int64) (v7 : Int32) : ∀ (q c n v : Nat), i ≤ c → c + q = j → q < n →
    jX6_takes_172 (am_bk (mm_hop (mm_call N f)) am_no (some .int) kX6_takes n) (mm_call N f) μ v1 v2 w3 w5 v7 (nI i) (nI j) (nI v) (nI c) = am_ci (mm_call N (f) 48 [.inl (.ref 0), .inl (.int (nI 1)), .inl (.int (nI (numV V.1 c q v))), .inl (.int (-2)), .inl (.int (-2))] (μ)) am_tx (fun r s => some (.inl (some (.inl (.int (r)))), s)) := by
  obtain ⟨h20, h10, he, -, -⟩ := hE
  intro q
  induction q with
  | zero =>
    intro c n v hc hq hn
    obtain rfl : c = j := by omega
    rw [jX6_takes_172_eq]
    simp (disch := omega) only [ic_lit, ic_m1, ic_m2, ic_m3, am_ix_nI, am_ci_ok, am_cl_ok, am_cv_ok, am_ct_ok, am_dz_nI, nI_inj, nI_leI', nI_ltI', nI_lt0, nI_ge0, nI_eq0, nI_le0, nI_gt0, m2lt, m2ge, m2eq, eq_m2, nI_add, nI_subI, nI_mulI, b2_eq0, b2_eq1, b2_and1, band1, band0, if_true, if_false, ite_true, ite_false, cond_true, cond_false, ↓reduceIte, Nat.reduceAdd, Nat.reduceMul, Nat.reduceSub, Nat.reduceEqDiff, lN_lt', lN_le', lN_inj, lc_lt, lc_gt, lc_le, lc_ge, lc_eq, Nat.reduceLT, Nat.reduceLeDiff, reduceCtorEq, Nat.add_zero, Nat.zero_add, Nat.le_refl, numV]
  | succ q ih =>
    intro c n v hc hq hn
    obtain ⟨n, rfl⟩ : ∃ n', n = n' + 1 := ⟨n - 1, by omega⟩
    obtain ⟨hv1, he1⟩ := he c (by omega)
    have hd := hdig c hc (by omega)
    rw [jX6_takes_172_eq]
    simp (disch := omega) only [ic_lit, ic_m1, ic_m2, ic_m3, am_ix_nI, am_ci_ok, am_cl_ok, am_cv_ok, am_ct_ok, am_dz_nI, nI_inj, nI_leI', nI_ltI', nI_lt0, nI_ge0, nI_eq0, nI_le0, nI_gt0, m2lt, m2ge, m2eq, eq_m2, nI_add, nI_subI, nI_mulI, b2_eq0, b2_eq1, b2_and1, band1, band0, if_true, if_false, ite_true, ite_false, cond_true, cond_false, ↓reduceIte, Nat.reduceAdd, Nat.reduceMul, Nat.reduceSub, Nat.reduceEqDiff, lN_lt', lN_le', lN_inj, lc_lt, lc_gt, lc_le, lc_ge, lc_eq, Nat.reduceLT, Nat.reduceLeDiff, reduceCtorEq, Nat.add_zero, Nat.zero_add, he1]
    rw [if_neg (by omega), jX6_takes_172_bk]
    exact ih (c + 1) n (10 * v + V.1 c - 10) (by omega) (by omega) (by omega)
theorem mm_tkTwo {f k a b : Nat} {μ : mm_S} (hE : mE μ V h) (hab : a < b) (hb : b ≤ h) (hT : mT μ V h (h + 1)) (hk : 2 ≤ k ∧ k ≤ 6) (k0 : Int64) (P : am_R mm_S → Prop) (r w : Nat) (hw : 1 ≤ w ∧ w + 2 ≤ b - a ∧ V.1 (a + w) = 18 + k) (hr : r < ct V a (a + w) * ct V (a + w + 1) b)
    (hP : P (am_ci (mm_call N (f + 1) 47 [.inl (.ref 0), .inl (.int (nI a)), .inl (.int (nI (a + w))), .inl (.long (lN (r / ct V (a + w + 1) b)))] (μ)) am_tx fun r30 s29 => am_ci (mm_call N (f + 1) 47 [.inl (.ref 0), .inl (.int (nI (a + w + 1))), .inl (.int (nI b)), .inl (.long (lN (r % ct V (a + w + 1) b)))] (s29)) am_tx fun r32 s31 => am_ci (mm_call N (f + 1) 48 [.inl (.ref 0), .inl (.int (nI k)), .inl (.int (-2)), .inl (.int (r30)), .inl (.int (r32))] (s31)) am_tx fun r34 s33 => some (.inl (some (.inl (.int (r34)))), s33))) : ∀ (q u n : Nat), u + q = w → 1 ≤ u → q < n →
    P (jX6_takesTwo_9 (am_bk (mm_hop (mm_call N (f + 1))) am_no (some .int) kX6_takesTwo n) (mm_call N (f + 1)) μ (nI k) (nI a) (nI b) k0 (lN (sm (tm V (ct V) k a b) u q + r)) (nI (a + u))) := by
  obtain ⟨h20, h10, he, -, -⟩ := hE
  have hcp := cP_lt V (k := k) (i := a) (j := b) (by omega) (by omega)
  have hsm : ∀ u q, 1 ≤ u → u + q ≤ b - a + 1 → sm (tm V (ct V) k a b) u q ≤ 20000000 := fun u q hu huq => by
    have h1 := sm_app (f := tm V (ct V) k a b) (u - 1) q 1
    have h2 := sm_mono (f := tm V (ct V) k a b) (n := u - 1 + q) (m := b - a) 1 (by omega)
    rw [cP_two hk.1 hk.2] at hcp
    rw [show 1 + (u - 1) = u by omega] at h1
    omega
  have hl1 := ct_lt V (i := a) (j := a + w) (by omega)
  have hl2 := ct_lt V (i := a + w + 1) (j := b) (by omega)
  have htw := tm_w (V := V) (C := ct V) hw.1 hw.2.1 hw.2.2
  have htle := tm_le V (C := ct V) (i := a) (j := b) (w := w) hk.1 hk.2
  have hB : 0 < ct V (a + w + 1) b := by
    rcases Nat.eq_zero_or_pos (ct V (a + w + 1) b) with q | q
    · rw [q, Nat.mul_zero] at hr
      omega
    · exact q
  intro q
  induction q with
  | zero =>
    intro u n hu hu1 hn
    obtain rfl : u = w := by omega
    obtain ⟨hv, he1⟩ := he (a + u) (by omega)
    have c1 := (hT a (a + u) (by omega) (by omega) (by omega)).1
    have c2 := (hT (a + u + 1) b (by omega) hb (by omega)).1
    rw [jX6_takesTwo_9_eq]
    simp only [sm, Nat.zero_add]
    simp (disch := omega) only [ic_lit, ic_m1, ic_m2, ic_m3, am_ix_nI, am_ci_ok, am_cl_ok, am_cv_ok, am_ct_ok, am_dz_nI, nI_inj, nI_leI', nI_ltI', nI_lt0, nI_ge0, nI_eq0, nI_le0, nI_gt0, m2lt, m2ge, m2eq, eq_m2, nI_add, nI_subI, nI_mulI, b2_eq0, b2_eq1, b2_and1, band1, band0, if_true, if_false, ite_true, ite_false, cond_true, cond_false, ↓reduceIte, Nat.reduceAdd, Nat.reduceMul, Nat.reduceSub, Nat.reduceEqDiff, lN_lt', lN_le', lN_inj, lc_lt, lc_gt, lc_le, lc_ge, lc_eq, Nat.reduceLT, Nat.reduceLeDiff, reduceCtorEq, Nat.add_zero, Nat.zero_add, he1, hw.2.2, c1, c2, lc_lt]
    rw [mm_times (by omega) (by omega) (by rw [← htw]; omega), am_cl_ok, if_pos ((pk_lLT (by omega) (by rw [← htw]; omega)).mpr hr), c2]
    simp only [am_dzl_lN (show 0 < ct V (a + u + 1) b ∧ ct V (a + u + 1) b < 2 ^ 62 from ⟨hB, by omega⟩)]
    rw [pk_lRem (by omega) hB (by omega), pk_lDiv (by omega) hB (by omega)]
    exact hP
  | succ q ih =>
    intro u n hu hu1 hn
    obtain ⟨n, rfl⟩ : ∃ n', n = n' + 1 := ⟨n - 1, by omega⟩
    obtain ⟨hv, he1⟩ := he (a + u) (by omega)
    have hs := hsm u (q + 1) hu1 (by omega)
    have hnext := ih (u + 1) n (by omega) (by omega) (by omega)
    rw [show a + (u + 1) = a + u + 1 by omega] at hnext
    rw [jX6_takesTwo_9_eq]
    simp only [sm] at hs ⊢
    simp (disch := omega) only [ic_lit, ic_m1, ic_m2, ic_m3, am_ix_nI, am_ci_ok, am_cl_ok, am_cv_ok, am_ct_ok, am_dz_nI, nI_inj, nI_leI', nI_ltI', nI_lt0, nI_ge0, nI_eq0, nI_le0, nI_gt0, m2lt, m2ge, m2eq, eq_m2, nI_add, nI_subI, nI_mulI, b2_eq0, b2_eq1, b2_and1, band1, band0, if_true, if_false, ite_true, ite_false, cond_true, cond_false, ↓reduceIte, Nat.reduceAdd, Nat.reduceMul, Nat.reduceSub, Nat.reduceEqDiff, lN_lt', lN_le', lN_inj, lc_lt, lc_gt, lc_le, lc_ge, lc_eq, Nat.reduceLT, Nat.reduceLeDiff, reduceCtorEq, Nat.add_zero, Nat.zero_add, he1]
    by_cases hop : V.1 (a + u) = 18 + k
    · have c1 := (hT a (a + u) (by omega) (by omega) (by omega)).1
      have c2 := (hT (a + u + 1) b (by omega) hb (by omega)).1
      have l1 := ct_lt V (i := a) (j := a + u) (by omega)
      have l2 := ct_lt V (i := a + u + 1) (j := b) (by omega)
      have htu := tm_w (V := V) (C := ct V) hu1 (show u + 2 ≤ b - a by omega) hop
      rw [if_pos hop]
      simp (disch := omega) only [ic_lit, ic_m1, ic_m2, ic_m3, am_ix_nI, am_ci_ok, am_cl_ok, am_cv_ok, am_ct_ok, am_dz_nI, nI_inj, nI_leI', nI_ltI', nI_lt0, nI_ge0, nI_eq0, nI_le0, nI_gt0, m2lt, m2ge, m2eq, eq_m2, nI_add, nI_subI, nI_mulI, b2_eq0, b2_eq1, b2_and1, band1, band0, if_true, if_false, ite_true, ite_false, cond_true, cond_false, ↓reduceIte, Nat.reduceAdd, Nat.reduceMul, Nat.reduceSub, Nat.reduceEqDiff, lN_lt', lN_le', lN_inj, lc_lt, lc_gt, lc_le, lc_ge, lc_eq, Nat.reduceLT, Nat.reduceLeDiff, reduceCtorEq, Nat.add_zero, Nat.zero_add, c1, c2, lc_lt]
      rw [mm_times (by omega) (by omega) (by rw [← htu]; omega), am_cl_ok, ← htu, if_neg (fun q => by rw [pk_lLT (by omega) (by omega)] at q; omega), jX6_takesTwo_58_eq]
      simp (disch := omega) only [ic_lit, ic_m1, ic_m2, ic_m3, am_ix_nI, am_ci_ok, am_cl_ok, am_cv_ok, am_ct_ok, am_dz_nI, nI_inj, nI_leI', nI_ltI', nI_lt0, nI_ge0, nI_eq0, nI_le0, nI_gt0, m2lt, m2ge, m2eq, eq_m2, nI_add, nI_subI, nI_mulI, b2_eq0, b2_eq1, b2_and1, band1, band0, if_true, if_false, ite_true, ite_false, cond_true, cond_false, ↓reduceIte, Nat.reduceAdd, Nat.reduceMul, Nat.reduceSub, Nat.reduceEqDiff, lN_lt', lN_le', lN_inj, lc_lt, lc_gt, lc_le, lc_ge, lc_eq, Nat.reduceLT, Nat.reduceLeDiff, reduceCtorEq, Nat.add_zero, Nat.zero_add, he1, hop, c1, c2]
      rw [mm_times (by omega) (by omega) (by rw [← htu]; omega), am_cl_ok, ← htu, jX6_takesTwo_107_106_eq, jX6_takesTwo_107_eq, lN_sub (by omega), show tm V (ct V) k a b u + sm (tm V (ct V) k a b) (u + 1) q + r - tm V (ct V) k a b u = sm (tm V (ct V) k a b) (u + 1) q + r by omega, ic_lit, nI_add, jX6_takesTwo_9_bk]
      exact hnext
    · have ht0 : tm V (ct V) k a b u = 0 := by
        unfold tm
        rw [if_neg (by omega)]
      rw [if_neg hop, jX6_takesTwo_58_23_eq, jX6_takesTwo_58_eq, ht0, Nat.zero_add]
      simp (disch := omega) only [ic_lit, ic_m1, ic_m2, ic_m3, am_ix_nI, am_ci_ok, am_cl_ok, am_cv_ok, am_ct_ok, am_dz_nI, nI_inj, nI_leI', nI_ltI', nI_lt0, nI_ge0, nI_eq0, nI_le0, nI_gt0, m2lt, m2ge, m2eq, eq_m2, nI_add, nI_subI, nI_mulI, b2_eq0, b2_eq1, b2_and1, band1, band0, if_true, if_false, ite_true, ite_false, cond_true, cond_false, ↓reduceIte, Nat.reduceAdd, Nat.reduceMul, Nat.reduceSub, Nat.reduceEqDiff, lN_lt', lN_le', lN_inj, lc_lt, lc_gt, lc_le, lc_ge, lc_eq, Nat.reduceLT, Nat.reduceLeDiff, reduceCtorEq, Nat.add_zero, Nat.zero_add, he1]
      rw [if_neg hop, jX6_takesTwo_107_eq, lN_sub (Nat.zero_le _), Nat.sub_zero, ic_lit, nI_add, jX6_takesTwo_9_bk]
      exact hnext
end
