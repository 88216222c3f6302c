set_option maxRecDepth 100000
section
variable {N : Nat} {V : EV} {h : Nat} {σ : cs_S}
/-- of a kind, with begin and end or without -/
def kw_ (V : EV) (k : Nat) (b : Bool) (i j wd : Nat) : Nat := if gK V k b i j then pw V k (i + bN b) (j - bN b) wd else 0
theorem kw_0 (k : Nat) (b : Bool) (i j : Nat) : kw_ V k b i j 0 = cK V (ct V) k b i j := rfl
theorem bN_f : bN false = 0 := rfl
theorem bN_t : bN true = 1 := rfl
theorem cs_ofKind {f k i j wd : Nat} {b : Bool} (hE : cE σ V h) (hk : k ≤ 9) (hij : i < j) (hj : j ≤ h) (hT : cT σ V h (j - i)) (hwd : wd ≤ 20) (hw0 : ¬ (2 ≤ k ∧ k ≤ 6) → wd = 0) (hN : 30 ≤ N) :
    cs_call N (f + 4) 32 [.inl (.ref 0), .inl (.int (nI k)), .inl (.int (b2 b)), .inl (.int (nI i)), .inl (.int (nI j)), .inl (.int (nI wd))] (σ) = some (.inl (some (.inl (.long (lN (kw_ V k b i j wd))))), σ) := by
  have hE' := hE
  obtain ⟨h20, h9, he, -, -, -⟩ := hE
  obtain ⟨hvi, hei⟩ := he i (by omega)
  obtain ⟨hvj, hej⟩ := he (j - 1) (by omega)
  rw [dX1_ofKind_eq]
  unfold dX1_ofKind
  rw [cs_mayBe hE' (by omega), am_ci_ok]
  simp only [b2_eq0]
  unfold kw_ gK
  rcases Bool.eq_false_or_eq_true (V.2.2 k b) with hV | hV
  · simp only [hV, Bool.true_eq_false, if_false, Bool.true_and]
    cases b with
    | false =>
      simp only [if_true, Bool.not_false, Bool.true_or, bN_f, Nat.add_zero, Nat.sub_zero]
      rw [cs_plain hE' hk hij hj hT hwd hw0 hN, am_cl_ok]
    | true =>
      simp only [Bool.true_eq_false, if_false, Bool.not_true, Bool.false_or, bN_t]
      simp (disch := omega) only [ic_lit, ic_m1, ic_m2, ic_m3, am_ix_nI, am_ci_ok, am_cl_ok, am_cv_ok, am_ct_ok, am_dz_nI, nI_inj, nI_leI', nI_ltI', nI_lt0, nI_ge0, nI_eq0, nI_le0, nI_gt0, m2lt, m2ge, m2eq, eq_m2, nI_add, nI_subI, nI_mulI, b2_eq0, b2_eq1, b2_and1, band1, band0, if_true, if_false, ite_true, ite_false, cond_true, cond_false, ↓reduceIte, Nat.reduceAdd, Nat.reduceMul, Nat.reduceSub, Nat.reduceEqDiff, lN_lt', lN_le', lN_inj, lc_lt, lc_gt, lc_le, lc_ge, lc_eq, Nat.reduceLT, Nat.reduceLeDiff, reduceCtorEq, Nat.add_zero, Nat.zero_add, hei, hej]
      by_cases h1 : j ≤ i + 2
      · rw [if_pos h1, if_neg (by simp; omega)]
      · rw [if_neg h1]
        by_cases h2 : V.1 i = 29
        · rw [if_pos h2]
          by_cases h3 : V.1 (j - 1) = 30
          · rw [if_pos h3, cs_plain hE' hk (show i + 1 < j - 1 by omega) (by omega) (fun a c h4 h5 h6 => hT a c h4 h5 (by omega)) hwd hw0 hN, am_cl_ok, if_pos (by simp [h2, h3]; omega)]
          · rw [if_neg h3, if_neg (by simp [h3])]
        · rw [if_neg h2, if_neg (by simp [h2])]
  · simp only [hV, if_true, Bool.false_and, Bool.false_eq_true, if_false]
theorem cK_le (k : Nat) (b : Bool) (i j : Nat) (hk : k ≤ 9) : cK V (ct V) k b i j ≤ cS V (ct V) i j := by
  rw [← cc20_b]
  unfold cS
  rw [sm_split (f := cc20 V (ct V) i j) (a := 0) (n := 20) (2 * k + bN b) (by have : bN b ≤ 1 := (by cases b <;> simp [bN]); omega), Nat.zero_add]
  omega
end
