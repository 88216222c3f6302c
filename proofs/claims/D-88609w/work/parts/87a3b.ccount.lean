set_option maxRecDepth 100000
section
variable {N : Nat} {V : EV} {h : Nat} {σ : cs_S}
theorem cs_spanLoop {f i j : Nat} (hE : cE σ V h) (hij : i < j) (hj : j ≤ h) (hT : cT σ V h (j - i)) (hN : 30 ≤ N) : ∀ (q k n : Nat), k + q = 10 → q < n →
    jX1_span_5 (am_bk (cs_hop 1 (cs_call N (f + 4))) am_no (some .long) kX1_span n) (cs_call N (f + 4)) σ (nI i) (nI j) (lN (sm (fun k => cK V (ct V) k false i j + cK V (ct V) k true i j) 0 k)) (nI k) = some (.inl (some (.inl (.long (lN (ct V i j))))), σ) := by
  have h20 := hE.1
  have hS : sm (fun k => cK V (ct V) k false i j + cK V (ct V) k true i j) 0 10 = ct V i j := by rw [ct_eq V hij, cS_k]
  have hl := ct_lt V (i := i) (j := j) (by omega)
  intro q
  induction q with
  | zero =>
    intro k n hq hn
    obtain rfl : k = 10 := by omega
    rw [jX1_span_5_eq, hS]
    simp (disch := omega) only [ic_lit, ic_m1, ic_m2, ic_m3, am_ix_nI, am_ci_ok, am_cl_ok, am_cv_ok, am_ct_ok, am_dz_nI, nI_inj, nI_leI', nI_ltI', nI_lt0, nI_ge0, nI_eq0, nI_le0, nI_gt0, m2lt, m2ge, m2eq, eq_m2, nI_add, nI_subI, nI_mulI, b2_eq0, b2_eq1, b2_and1, band1, band0, if_true, if_false, ite_true, ite_false, cond_true, cond_false, ↓reduceIte, Nat.reduceAdd, Nat.reduceMul, Nat.reduceSub, Nat.reduceEqDiff, lN_lt', lN_le', lN_inj, lc_lt, lc_gt, lc_le, lc_ge, lc_eq, Nat.reduceLT, Nat.reduceLeDiff, reduceCtorEq, Nat.add_zero, Nat.zero_add]
  | succ q ih =>
    intro k n hq hn
    obtain ⟨n, rfl⟩ : ∃ n', n = n' + 1 := ⟨n - 1, by omega⟩
    rw [jX1_span_5_eq]
    have o0 := cs_ofKind (N := N) (f := f) (b := false) (wd := 0) hE (show k ≤ 9 by omega) hij hj hT (by omega) (fun _ => rfl) hN
    have o1 := cs_ofKind (N := N) (f := f) (b := true) (wd := 0) hE (show k ≤ 9 by omega) hij hj hT (by omega) (fun _ => rfl) hN
    rw [kw_0, b2_f] at o0
    rw [kw_0, b2_t] at o1
    rw [ic_lit, ic_lit, ic_lit, o0, am_cl_ok, o1, am_cl_ok, nI_add]
    rw [if_neg (fun q => by rw [nI_ltI (by omega) (by omega)] at q; omega)]
    have hs : sm (fun k => cK V (ct V) k false i j + cK V (ct V) k true i j) 0 (k + 1) = sm (fun k => cK V (ct V) k false i j + cK V (ct V) k true i j) 0 k + (cK V (ct V) k false i j + cK V (ct V) k true i j) := by
      rw [sm_app]
      simp [sm]
    have hm := sm_mono (f := fun k => cK V (ct V) k false i j + cK V (ct V) k true i j) (n := k + 1) (m := 10) 0 (by omega)
    rw [lN_add, lN_add, MOST_lN, if_pos ((pk_lLT (by omega) (by omega)).mpr (by omega)), jX1_span_5_bk, Nat.add_assoc, ← hs]
    exact ih (k + 1) n (by omega) (by omega)
theorem cs_span {f i j : Nat} (hE : cE σ V h) (hij : i < j) (hj : j ≤ h) (hT : cT σ V h (j - i)) (hN : 30 ≤ N) : cs_call N (f + 5) 31 [.inl (.ref 0), .inl (.int (nI i)), .inl (.int (nI j))] (σ) = some (.inl (some (.inl (.long (lN (ct V i j))))), σ) := by
  rw [dX1_span_eq]
  unfold dX1_span
  have := cs_spanLoop (N := N) (f := f) hE hij hj hT hN 10 0 N (by omega) (by omega)
  simp only [sm] at this
  rw [ic_lit]
  exact this
end
