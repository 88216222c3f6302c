set_option maxRecDepth 100000
section
variable {N : Nat} {V : EV} {h : Nat} {σ : cs_S}
/-- what listening writes -/
def cs_kl (σ σ' : cs_S) : Prop := σ'.1 = σ.1 ∧ σ'.2.1 = σ.2.1 ∧ σ'.2.2.2 = σ.2.2.2
theorem cs_kl.E {σ' : cs_S} (hk : cs_kl σ σ') (hE : cE σ V h) : cE σ' V h := by
  unfold cE cs_i cs_a at *
  rw [hk.1, hk.2.1]
  exact hE
theorem cs_listLoop {f : Nat} (sti : Int32) (hN : 30 ≤ N) : ∀ (q w i n : Nat) (σ : cs_S), cE σ V h → 1 ≤ w → w ≤ h + 1 → (h + 1 - w) * (h + 2) + (h + 1 - i) ≤ q → q < n → cT σ V h w → (∀ a, a < i → a + w ≤ h → cs_l σ a (a + w) = lN (ct V a (a + w))) → i + w ≤ h + 1 → w ≤ h →
    ∃ σ', jX1_listens_17 (am_bk (cs_hop 1 (cs_call N (f + 5))) am_no (some .long) kX1_listens n) (cs_call N (f + 5)) σ sti (nI w) (nI i) = some (.inl (some (.inl (.long (lN (ct V 0 h))))), σ') ∧ cs_kl σ σ' ∧ cT σ' V h (h + 1) := by
  intro q
  induction q with
  | zero =>
    intro w i n σ hE h1 h2 h3 hn hT hi hiw hwh
    exfalso
    omega
  | succ q ih =>
    intro w i n σ hE h1 h2 h3 hn hT hi hiw hwh
    have hE' := hE
    obtain ⟨h20, h9, he, -, -, -⟩ := hE
    obtain ⟨n, rfl⟩ : ∃ n', n = n' + 1 := ⟨n - 1, by omega⟩
    rw [jX1_listens_17_eq]
    simp (disch := omega) only [ic_lit, ic_m1, ic_m2, ic_m3, am_ix_nI, am_ci_ok, am_cl_ok, am_cv_ok, am_ct_ok, am_dz_nI, nI_inj, nI_leI', nI_ltI', nI_lt0, nI_ge0, nI_eq0, nI_le0, nI_gt0, m2lt, m2ge, m2eq, eq_m2, nI_add, nI_subI, nI_mulI, b2_eq0, b2_eq1, b2_and1, band1, band0, if_true, if_false, ite_true, ite_false, cond_true, cond_false, ↓reduceIte, Nat.reduceAdd, Nat.reduceMul, Nat.reduceSub, Nat.reduceEqDiff, lN_lt', lN_le', lN_inj, lc_lt, lc_gt, lc_le, lc_ge, lc_eq, Nat.reduceLT, Nat.reduceLeDiff, reduceCtorEq, Nat.add_zero, Nat.zero_add, h9]
    by_cases hend : h < i + w
    · rw [if_pos hend]
      have hT' : cT σ V h (w + 1) := fun a b h4 h5 h6 => by
        by_cases e : b - a < w
        · exact hT a b h4 h5 e
        · obtain rfl : b = a + w := by omega
          exact hi a (by omega) h5
      rw [jX1_listens_7_bk, jX1_listens_7_eq]
      simp (disch := omega) only [ic_lit, ic_m1, ic_m2, ic_m3, am_ix_nI, am_ci_ok, am_cl_ok, am_cv_ok, am_ct_ok, am_dz_nI, nI_inj, nI_leI', nI_ltI', nI_lt0, nI_ge0, nI_eq0, nI_le0, nI_gt0, m2lt, m2ge, m2eq, eq_m2, nI_add, nI_subI, nI_mulI, b2_eq0, b2_eq1, b2_and1, band1, band0, if_true, if_false, ite_true, ite_false, cond_true, cond_false, ↓reduceIte, Nat.reduceAdd, Nat.reduceMul, Nat.reduceSub, Nat.reduceEqDiff, lN_lt', lN_le', lN_inj, lc_lt, lc_gt, lc_le, lc_ge, lc_eq, Nat.reduceLT, Nat.reduceLeDiff, reduceCtorEq, Nat.add_zero, Nat.zero_add, h9]
      by_cases hw : h < w + 1
      · rw [if_pos hw, if_neg (by omega)]
        refine ⟨σ, ?_, ⟨rfl, rfl, rfl⟩, fun a b h4 h5 h6 => hT' a b h4 h5 (by omega)⟩
        rw [hT' 0 h (by omega) (Nat.le_refl _) (by omega)]
      · rw [if_neg hw]
        have hmul : (h + 1 - w) * (h + 2) = (h + 1 - (w + 1)) * (h + 2) + (h + 2) := by
          rw [show h + 1 - w = (h + 1 - (w + 1)) + 1 by omega, Nat.add_mul, Nat.one_mul]
        exact ih (w + 1) 0 n σ hE' (by omega) (by omega) (by omega) (by omega) hT' (fun a h4 => by omega) (by omega) (by omega)
    · rw [if_neg hend, cs_span hE' (show i < i + w by omega) (by omega) (fun a b h4 h5 h6 => hT a b h4 h5 (by omega)) hN]
      simp (disch := omega) only [ic_lit, ic_m1, ic_m2, ic_m3, am_ix_nI, am_ci_ok, am_cl_ok, am_cv_ok, am_ct_ok, am_dz_nI, nI_inj, nI_leI', nI_ltI', nI_lt0, nI_ge0, nI_eq0, nI_le0, nI_gt0, m2lt, m2ge, m2eq, eq_m2, nI_add, nI_subI, nI_mulI, b2_eq0, b2_eq1, b2_and1, band1, band0, if_true, if_false, ite_true, ite_false, cond_true, cond_false, ↓reduceIte, Nat.reduceAdd, Nat.reduceMul, Nat.reduceSub, Nat.reduceEqDiff, lN_lt', lN_le', lN_inj, lc_lt, lc_gt, lc_le, lc_ge, lc_eq, Nat.reduceLT, Nat.reduceLeDiff, reduceCtorEq, Nat.add_zero, Nat.zero_add, jX1_listens_17_bk]
      have hk : cs_kl σ (cs_pl σ i (i + w) (lN (ct V i (i + w)))) := ⟨rfl, rfl, rfl⟩
      have hget : ∀ a b, cs_l (cs_pl σ i (i + w) (lN (ct V i (i + w)))) a b = if a = i ∧ b = i + w then lN (ct V i (i + w)) else cs_l σ a b := by
        intro a b
        show va_up σ.2.2.1 i (vp_updL (σ.2.2.1 i) (i + w) _) a b = _
        by_cases e : a = i
        · subst e
          rw [va_up_self]
          by_cases e2 : b = a + w
          · subst e2
            rw [pk_uLs, if_pos ⟨rfl, rfl⟩]
          · rw [pk_uLn e2, if_neg (fun z => e2 z.2)]
            rfl
        · rw [va_up_ne _ _ e, if_neg (fun z => e z.1)]
          rfl
      obtain ⟨σ', e, hk', hT'⟩ := ih w (i + 1) n (cs_pl σ i (i + w) (lN (ct V i (i + w)))) (hk.E hE') h1 h2 (by omega) (by omega) (fun a b h4 h5 h6 => by rw [hget, if_neg (by omega)]; exact hT a b h4 h5 h6) (fun a h4 h5 => by
        rw [hget]
        by_cases e : a = i
        · subst e
          rw [if_pos ⟨rfl, rfl⟩]
        · rw [if_neg (fun z => e z.1)]
          exact hi a (by omega) h5) (by omega) hwh
      exact ⟨σ', e, ⟨hk'.1.trans hk.1, hk'.2.1.trans hk.2.1, hk'.2.2.trans hk.2.2⟩, hT'⟩
/-- the ear is listened to -/
theorem cs_listens {f st : Nat} (hE : cE (cs_pi σ 11 (nI st)) V h) (hN : 1000 ≤ N) :
    ∃ σ', cs_call N (f + 6) 30 [.inl (.ref 0), .inl (.int (nI st))] (σ) = some (.inl (some (.inl (.long (lN (ct V 0 h))))), σ') ∧ cs_kl (cs_pi σ 11 (nI st)) σ' ∧ cE σ' V h ∧ cT σ' V h (h + 1) := by
  have h20 := hE.1
  have h9 := hE.2.1
  rw [dX1_listens_eq]
  unfold dX1_listens
  rw [jX1_listens_7_eq, ic_lit, h9]
  simp only [nI_ltI' (show h < 2 ^ 31 by omega) (show 1 < 2 ^ 31 by omega)]
  by_cases h0 : h < 1
  · obtain rfl : h = 0 := by omega
    rw [if_pos (by omega), if_pos nI_0]
    refine ⟨cs_pi σ 11 (nI st), ?_, ⟨rfl, rfl, rfl⟩, hE, fun a b h1 h2 => by omega⟩
    rw [ct_nil V (Nat.le_refl _)]
  · rw [if_neg h0]
    have hb : (h + 1 - 1) * (h + 2) ≤ 20 * 22 := Nat.mul_le_mul (by omega) (by omega)
    obtain ⟨σ', e, hk, hT⟩ := cs_listLoop (N := N) (f := f) (nI st) (by omega) ((h + 1 - 1) * (h + 2) + (h + 1)) 1 0 N (cs_pi σ 11 (nI st)) hE (by omega) (by omega) (by omega) (by omega) (fun a b h1 h2 h3 => by omega) (fun a h1 => by omega) (by omega) (by omega)
    exact ⟨σ', e, hk, hk.E hE, hT⟩
end
