set_option maxRecDepth 100000
section
variable {N : Nat} {V : EV} {h : Nat}
theorem mm_takes (hN : 1000 ≤ N) : ∀ (d i j k md : Nat) (μ : mm_S) (f : Nat), j - i ≤ d → mE μ V h → i < j → j ≤ h → mT μ V h (h + 1) → k < ct V i j → μ.1 29 = nI md → md + (j - i) ≤ 45 → 2 * d + 5 ≤ f →
    ∃ t μ', mm_call N (f) 47 [.inl (.ref 0), .inl (.int (nI i)), .inl (.int (nI j)), .inl (.long (lN k))] (μ) = some (.inl (some (.inl (.int (nI (400 + md + tr_sz t - 1))))), μ') ∧ Rd V t i j k ∧ tr_wf t ∧ mr μ' (400 + md) (400 + md + tr_sz t) t (nI (400 + md + tr_sz t - 1)) ∧ μ'.1 29 = nI (md + tr_sz t) ∧ mm_kt md μ μ' := by
  intro d
  induction d with
  | zero => intro i j k md μ f hd hE hij; omega
  | succ d ih =>
    intro i j k md μ f hd hE hij hj hT hk h29 hmd hf
    have h20 := hE.1
    have hE' := hE
    obtain ⟨f, rfl⟩ : ∃ f', f = f' + 5 := ⟨f - 5, by omega⟩
    have hl := ct_lt V (i := i) (j := j) (by omega)
    have hk' := hk
    rw [ct_eq V hij] at hk'
    obtain ⟨c, r, hc20, hkr, hr⟩ := find_sm (cc20 V (ct V) i j) 20 0 k hk'
    rw [Nat.zero_add] at hr
    rw [dX6_takes_eq]
    unfold dX6_takes
    rw [hkr, ic_lit]
    refine mm_tkLoop (N := N) (f := f + 4) (h := h) h20 hij hj hT (lN (sm (cc20 V (ct V) i j) 0 c + r)) (fun x => ∃ t μ', x = some (.inl (some (.inl (.int (nI (400 + md + tr_sz t - 1))))), μ') ∧ Rd V t i j (sm (cc20 V (ct V) i j) 0 c + r) ∧ tr_wf t ∧ mr μ' (400 + md) (400 + md + tr_sz t) t (nI (400 + md + tr_sz t - 1)) ∧ μ'.1 29 = nI (md + tr_sz t) ∧ mm_kt md μ μ') 900 r (by omega) c 0 N (by omega) (by omega) (by rw [Nat.zero_add]; exact hr) ?_
    intro n' hn'
    rw [Nat.zero_add]
    obtain ⟨kk, b, hkk, rfl⟩ : ∃ kk, ∃ b : Bool, kk ≤ 9 ∧ c = 2 * kk + bN b := by
      by_cases e : c % 2 = 1
      · exact ⟨c / 2, true, by omega, by simp only [bN, if_true]; omega⟩
      · exact ⟨c / 2, false, by omega, by simp only [bN, Bool.false_eq_true, if_false]; omega⟩
    have hbN : bN b ≤ 1 := by cases b <;> simp [bN]
    rw [cc20_b] at hr
    have hg : gK V kk b i j = true := by
      cases q : gK V kk b i j with
      | true => rfl
      | false =>
        have : cK V (ct V) kk b i j = 0 := by
          unfold cK
          rw [q]
          rfl
        omega
    rw [cK_g hg] at hr
    have hgb : b = true → i + 2 < j := fun q => by
      subst q
      exact (gK_t hg).1
    have hlt' : i + bN b < j - bN b := by
      cases b with
      | false => simpa [bN] using hij
      | true => have := hgb rfl; simp only [bN, if_true]; omega
    obtain ⟨hvi, hei⟩ := hE.2.2.1 (i + bN b) (by omega)
    have hdiv : nI (2 * kk + bN b) / nI 2 = nI kk := by rw [pk_div (by omega) (by omega) (by omega)]; exact congrArg nI (by omega)
    have hcP := cP_lt V (k := kk) (i := i + bN b) (j := j - bN b) hkk (by omega)
    -- to the switch
    suffices hs : ∀ back, (∃ n'' , 900 ≤ n'' ∧ back = am_bk (mm_hop (mm_call N (f + 4))) am_no (some .int) kX6_takes n'') → ∃ t μ', jX6_takes_89 back (mm_call N (f + 4)) μ (nI i) (nI j) (lN (sm (cc20 V (ct V) i j) 0 (2 * kk + bN b) + r)) (lN r) (nI (2 * kk + bN b)) (nI (i + bN b)) (nI (j - bN b)) = some (.inl (some (.inl (.int (nI (400 + md + tr_sz t - 1))))), μ') ∧ Rd V t i j (sm (cc20 V (ct V) i j) 0 (2 * kk + bN b) + r) ∧ tr_wf t ∧ mr μ' (400 + md) (400 + md + tr_sz t) t (nI (400 + md + tr_sz t - 1)) ∧ μ'.1 29 = nI (md + tr_sz t) ∧ mm_kt md μ μ' by
      have hs := hs _ ⟨n', hn', rfl⟩
      have hrem : nI (2 * kk + bN b) - nI (2 * kk + bN b) / nI 2 * nI 2 = nI (bN b) := by rw [pk_rem (by omega) (by omega) (by omega)]; exact congrArg nI (by omega)
      cases b with
      | false =>
        simp only [bN_f, Nat.add_zero, Nat.sub_zero] at hs hrem ⊢
        simp (disch := omega) only [ic_lit, ic_m1, ic_m2, ic_m3, am_ix_nI, am_ci_ok, am_cl_ok, am_cv_ok, am_ct_ok, am_dz_nI, nI_inj, nI_leI', nI_ltI', nI_lt0, nI_ge0, nI_eq0, nI_le0, nI_gt0, m2lt, m2ge, m2eq, eq_m2, nI_add, nI_subI, nI_mulI, b2_eq0, b2_eq1, b2_and1, band1, band0, if_true, if_false, ite_true, ite_false, cond_true, cond_false, ↓reduceIte, Nat.reduceAdd, Nat.reduceMul, Nat.reduceSub, Nat.reduceEqDiff, lN_lt', lN_le', lN_inj, lc_lt, lc_gt, lc_le, lc_ge, lc_eq, Nat.reduceLT, Nat.reduceLeDiff, reduceCtorEq, Nat.add_zero, Nat.zero_add, hrem, jX6_takes_72_71_eq, jX6_takes_72_eq, jX6_takes_89_88_eq]
        exact hs
      | true =>
        simp only [bN_t] at hs hrem ⊢
        simp (disch := omega) only [ic_lit, ic_m1, ic_m2, ic_m3, am_ix_nI, am_ci_ok, am_cl_ok, am_cv_ok, am_ct_ok, am_dz_nI, nI_inj, nI_leI', nI_ltI', nI_lt0, nI_ge0, nI_eq0, nI_le0, nI_gt0, m2lt, m2ge, m2eq, eq_m2, nI_add, nI_subI, nI_mulI, b2_eq0, b2_eq1, b2_and1, band1, band0, if_true, if_false, ite_true, ite_false, cond_true, cond_false, ↓reduceIte, Nat.reduceAdd, Nat.reduceMul, Nat.reduceSub, Nat.reduceEqDiff, lN_lt', lN_le', lN_inj, lc_lt, lc_gt, lc_le, lc_ge, lc_eq, Nat.reduceLT, Nat.reduceLeDiff, reduceCtorEq, Nat.add_zero, Nat.zero_add, hrem, jX6_takes_72_71_eq, jX6_takes_72_eq, jX6_takes_89_88_eq]
        exact hs
    rintro back ⟨n'', hn'', rfl⟩
    rw [jX6_takes_89_eq, ic_lit, am_dz_nI (by omega), hdiv]
    have hne : ∀ {c : Nat}, kk ≠ c → c < 100 → ¬ nI kk = nI c := fun {c} q hc z => q ((nI_eq (by omega) (by omega)).mp z)
    have hm2 : ∀ (z : Nat), mr μ z (400 + md) .leaf (-2) := fun _ => rfl
    -- a leaf
    have hleaf : ∀ v, (kk = 0 ∨ kk = 1) → v ≤ 9999 → (kk = 0 → v ≤ 9) → Rd V (.inner 0 kk v .leaf .leaf) i j (sm (cc20 V (ct V) i j) 0 (2 * kk + bN b) + r) → ∃ t μ', am_ci (mm_call N (f + 4) 48 [.inl (.ref 0), .inl (.int (nI kk)), .inl (.int (nI v)), .inl (.int (-2)), .inl (.int (-2))] (μ)) am_tx (fun r s => some (.inl (some (.inl (.int (r)))), s)) = some (.inl (some (.inl (.int (nI (400 + md + tr_sz t - 1))))), μ') ∧ Rd V t i j (sm (cc20 V (ct V) i j) 0 (2 * kk + bN b) + r) ∧ tr_wf t ∧ mr μ' (400 + md) (400 + md + tr_sz t) t (nI (400 + md + tr_sz t - 1)) ∧ μ'.1 29 = nI (md + tr_sz t) ∧ mm_kt md μ μ' := by
      intro v hk01 hv hv0 hRd
      obtain ⟨μ', e, e1, e2, e3⟩ := mm_makes (N := N) (f := f + 2) (n := 0) (k := kk) (v := v) (lo := 400 + md) h29 (by omega) (hm2 _) (hm2 _) (Nat.le_refl _) (by simp [tr_sz]) (by simp [tr_sz])
      have hvI : tr_vI kk v = nI v := by
        unfold tr_vI
        rw [if_pos (by omega)]
      rw [hvI] at e
      rw [e, am_ci_ok]
      refine ⟨.inner 0 kk v .leaf .leaf, μ', rfl, hRd, ⟨trivial, trivial, ?_⟩, e1, e2, e3⟩
      rcases hk01 with rfl | rfl
      · exact .inl ⟨rfl, hv0 rfl, rfl, rfl⟩
      · exact .inr (.inl ⟨rfl, hv, rfl, rfl⟩)
    -- one part
    have hone : ∀ (a c v : Nat), i + bN b < a → a < c → c ≤ j - bN b → r < ct V a c → 7 ≤ kk → (kk = 9 → v ≤ 9) → (kk ≠ 9 → v = 0) → (∀ (x : Tr), Rd V x a c r → Rd V (.inner 0 kk v x .leaf) i j (sm (cc20 V (ct V) i j) 0 (2 * kk + bN b) + r)) →
        ∃ t μ', am_ci (mm_call N (f + 4) 47 [.inl (.ref 0), .inl (.int (nI a)), .inl (.int (nI c)), .inl (.long (lN r))] (μ)) am_tx (fun r49 s48 => am_ci (mm_call N (f + 4) 48 [.inl (.ref 0), .inl (.int (nI kk)), .inl (.int (tr_vI kk v)), .inl (.int (r49)), .inl (.int (-2))] (s48)) am_tx (fun r s => some (.inl (some (.inl (.int (r)))), s))) = some (.inl (some (.inl (.int (nI (400 + md + tr_sz t - 1))))), μ') ∧ Rd V t i j (sm (cc20 V (ct V) i j) 0 (2 * kk + bN b) + r) ∧ tr_wf t ∧ mr μ' (400 + md) (400 + md + tr_sz t) t (nI (400 + md + tr_sz t - 1)) ∧ μ'.1 29 = nI (md + tr_sz t) ∧ mm_kt md μ μ' := by
      intro a c v ha hac hc hrc h7 hv9 hv0 hRd
      obtain ⟨tx, μ1, e1, rx, wx, mx, nx, qx⟩ := ih a c r md μ (f + 4) (by omega) hE' hac (by omega) hT hrc h29 (by omega) (by omega)
      have hsx := Rd_sz rx
      rw [e1, am_ci_ok]
      obtain ⟨μ', e, e1, e2, e3⟩ := mm_makes (N := N) (f := f + 2) (n := 0) (k := kk) (v := v) (lo := 400 + md) (tx := tx) (ty := .leaf) nx (by omega) (by rw [← Nat.add_assoc]; exact mx) (show mr μ1 (400 + md) (400 + (md + tr_sz tx)) .leaf (-2) from rfl) (by omega) (by omega) (by simp [tr_sz])
      rw [e, am_ci_ok]
      have hxl : tr_lf tx = false := by
        cases tx with
        | leaf => exact rx.elim
        | inner _ _ _ _ _ => rfl
      have hsz : tr_sz (.inner 0 kk v tx .leaf) = tr_sz tx + 1 := by simp only [tr_sz]; omega
      refine ⟨.inner 0 kk v tx .leaf, μ', ?_, hRd tx rx, ⟨wx, trivial, ?_⟩, ?_, ?_, qx.tr e3 (by omega)⟩
      · rw [hsz, show 400 + md + (tr_sz tx + 1) - 1 = 400 + (md + tr_sz tx) by omega]
      · by_cases q9 : kk = 9
        · exact .inr (.inr (.inr (.inr ⟨q9, hv9 q9, hxl, rfl⟩)))
        · exact .inr (.inr (.inr (.inl ⟨by omega, hv0 q9, hxl, rfl⟩)))
      · rw [hsz, show 400 + md + (tr_sz tx + 1) - 1 = 400 + (md + tr_sz tx) by omega, show 400 + md + (tr_sz tx + 1) = 400 + (md + tr_sz tx) + 1 by omega]
        exact e1
      · rw [hsz, ← Nat.add_assoc]
        exact e2
    by_cases k0 : kk = 0
    · subst k0
      obtain ⟨a1, a2, a3, a4⟩ := cP_0 hr
      rw [if_pos rfl, am_ix_nI (by omega) (by omega), hei, ic_lit, ic_m2]
      exact hleaf (V.1 (i + bN b)) (.inl rfl) (by omega) (fun _ => by omega) ⟨b, r, hij, by omega, hg, rfl, hr, .inl ⟨rfl, rfl, rfl, rfl⟩⟩
    · rw [if_neg (hne k0 (by omega))]
      by_cases k1 : kk = 1
      · subst k1
        have hnum := cP_1 hr
        have hdg := num_dg hnum.1
        have hie := isNum_e hnum.1
        rw [if_pos rfl, ic_lit, mm_tkNum (N := N) (f := f + 4) (h := h) (V := V) hE' (by omega) (by omega) (fun m h1 h2 => (hie.2.2.2 m h1 h2).1) _ _ _ _ _ (j - bN b - (i + bN b)) (i + bN b) n'' 0 (Nat.le_refl _) (by omega) (by omega)]
        exact hleaf _ (.inr rfl) hdg.2 (fun q => by omega) ⟨b, r, hij, by omega, hg, rfl, hr, .inr (.inl ⟨rfl, rfl, rfl, rfl⟩)⟩
      · rw [if_neg (hne k1 (by omega))]
        by_cases k6 : kk ≤ 6
        · have h26 : 2 ≤ kk ∧ kk ≤ 6 := by omega
          suffices ht : ∃ t μ', am_ci (mm_call N (f + 4) 49 [.inl (.ref 0), .inl (.int (nI kk)), .inl (.int (nI (i + bN b))), .inl (.int (nI (j - bN b))), .inl (.long (lN r))] (μ)) am_tx (fun r s => some (.inl (some (.inl (.int (r)))), s)) = some (.inl (some (.inl (.int (nI (400 + md + tr_sz t - 1))))), μ') ∧ Rd V t i j (sm (cc20 V (ct V) i j) 0 (2 * kk + bN b) + r) ∧ tr_wf t ∧ mr μ' (400 + md) (400 + md + tr_sz t) t (nI (400 + md + tr_sz t - 1)) ∧ μ'.1 29 = nI (md + tr_sz t) ∧ mm_kt md μ μ' by
            obtain rfl | rfl | rfl | rfl | rfl : kk = 2 ∨ kk = 3 ∨ kk = 4 ∨ kk = 5 ∨ kk = 6 := by omega
            · rw [if_pos rfl, am_dz_nI (by omega)]; exact ht
            · rw [if_neg (by decide), if_pos rfl, am_dz_nI (by omega)]; exact ht
            · rw [if_neg (by decide), if_neg (by decide), if_pos rfl, am_dz_nI (by omega)]; exact ht
            · rw [if_neg (by decide), if_neg (by decide), if_neg (by decide), if_pos rfl, am_dz_nI (by omega)]; exact ht
            · rw [if_neg (by decide), if_neg (by decide), if_neg (by decide), if_neg (by decide), if_pos rfl, am_dz_nI (by omega)]; exact ht
          rw [cP_two h26.1 h26.2] at hr
          obtain ⟨w1, r', hw1, hrw, hr'⟩ := find_sm _ _ _ _ hr
          have htw : 1 ≤ 1 + w1 ∧ (1 + w1) + 2 ≤ j - bN b - (i + bN b) ∧ V.1 (i + bN b + (1 + w1)) = 18 + kk := by
            unfold tm at hr'
            split at hr'
            · assumption
            · omega
          rw [tm_w htw.1 htw.2.1 htw.2.2] at hr'
          have hB : 0 < ct V (i + bN b + (1 + w1) + 1) (j - bN b) := by
            rcases Nat.eq_zero_or_pos (ct V (i + bN b + (1 + w1) + 1) (j - bN b)) with q | q
            · rw [q, Nat.mul_zero] at hr'
              omega
            · exact q
          rw [show f + 4 = f + 3 + 1 by omega, dX6_takesTwo_eq]
          unfold dX6_takesTwo
          rw [hrw, ic_lit, nI_add]
          refine mm_tkTwo (N := N) (f := f + 2) (h := h) hE' hlt' (by omega) hT h26 (lN (sm (tm V (ct V) kk (i + bN b) (j - bN b)) 1 w1 + r')) (fun x => ∃ t μ', am_ci x am_tx (fun r s => some (.inl (some (.inl (.int (r)))), s)) = some (.inl (some (.inl (.int (nI (400 + md + tr_sz t - 1))))), μ') ∧ Rd V t i j (sm (cc20 V (ct V) i j) 0 (2 * kk + bN b) + (sm (tm V (ct V) kk (i + bN b) (j - bN b)) 1 w1 + r')) ∧ tr_wf t ∧ mr μ' (400 + md) (400 + md + tr_sz t) t (nI (400 + md + tr_sz t - 1)) ∧ μ'.1 29 = nI (md + tr_sz t) ∧ mm_kt md μ μ') r' (1 + w1) htw hr' ?_ w1 1 N (by omega) (by omega) (by omega)
          obtain ⟨tx, μ1, e1, rx, wx, mx, nx, qx⟩ := ih (i + bN b) (i + bN b + (1 + w1)) (r' / ct V (i + bN b + (1 + w1) + 1) (j - bN b)) md μ (f + 3) (by omega) hE' (by omega) (by omega) hT ((Nat.div_lt_iff_lt_mul hB).mpr hr') h29 (by omega) (by omega)
          have hsx := Rd_sz rx
          rw [e1, am_ci_ok]
          obtain ⟨ty, μ2, e2, ry, wy, my, ny, qy⟩ := ih (i + bN b + (1 + w1) + 1) (j - bN b) (r' % ct V (i + bN b + (1 + w1) + 1) (j - bN b)) (md + tr_sz tx) μ1 (f + 3) (by omega) (qx.E hE') (by omega) (by omega) (qx.T hT) (Nat.mod_lt _ hB) nx (by omega) (by omega)
          have hsy := Rd_sz ry
          rw [e2, am_ci_ok]
          have mx' := mr_up (Nat.le_refl _) (show 400 + md + tr_sz tx ≤ 400 + (md + tr_sz tx + tr_sz ty) by omega) tx _ (qy.mv (by omega) mx)
          have my' := mr_up (show 400 + md ≤ 400 + (md + tr_sz tx) by omega) (show 400 + (md + tr_sz tx) + tr_sz ty ≤ 400 + (md + tr_sz tx + tr_sz ty) by omega) ty _ my
          obtain ⟨μ', e, e1', e2', e3⟩ := mm_makes (N := N) (f := f + 1) (n := 0) (k := kk) (v := 0) (lo := 400 + md) (tx := tx) (ty := ty) ny (by omega) mx' my' (by omega) (by omega) (by omega)
          have hvI : tr_vI kk 0 = -2 := by
            unfold tr_vI
            rw [if_neg (by omega)]
          rw [hvI] at e
          rw [e, am_ci_ok, am_ci_ok]
          have hxl : tr_lf tx = false := by
            cases tx with
            | leaf => exact rx.elim
            | inner _ _ _ _ _ => rfl
          have hyl : tr_lf ty = false := by
            cases ty with
            | leaf => exact ry.elim
            | inner _ _ _ _ _ => rfl
          have hsz : tr_sz (.inner 0 kk 0 tx ty) = tr_sz tx + tr_sz ty + 1 := by simp only [tr_sz]; omega
          rw [← cP_two h26.1 h26.2] at hr
          refine ⟨.inner 0 kk 0 tx ty, μ', ?_, ⟨b, _, hij, by omega, hg, rfl, by rw [← hrw]; exact hr, .inr (.inr (.inl ⟨h26.1, h26.2, rfl, 1 + w1, _, _, htw.1, htw.2.1, htw.2.2, ?_, rx, ry⟩))⟩, ⟨wx, wy, .inr (.inr (.inl ⟨h26.1, h26.2, rfl, hxl, hyl⟩))⟩, ?_, ?_, (qx.tr qy (by omega)).tr e3 (by omega)⟩
          · rw [hsz, show 400 + md + (tr_sz tx + tr_sz ty + 1) - 1 = 400 + (md + tr_sz tx + tr_sz ty) by omega]
          · rw [show 1 + w1 - 1 = w1 by omega]
            have := Nat.div_add_mod' r' (ct V (i + bN b + (1 + w1) + 1) (j - bN b))
            omega
          · rw [hsz, show 400 + md + (tr_sz tx + tr_sz ty + 1) - 1 = 400 + (md + tr_sz tx + tr_sz ty) by omega, show 400 + md + (tr_sz tx + tr_sz ty + 1) = 400 + (md + tr_sz tx + tr_sz ty) + 1 by omega]
            exact e1'
          · rw [hsz, show md + (tr_sz tx + tr_sz ty + 1) = md + tr_sz tx + tr_sz ty + 1 by omega]
            exact e2'
        · rw [if_neg (hne (by omega) (by omega)), if_neg (hne (by omega) (by omega)), if_neg (hne (by omega) (by omega)), if_neg (hne (by omega) (by omega)), if_neg (hne (by omega) (by omega))]
          by_cases k7 : kk = 7
          · subst k7
            obtain ⟨a1, a2, a3⟩ := cP_7 hr
            rw [if_pos rfl, ic_lit, nI_add, ic_lit, ic_m2]
            exact hone (i + bN b + 1) (j - bN b) 0 (by omega) (by omega) (Nat.le_refl _) a3 (by omega) (fun q => by omega) (fun _ => rfl) (fun x rx => ⟨b, _, hij, by omega, hg, rfl, hr, .inr (.inr (.inr (.inl ⟨rfl, rfl, rfl, a2, rx⟩)))⟩)
          · rw [if_neg (hne k7 (by omega))]
            by_cases k8 : kk = 8
            · subst k8
              obtain ⟨a1, a2, a3, a4⟩ := cP_8 hr
              rw [if_pos rfl, ic_lit, nI_add, nI_subI (by omega), ic_lit, ic_m2]
              exact hone (i + bN b + 1) (j - bN b - 1) 0 (by omega) (by omega) (by omega) a4 (by omega) (fun q => by omega) (fun _ => rfl) (fun x rx => ⟨b, _, hij, by omega, hg, rfl, hr, .inr (.inr (.inr (.inr (.inl ⟨rfl, rfl, rfl, a2, a3, rx⟩))))⟩)
            · obtain rfl : kk = 9 := by omega
              obtain ⟨a1, a2, a3, a4, a5⟩ := cP_9 hr
              rw [if_neg (by decide), if_pos rfl]
              simp (disch := omega) only [ic_lit, ic_m1, ic_m2, ic_m3, am_ix_nI, am_ci_ok, am_cl_ok, am_cv_ok, am_ct_ok, am_dz_nI, nI_inj, nI_leI', nI_ltI', nI_lt0, nI_ge0, nI_eq0, nI_le0, nI_gt0, m2lt, m2ge, m2eq, eq_m2, nI_add, nI_subI, nI_mulI, b2_eq0, b2_eq1, b2_and1, band1, band0, if_true, if_false, ite_true, ite_false, cond_true, cond_false, ↓reduceIte, Nat.reduceAdd, Nat.reduceMul, Nat.reduceSub, Nat.reduceEqDiff, lN_lt', lN_le', lN_inj, lc_lt, lc_gt, lc_le, lc_ge, lc_eq, Nat.reduceLT, Nat.reduceLeDiff, reduceCtorEq, Nat.add_zero, Nat.zero_add, hei]
              exact hone (i + bN b + 2) (j - bN b) (V.1 (i + bN b)) (by omega) (by omega) (Nat.le_refl _) a5 (by omega) (fun _ => by omega) (fun q => absurd rfl q) (fun x rx => ⟨b, _, hij, by omega, hg, rfl, hr, .inr (.inr (.inr (.inr (.inr ⟨rfl, rfl, rfl, a2, a4, rx⟩))))⟩)
end
