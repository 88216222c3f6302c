set_option maxRecDepth 100000
section
variable {N : Nat} {V : EV} {h : Nat}
theorem cs_reading (hN : 1000 ≤ N) (n0 : Nat) : ∀ (d i j k : Nat) (σ : cs_S) (f : Nat), j - i ≤ d → cE σ V h → i < j → j ≤ h → cT σ V h (h + 1) → k < ct V i j → (cs_y σ)[n0]? = some 1 → (cs_t σ 100).length ≤ 120 → (cs_t σ (400 + n0)).length + (j - i) ≤ 20 → (cs_c σ (400 + n0)).1 ≤ 40 → 2 * d + 12 ≤ f →
    ∃ t σ', cs_call N (f) 38 [.inl (.ref 0), .inl (.int (nI i)), .inl (.int (nI j)), .inl (.long (lN k)), .inr (.inner n0 52 0 .leaf .leaf)] (σ) = some (.inl (some (.inr (t))), σ') ∧ Rd V t i j k ∧ tr_wf t ∧ tr_num t ((cs_t σ 100).length + (cs_t σ (400 + n0)).length) ∧ cs_t σ' (400 + n0) = cs_t σ (400 + n0) ++ tr_post t ∧ cs_kd (400 + n0) (tr_sz t) σ σ' ∧ (cs_c σ' (400 + n0)).1 ≤ 40 := by
  intro d
  induction d with
  | zero => intro i j k σ f hd hE hij; omega
  | succ d ih =>
    intro i j k σ f hd hE hij hj hT hk hy1 h120 h20l hcap hf
    have h20 := hE.1
    obtain ⟨f, rfl⟩ : ∃ f', f = f' + 12 := ⟨f - 12, by omega⟩
    have hl := ct_lt V (i := i) (j := j) (by omega)
    rw [dX1_reading_eq]
    unfold dX1_reading
    refine cs_rdKinds (N := N) (f := f + 7) hE hij hj (fun a b h1 h2 h3 => hT a b h1 h2 (by omega)) (by omega) (lN k) (.inner n0 52 0 .leaf .leaf) (fun r => ∃ t σ', r = some (.inl (some (.inr (t))), σ') ∧ Rd V t i j k ∧ tr_wf t ∧ tr_num t ((cs_t σ 100).length + (cs_t σ (400 + n0)).length) ∧ cs_t σ' (400 + n0) = cs_t σ (400 + n0) ++ tr_post t ∧ cs_kd (400 + n0) (tr_sz t) σ σ' ∧ (cs_c σ' (400 + n0)).1 ≤ 40) ?_ 10 0 N k none none none none (by omega) (by omega) (by omega) (by simp [sm]) (by rw [ct_eq V hij] at hk; exact hk)
    intro kk b w r hk9 hw1 hw2 hr hkeq
    have hbN : bN b ≤ 1 := by cases b <;> simp [bN]
    have hsm1 : sm (hv V kk b i j) 1 (w - 1) + hv V kk b i j w ≤ cK V (ct V) kk b i j := by
      rw [← hv_sum V hij]
      have e : sm (hv V kk b i j) 1 w = sm (hv V kk b i j) 1 (w - 1) + hv V kk b i j w := by
        rw [sm_last (by omega), show 1 + w - 1 = w by omega]
      rw [← e]
      exact sm_mono 1 hw2
    have hcKle := cK_le (V := V) kk b i j hk9
    have hg : gK V kk b i j = true := by
      cases q : gK V kk b i j with
      | true => rfl
      | false =>
        have : cK V (ct V) kk b i j = 0 := by
          unfold cK
          rw [q]
          rfl
        omega
    have hcK : cK V (ct V) kk b i j = cP V (ct V) kk (i + bN b) (j - bN b) := cK_g hg
    have hsmS : sm (cc20 V (ct V) i j) 0 (2 * kk + bN b) ≤ 20000000 := by
      have := sm_mono (f := cc20 V (ct V) i j) (n := 2 * kk + bN b) (m := 20) 0 (by omega)
      rw [ct_eq V hij] at hl
      unfold cS at hl
      omega
    have hcP := cP_lt V (k := kk) (i := i + bN b) (j := j - bN b) hk9 (by omega)
    have hkk : k = sm (cc20 V (ct V) i j) 0 (2 * kk + bN b) + (sm (hv V kk b i j) 1 (w - 1) + r) := (pk_lEQ (by omega) (by omega)).mp hkeq
    have hrt : sm (hv V kk b i j) 1 (w - 1) + r < cP V (ct V) kk (i + bN b) (j - bN b) := by omega
    have hgb : b = true → i + 2 < j := fun q => by
      subst q
      exact (gK_t hg).1
    have hlt' : i + bN b < j - bN b := by
      cases b with
      | false => simpa [bN] using hij
      | true => have := hgb rfl; simp only [bN, if_true]; omega
    obtain ⟨hvi, hei⟩ := hE.2.2.1 (i + bN b) (by omega)
    have hlf : ∀ {z : Tr}, tr_lf z = true → z = .leaf := fun {z} q => by
      cases z with
      | leaf => rfl
      | inner _ _ _ _ _ => cases q
    rw [show f + 7 + 4 = f + 10 + 1 by omega, dX1_reading_2_eq]
    unfold dX1_reading_2
    simp (disch := omega) only [ic_lit, ic_m1, ic_m2, ic_m3, am_ix_nI, am_ci_ok, am_cl_ok, am_cv_ok, am_ct_ok, am_dz_nI, nI_inj, nI_leI', nI_ltI', nI_lt0, nI_ge0, nI_eq0, nI_le0, nI_gt0, m2lt, m2ge, m2eq, eq_m2, nI_add, nI_subI, nI_mulI, b2_eq0, b2_eq1, b2_and1, band1, band0, if_true, if_false, ite_true, ite_false, cond_true, cond_false, ↓reduceIte, Nat.reduceAdd, Nat.reduceMul, Nat.reduceSub, Nat.reduceEqDiff, lN_lt', lN_le', lN_inj, lc_lt, lc_gt, lc_le, lc_ge, lc_eq, Nat.reduceLT, Nat.reduceLeDiff, reduceCtorEq, Nat.add_zero, Nat.zero_add, hei]
    by_cases k1 : kk = 1
    · subst k1
      have hnum := cP_1 hrt
      have hdg := num_dg hnum.1
      rw [if_pos rfl, cs_numberOf hE (by omega) (by omega) (by omega), am_ci_ok, if_pos (.inl hnum.1), jX1_reading_2_26_20_eq, jX1_reading_2_26_eq]
      simp (disch := omega) only [ic_lit, ic_m1, ic_m2, ic_m3, am_ix_nI, am_ci_ok, am_cl_ok, am_cv_ok, am_ct_ok, am_dz_nI, nI_inj, nI_leI', nI_ltI', nI_lt0, nI_ge0, nI_eq0, nI_le0, nI_gt0, m2lt, m2ge, m2eq, eq_m2, nI_add, nI_subI, nI_mulI, b2_eq0, b2_eq1, b2_and1, band1, band0, if_true, if_false, ite_true, ite_false, cond_true, cond_false, ↓reduceIte, Nat.reduceAdd, Nat.reduceMul, Nat.reduceSub, Nat.reduceEqDiff, lN_lt', lN_le', lN_inj, lc_lt, lc_gt, lc_le, lc_ge, lc_eq, Nat.reduceLT, Nat.reduceLeDiff, reduceCtorEq, Nat.add_zero, Nat.zero_add, jX1_reading_2_95_33_eq, jX1_reading_2_95_eq]
      have hwf : tr_wf (.inner ((cs_t σ 100).length + (cs_t σ (400 + n0)).length) 1 (numV V.1 (i + bN b) (j - bN b - (i + bN b)) 0) .leaf .leaf) := ⟨trivial, trivial, .inr (.inl ⟨rfl, hdg.2, rfl, rfl⟩)⟩
      obtain ⟨σ', e, e2, e3, e4⟩ := cs_rdMake (N := N) (f := f) (nI 1) (nI (i + bN b)) (nI (j - bN b)) (nI w) (lN r) none (am_bk (cs_hop 1 (cs_call N (f + 10))) am_no (some (.object "FormulaVoice$Node")) kX1_reading_2 N) rfl hy1 h120 (by omega) hcap hwf (by simp [tr_dp]) (by simp [tr_dp]) (fun _ => rfl)
      rw [jX1_reading_2_163_149_eq, e]
      refine ⟨_, σ', rfl, ⟨b, _, hij, by omega, hg, hkk, hrt, .inr (.inl ⟨rfl, rfl, rfl, rfl⟩)⟩, hwf, ⟨by simp [tr_sz], trivial, trivial⟩, by simpa [tr_post] using e2, by simpa [tr_sz] using e3, e4⟩
    · rw [if_neg k1, jX1_reading_2_26_eq]
      simp (disch := omega) only [ic_lit, ic_m1, ic_m2, ic_m3, am_ix_nI, am_ci_ok, am_cl_ok, am_cv_ok, am_ct_ok, am_dz_nI, nI_inj, nI_leI', nI_ltI', nI_lt0, nI_ge0, nI_eq0, nI_le0, nI_gt0, m2lt, m2ge, m2eq, eq_m2, nI_add, nI_subI, nI_mulI, b2_eq0, b2_eq1, b2_and1, band1, band0, if_true, if_false, ite_true, ite_false, cond_true, cond_false, ↓reduceIte, Nat.reduceAdd, Nat.reduceMul, Nat.reduceSub, Nat.reduceEqDiff, lN_lt', lN_le', lN_inj, lc_lt, lc_gt, lc_le, lc_ge, lc_eq, Nat.reduceLT, Nat.reduceLeDiff, reduceCtorEq, Nat.add_zero, Nat.zero_add, jX1_reading_2_95_33_eq, jX1_reading_2_95_39_eq, jX1_reading_2_95_eq]
      by_cases k0 : kk = 0
      · subst k0
        obtain ⟨a1, a2, a3, a4⟩ := cP_0 hrt
        rw [if_pos (by omega), if_neg (by omega), if_neg (by omega), if_neg (by omega)]
        have hwf : tr_wf (.inner ((cs_t σ 100).length + (cs_t σ (400 + n0)).length) 0 (V.1 (i + bN b)) .leaf .leaf) := ⟨trivial, trivial, .inl ⟨rfl, by omega, rfl, rfl⟩⟩
        obtain ⟨σ', e, e2, e3, e4⟩ := cs_rdMake (N := N) (f := f) (nI 0) (nI (i + bN b)) (nI (j - bN b)) (nI w) (lN r) none (am_bk (cs_hop 1 (cs_call N (f + 10))) am_no (some (.object "FormulaVoice$Node")) kX1_reading_2 N) rfl hy1 h120 (by omega) hcap hwf (by simp [tr_dp]) (by simp [tr_dp]) (fun _ => rfl)
        rw [jX1_reading_2_163_149_eq, e]
        exact ⟨_, σ', rfl, ⟨b, _, hij, by omega, hg, hkk, hrt, .inl ⟨rfl, rfl, rfl, rfl⟩⟩, hwf, ⟨by simp [tr_sz], trivial, trivial⟩, by simpa [tr_post] using e2, by simpa [tr_sz] using e3, e4⟩
      · rw [if_neg (by omega)]
        by_cases k2 : kk ≤ 6
        · have h26 : 2 ≤ kk ∧ kk ≤ 6 := by omega
          have ehv : ∀ u, 1 ≤ u → hv V kk b i j u = tm V (ct V) kk (i + bN b) (j - bN b) u := fun u hu => by
            unfold hv kw_ pw
            rw [if_pos h26, if_pos hg, if_neg (by omega)]
          rw [ehv w hw1] at hr
          have htw : 1 ≤ w ∧ w + 2 ≤ j - bN b - (i + bN b) ∧ V.1 (i + bN b + w) = 18 + kk := by
            unfold tm at hr
            split at hr
            · assumption
            · omega
          rw [tm_w htw.1 htw.2.1 htw.2.2] at hr
          have hB : 0 < ct V (i + bN b + w + 1) (j - bN b) := by
            rcases Nat.eq_zero_or_pos (ct V (i + bN b + w + 1) (j - bN b)) with q | q
            · rw [q, Nat.mul_zero] at hr
              omega
            · exact q
          have hBl := ct_lt V (i := i + bN b + w + 1) (j := j - bN b) (by omega)
          have hr9 : r < 2 ^ 62 := by omega
          have hkx : r / ct V (i + bN b + w + 1) (j - bN b) < ct V (i + bN b) (i + bN b + w) := (Nat.div_lt_iff_lt_mul hB).mpr hr
          have hky : r % ct V (i + bN b + w + 1) (j - bN b) < ct V (i + bN b + w + 1) (j - bN b) := Nat.mod_lt _ hB
          have hcl := hT (i + bN b + w + 1) (j - bN b) (by omega) (by omega) (by omega)
          rw [if_neg (by omega), am_ix_nI (by omega) (by omega), hcl, am_dzl_lN ⟨hB, by omega⟩]
          simp only [am_dzl_lN (show 0 < ct V (i + bN b + w + 1) (j - bN b) ∧ ct V (i + bN b + w + 1) (j - bN b) < 2 ^ 62 from ⟨hB, by omega⟩)]
          rw [pk_lDiv (by omega) hB (by omega)]
          obtain ⟨tx, σ1, e1, rx, wx, nx, px, qx, cx⟩ := ih (i + bN b) (i + bN b + w) (r / ct V (i + bN b + w + 1) (j - bN b)) σ (f + 10) (by omega) hE (by omega) (by omega) hT hkx hy1 h120 (by omega) hcap (by omega)
          have hsx := Rd_sz rx
          rw [e1, am_ct_ok, ← pk_lDiv (by omega) hB (by omega), pk_lRem (by omega) hB (by omega)]
          have hlen1 : (cs_t σ1 (400 + n0)).length = (cs_t σ (400 + n0)).length + tr_sz tx := by rw [px, List.length_append, tr_post_len]
          have h100 : cs_t σ1 100 = cs_t σ 100 := (qx.2.2.2.1 100 (by omega)).1
          obtain ⟨ty, σ2, e2, ry, wy, ny, py, qy, cy⟩ := ih (i + bN b + w + 1) (j - bN b) (r % ct V (i + bN b + w + 1) (j - bN b)) σ1 (f + 10) (by omega) (qx.E hE) (by omega) (by omega) (qx.T hT) hky (by rw [qx.2.2.2.2.2.1]; exact hy1) (by rw [h100]; exact h120) (by omega) cx (by omega)
          have hsy := Rd_sz ry
          rw [e2, am_ct_ok, jX1_reading_2_163_95_eq]
          have hlen2 : (cs_t σ2 (400 + n0)).length = (cs_t σ (400 + n0)).length + tr_sz tx + tr_sz ty := by rw [py, List.length_append, tr_post_len, hlen1]
          have h100' : cs_t σ2 100 = cs_t σ 100 := ((qy.2.2.2.1 100 (by omega)).1).trans h100
          have hxl : tr_lf tx = false := by
            cases tx with
            | leaf => exact rx.elim
            | inner _ _ _ _ _ => rfl
          have hyl : tr_lf ty = false := by
            cases ty with
            | leaf => exact ry.elim
            | inner _ _ _ _ _ => rfl
          have hwf : tr_wf (.inner ((cs_t σ2 100).length + (cs_t σ2 (400 + n0)).length) kk 0 tx ty) := ⟨wx, wy, .inr (.inr (.inl ⟨h26.1, h26.2, rfl, hxl, hyl⟩))⟩
          have hdx := tr_sz_dp tx
          have hdy := tr_sz_dp ty
          obtain ⟨σ3, e3, p3, q3, c3⟩ := cs_rdMake (N := N) (f := f) (vi := nI (V.1 (i + bN b))) (nI kk) (nI (i + bN b)) (nI (j - bN b)) (nI w) (lN r) (some (.inl (.long (lN (ct V (i + bN b + w + 1) (j - bN b)))))) (am_bk (cs_hop 1 (cs_call N (f + 10))) am_no (some (.object "FormulaVoice$Node")) kX1_reading_2 N) rfl (by rw [qy.2.2.2.2.2.1, qx.2.2.2.2.2.1]; exact hy1) (by rw [h100']; exact h120) (by omega) cy hwf (by omega) (by omega) (fun q => by omega)
          rw [e3]
          refine ⟨_, σ3, rfl, ⟨b, _, hij, by omega, hg, hkk, hrt, .inr (.inr (.inl ⟨h26.1, h26.2, rfl, w, _, _, htw.1, htw.2.1, htw.2.2, ?_, rx, ry⟩))⟩, hwf, ⟨?_, nx, ?_⟩, ?_, ?_, c3⟩
          · rw [sm_ext (g := tm V (ct V) kk (i + bN b) (j - bN b)) _ _ (fun m h1 _ => ehv m h1)]
            have := Nat.div_add_mod' r (ct V (i + bN b + w + 1) (j - bN b))
            omega
          · rw [h100', hlen2]
            omega
          · rw [hlen1, h100] at ny
            rw [Nat.add_assoc]
            exact ny
          · rw [p3, py, px]
            simp only [tr_post, List.append_assoc]
          · have := (qx.tr qy).tr q3
            rw [show tr_sz tx + tr_sz ty + 1 = tr_sz (.inner ((cs_t σ2 100).length + (cs_t σ2 (400 + n0)).length) kk 0 tx ty) by simp only [tr_sz]; omega] at this
            exact this
        · rw [if_pos (by omega)]
          -- one part
          have hone : ∀ (a c : Nat) (kk' v : Nat) (back : cs_bt), i + bN b < a → a < c → c ≤ j - bN b → sm (hv V kk b i j) 1 (w - 1) + r < ct V a c → w = 1 → (kk = 9 → v = V.1 (i + bN b) ∧ v ≤ 9) → (kk ≠ 9 → v = 0) → (∀ (x : Tr), Rd V x a c r → Rd V (.inner 0 kk v x .leaf) i j k) →
              ∃ t σ', am_ct (am_ct (cs_call N (f + 10) 38 [.inl (.ref 0), .inl (.int (nI a)), .inl (.int (nI c)), .inl (.long (lN r)), .inr (.inner n0 52 0 .leaf .leaf)] (σ)) am_tx fun x s => jX1_reading_2_163 back (cs_call N (f + 10)) s (nI kk) (nI (i + bN b)) (nI (j - bN b)) (nI w) (lN r) (.inner n0 52 0 .leaf .leaf) x .leaf (nI (V.1 (i + bN b))) none) am_tx (fun r8 s7 => some (.inl (some (.inr (r8))), s7)) = some (.inl (some (.inr (t))), σ') ∧ Rd V t i j k ∧ tr_wf t ∧ tr_num t ((cs_t σ 100).length + (cs_t σ (400 + n0)).length) ∧ cs_t σ' (400 + n0) = cs_t σ (400 + n0) ++ tr_post t ∧ cs_kd (400 + n0) (tr_sz t) σ σ' ∧ (cs_c σ' (400 + n0)).1 ≤ 40 := by
            intro a c kk' v back ha hac hc hrc hw1' hv9 hv0 hRd
            subst hw1'
            simp only [Nat.sub_self, sm, Nat.zero_add] at hrc
            obtain ⟨tx, σ1, e1, rx, wx, nx, px, qx, cx⟩ := ih a c r σ (f + 10) (by omega) hE hac (by omega) hT hrc hy1 h120 (by omega) hcap (by omega)
            have hsx := Rd_sz rx
            have hdx := tr_sz_dp tx
            have hlen1 : (cs_t σ1 (400 + n0)).length = (cs_t σ (400 + n0)).length + tr_sz tx := by rw [px, List.length_append, tr_post_len]
            have h100 : cs_t σ1 100 = cs_t σ 100 := (qx.2.2.2.1 100 (by omega)).1
            have hxl : tr_lf tx = false := by
              cases tx with
              | leaf => exact rx.elim
              | inner _ _ _ _ _ => rfl
            have hwf : tr_wf (.inner ((cs_t σ1 100).length + (cs_t σ1 (400 + n0)).length) kk v tx .leaf) := by
              refine ⟨wx, trivial, ?_⟩
              by_cases q9 : kk = 9
              · exact .inr (.inr (.inr (.inr ⟨q9, (hv9 q9).2, hxl, rfl⟩)))
              · exact .inr (.inr (.inr (.inl ⟨by omega, hv0 q9, hxl, rfl⟩)))
            rw [e1, am_ct_ok]
            obtain ⟨σ3, e3, p3, q3, c3⟩ := cs_rdMake (N := N) (f := f) (vi := nI (V.1 (i + bN b))) (nI kk) (nI (i + bN b)) (nI (j - bN b)) (nI 1) (lN r) none back rfl (by rw [qx.2.2.2.2.2.1]; exact hy1) (by rw [h100]; exact h120) (by omega) cx hwf (by omega) (by simp [tr_dp]) (fun q => by rw [(hv9 (by omega)).1])
            rw [e3]
            refine ⟨_, σ3, rfl, hRd tx rx, hwf, ⟨?_, nx, trivial⟩, ?_, ?_, c3⟩
            · rw [h100, hlen1]
              simp [tr_sz]
              omega
            · rw [p3, px]
              simp only [tr_post, List.append_assoc, List.nil_append]
            · have := qx.tr q3
              rw [show tr_sz tx + 1 = tr_sz (.inner ((cs_t σ1 100).length + (cs_t σ1 (400 + n0)).length) kk v tx .leaf) by simp only [tr_sz]; omega] at this
              exact this
          have hw1' : w = 1 := by
            unfold hv at hr
            rw [if_neg (by omega)] at hr
            split at hr
            · assumption
            · omega
          have hs0 : sm (hv V kk b i j) 1 (w - 1) + r = r := by rw [hw1']; simp [sm]
          by_cases k7 : kk = 7
          · subst k7
            obtain ⟨a1, a2, a3⟩ := cP_7 hrt
            rw [if_pos rfl]
            simp only [jX1_reading_2_163_118_eq]
            refine hone (i + bN b + 1) (j - bN b) 7 0 _ (by omega) (by omega) (Nat.le_refl _) a3 hw1' (fun q => by omega) (fun _ => rfl) (fun x rx => ⟨b, _, hij, by omega, hg, hkk, hrt, .inr (.inr (.inr (.inl ⟨rfl, rfl, rfl, a2, by rw [hs0]; exact rx⟩)))⟩)
          · rw [if_neg k7]
            by_cases k8 : kk = 8
            · subst k8
              obtain ⟨a1, a2, a3, a4⟩ := cP_8 hrt
              rw [if_pos rfl]
              simp only [jX1_reading_2_163_143_eq]
              refine hone (i + bN b + 1) (j - bN b - 1) 8 0 _ (by omega) (by omega) (by omega) a4 hw1' (fun q => by omega) (fun _ => rfl) (fun x rx => ⟨b, _, hij, by omega, hg, hkk, hrt, .inr (.inr (.inr (.inr (.inl ⟨rfl, rfl, rfl, a2, a3, by rw [hs0]; exact rx⟩))))⟩)
            · obtain rfl : kk = 9 := by omega
              obtain ⟨a1, a2, a3, a4, a5⟩ := cP_9 hrt
              rw [if_neg k8, if_pos rfl]
              refine hone (i + bN b + 2) (j - bN b) 9 (V.1 (i + bN b)) _ (by omega) (by omega) (Nat.le_refl _) a5 hw1' (fun _ => ⟨rfl, by omega⟩) (fun q => absurd rfl q) (fun x rx => ⟨b, _, hij, by omega, hg, hkk, hrt, .inr (.inr (.inr (.inr (.inr ⟨rfl, rfl, rfl, a2, a4, by rw [hs0]; exact rx⟩))))⟩)
end
