set_option maxRecDepth 100000
/-! THE OPERATIONS: saying, hearing. -/
section
variable {SM : List Tr} {FR : Nat → Int32} {N f : Nat}
theorem cs_same.of {σ σ' : cs_S} {w : Nat} (hw : w = 103 ∨ w = 104) (h : (∀ j, j ≠ w → j ≠ 105 → j ≠ 125 → σ'.1 j = σ.1 j) ∧ (∀ c, c ≠ w + 20 → σ'.2.1 c = σ.2.1 c) ∧ σ'.2.2 = σ.2.2) : cs_same σ σ' :=
  ⟨⟨h.1 1 (by omega) (by omega) (by omega), h.1 9 (by omega) (by omega) (by omega), h.1 17 (by omega) (by omega) (by omega)⟩, ⟨h.2.1 102 (by omega), h.2.1 107 (by omega), h.2.1 108 (by omega), h.2.1 116 (by omega)⟩, by rw [h.2.2]⟩
theorem mm_same.of {μ μ' : mm_S} (h : (∀ j, j ≠ 18 → j ≠ 19 → j ≠ 20 → μ'.1 j = μ.1 j) ∧ (∀ c, c ≠ 17 → μ'.2.1 c = μ.2.1 c) ∧ μ'.2.2 = μ.2.2) : mm_same μ μ' :=
  ⟨⟨h.1 0 (by omega) (by omega) (by omega), h.1 10 (by omega) (by omega) (by omega), h.1 30 (by omega) (by omega) (by omega), h.1 33 (by omega) (by omega) (by omega)⟩, ⟨fun c hc => h.2.1 c (by omega), h.2.1 8 (by omega), h.2.1 9 (by omega), h.2.1 31 (by omega), h.2.1 32 (by omega)⟩, fun c h1 h2 j _ => by rw [h.2.1 c (by omega)]⟩
theorem wlen_glen {K : Nat → Bool} {t : Tr} (h : tr_ok t) : glen K t (40 + 1) = wlen K t := glen_wlen K t 41 (by have := h.dp; omega)
theorem cm_nd.fr' {σ σ' : cs_S} {μ μ' : mm_S} (hq : cm_nd σ μ) (ht : cs_t σ' 100 = cs_t σ 100) (hc : cs_c σ' 100 = cs_c σ 100) (h0 : μ'.1 0 = μ.1 0) (hr : ∀ c, 1 ≤ c → c ≤ 6 → ∀ j, j < 120 → μ'.2.1 c j = μ.2.1 c j) : cm_nd σ' μ' := by
  obtain ⟨a, b, d, g⟩ := hq
  refine ⟨by rw [ht]; exact a, by rw [hc]; exact b, by rw [ht, h0]; exact d, ?_⟩
  rw [ht]
  intro j hj
  obtain ⟨g1, g2, g3⟩ := g j hj
  exact ⟨g1, g2, mn_of (H := 120) hr g3 (.inr (by rw [g2]; omega))⟩
theorem cm_wk.fr' {σ σ' : cs_S} {μ μ' : mm_S} (hq : cm_wk σ μ) (hnd : (cs_t σ 100).length ≤ 120) (ht : cs_t σ' 100 = cs_t σ 100) (hp : cs_p σ' = cs_p σ) (h17 : σ'.1 17 = σ.1 17) (h116 : σ'.2.1 116 = σ.2.1 116) (h30 : μ'.1 30 = μ.1 30) (h33 : μ'.1 33 = μ.1 33) (h31 : μ'.2.1 31 = μ.2.1 31) (h32 : μ'.2.1 32 = μ.2.1 32) (hr : ∀ c, 1 ≤ c → c ≤ 6 → ∀ j, j < 120 → μ'.2.1 c j = μ.2.1 c j) : cm_wk σ' μ' := by
  have h17 : cs_i σ' 17 = cs_i σ 17 := h17
  have h116 : ∀ j, cs_a σ' 116 j = cs_a σ 116 j := fun j => by unfold cs_a; rw [h116]
  rcases hq with ⟨a, b⟩ | ⟨d, a1, a2, a3, a4, a5, a6, a7, a8, a9⟩
  · exact .inl ⟨h17.trans a, h30.trans b⟩
  · refine .inr ⟨d, a1, h17.trans a2, h30.trans a3, h33.trans a4, by rw [hp, ht]; exact a5, by rw [hp]; exact a6, ?_, fun j hj => ?_, fun j hj => ?_⟩
    · rw [hp]
      exact mn_of (H := 120) hr a7 (.inr (by omega))
    · rw [hp, h31]
      exact a8 j hj
    · rw [hp, h116, h32]
      exact a9 j hj
theorem op_words (hf : 150 ≤ f) (hN : 1000 ≤ N) (a b : Int32) : opI SM FR N f 15 19 [.inl (.ref 0), .inl (.int (a)), .inl (.int (b))] := by
  intro c σ μ hR hc
  obtain ⟨F, K, e, h, nd, -, kp, -⟩ := id hR
  obtain ⟨f, rfl⟩ : ∃ f', f = f' + 20 := ⟨f - 20, by omega⟩
  rw [dX1_words_eq, dX6_words_eq]
  unfold dX1_words dX6_words
  rw [cs_isStyle, am_ci_ok, mm_isStyle, am_ci_ok]
  cases h1 : inR 0 7 a with
  | false =>
    rw [if_pos b2f0, if_pos b2f0]
    exact ⟨_, σ, μ, rfl, rfl, hR.up⟩
  | true =>
    obtain ⟨st, -, hst, rfl⟩ := inR_t (by omega) (by omega) h1
    rw [if_neg b2t0, if_neg b2t0, cs_isNode, am_ci_ok, mm_isNode _ nd.2.2.1, am_ci_ok]
    cases h2 : isN (cs_t σ 100).length b with
    | false =>
      rw [if_pos b2f0, if_pos b2f0]
      exact ⟨_, σ, μ, rfl, rfl, hR.up⟩
    | true =>
      have hl := nd.1
      obtain ⟨i, hi, rfl⟩ := isN_t (by omega) h2
      obtain ⟨a1, a2, a3, a4⟩ := nd.at hi
      have hdp := a1.dp
      have hwz := wlen_sz (K st) ((cs_t σ 100).getD i .leaf)
      have hsz := a1.2.2
      obtain ⟨σ', b', e1, hb', hcw, hfr⟩ := cs_says2 (N := N) (f := f + 19) (w := 103) (D := 40) (.inl rfl) (by omega) kp (show st < 8 by omega) (by omega) a1 (by omega)
      rw [if_neg b2t0, if_neg b2t0, cs_c201 rfl hi (by omega), am_ct_ok, a2, cond_true, ic_lit, e1, am_ci_ok, mm_length (K st) st (by omega) _ μ 0 120 _ (f + 19) a3 (by omega) a1.2.1 (fun k hk => ((kp st (by omega)).1.elim fun m q => (q.2.2 k hk).2)) (by omega), am_ci_ok]
      rw [wlen_glen a1] at hb'
      by_cases hz : wlen (K st) ((cs_t σ 100).getD i .leaf) ≤ 80
      · rw [decide_eq_true hz] at hb'
        subst hb'
        have hc1 := (hcw rfl).1
        rw [wsd_glen _ (kp st (by omega)).2 _ _ _ a1.2.1, wlen_glen a1] at hc1
        rw [if_neg b2t0, hc1, ic_lit, if_pos (nI_le hz (by omega))]
        exact ⟨_, σ', μ, rfl, rfl, hR.fr (cs_same.of (.inl rfl) hfr) (mm_same.rf μ)⟩
      · rw [decide_eq_false hz] at hb'
        subst hb'
        rw [if_pos b2f0, ic_lit, if_neg (nI_ge (by omega) (by omega))]
        exact ⟨_, σ', μ, rfl, rfl, hR.fr (cs_same.of (.inl rfl) hfr) (mm_same.rf μ)⟩
theorem op_word (hf : 150 ≤ f) (hN : 1000 ≤ N) (a b w : Int32) : opI SM FR N f 18 23 [.inl (.ref 0), .inl (.int (a)), .inl (.int (b)), .inl (.int (w))] := by
  intro c σ μ hR hc
  obtain ⟨F, K, e, h, nd, -, kp, -⟩ := id hR
  obtain ⟨f, rfl⟩ : ∃ f', f = f' + 20 := ⟨f - 20, by omega⟩
  rw [dX1_word_eq, dX6_word_eq]
  unfold dX1_word dX6_word
  rw [cs_isStyle, am_ci_ok, mm_isStyle, am_ci_ok]
  cases h1 : inR 0 7 a with
  | false =>
    rw [if_pos b2f0, if_pos b2f0]
    exact ⟨_, σ, μ, rfl, rfl, hR.up⟩
  | true =>
    obtain ⟨st, -, hst, rfl⟩ := inR_t (by omega) (by omega) h1
    rw [if_neg b2t0, if_neg b2t0, cs_isNode, am_ci_ok, mm_isNode _ nd.2.2.1, am_ci_ok]
    cases h2 : isN (cs_t σ 100).length b with
    | false =>
      rw [if_pos b2f0, if_pos b2f0]
      exact ⟨_, σ, μ, rfl, rfl, hR.up⟩
    | true =>
      have hl := nd.1
      obtain ⟨i, hi, rfl⟩ := isN_t (by omega) h2
      obtain ⟨a1, a2, a3, a4⟩ := nd.at hi
      have hdp := a1.dp
      have hwz := wlen_sz (K st) ((cs_t σ 100).getD i .leaf)
      have hsz := a1.2.2
      have hK := fun k hk => ((kp st (show st < 8 by omega)).1.elim fun m q => (q.2.2 k hk).2)
      rw [if_neg b2t0, if_neg b2t0]
      by_cases h0 : 0 ≤ w
      · obtain ⟨u, hu, rfl⟩ := nI_of (x := w) (fun q => by rw [Int32.lt_iff_toInt_lt] at q; rw [Int32.le_iff_toInt_le] at h0; omega)
        obtain ⟨σ', b', e1, hb', hcw, hfr⟩ := cs_says2 (N := N) (f := f + 19) (w := 103) (D := 40) (.inl rfl) (by omega) kp (show st < 8 by omega) (by omega) a1 (by omega)
        rw [if_pos h0, if_pos h0, cs_c201 rfl hi (by omega), am_ct_ok, a2, cond_true, ic_lit, e1, am_ci_ok, mm_length (K st) st (by omega) _ μ 0 120 _ (f + 19) a3 (by omega) a1.2.1 hK (by omega), am_ci_ok]
        rw [wlen_glen a1] at hb'
        by_cases hz : wlen (K st) ((cs_t σ 100).getD i .leaf) ≤ 80
        · rw [decide_eq_true hz] at hb'
          subst hb'
          obtain ⟨hc1, hc2, hc3⟩ := hcw rfl
          have hlen := wsd_glen _ (kp st (show st < 8 by omega)).2 _ 0 (40 + 1) a1.2.1
          rw [wlen_glen a1] at hlen
          rw [hlen] at hc1 hc3
          rw [if_neg b2t0, hc1, ic_lit, if_pos (nI_le hz (by omega))]
          by_cases hu2 : wlen (K st) ((cs_t σ 100).getD i .leaf) ≤ u
          · rw [if_pos (nI_le hu2 hu), if_neg (nI_nlt hu2 hu)]
            exact ⟨_, σ', μ, rfl, rfl, hR.fr (cs_same.of (.inl rfl) hfr) (mm_same.rf μ)⟩
          · obtain ⟨μ', e2, hmw, hmf⟩ := mm_sayAll (N := N) (K := K st) (b := 40 + 1) (f := f + 19) (show 120 ≤ 450 by omega) (show st < 8 by omega) (by omega) a3 a1.2.1 a1.1 hK (kp st (show st < 8 by omega)).2 (by omega) (by omega) (by omega)
            rw [if_neg (nI_ge (by omega) (by omega)), if_pos (nI_lt (by omega) (by omega)), e2, am_cv_ok, am_ix_nI (by omega) (by omega), am_ix_nI (by omega) (by omega), hc3 u (by omega), hmw.2.2 u (by omega)]
            exact ⟨_, σ', μ', rfl, rfl, hR.fr (cs_same.of (.inl rfl) hfr) (mm_same.of hmf)⟩
        · rw [decide_eq_false hz] at hb'
          subst hb'
          rw [if_pos b2f0, ic_lit, if_neg (nI_ge (by omega) (by omega))]
          exact ⟨_, σ', μ, rfl, rfl, hR.fr (cs_same.of (.inl rfl) hfr) (mm_same.rf μ)⟩
      · rw [if_neg h0, if_neg h0]
        exact ⟨_, σ, μ, rfl, rfl, hR.up⟩
theorem op_hush (hf : 150 ≤ f) : opI SM FR N f 26 36 [.inl (.ref 0)] := by
  intro c σ μ hR hc
  obtain ⟨F, K, e, h, nd, fn, kp, er, wk, sm, ct⟩ := id hR
  obtain ⟨f, rfl⟩ : ∃ f', f = f' + 20 := ⟨f - 20, by omega⟩
  rw [dX1_hush_eq, dX6_hush_eq]
  unfold dX1_hush dX6_hush
  rw [er.2.1, er.2.2.1]
  refine ⟨_, _, _, rfl, rfl, F, K, e, 0, ?_⟩
  refine ⟨nd.fr' rfl rfl rfl (fun _ _ _ _ _ => rfl), fn, kp, ⟨by omega, rfl, rfl, fun j hj => by omega⟩, wk.fr' nd.1 rfl rfl rfl rfl rfl rfl rfl rfl (fun _ _ _ _ _ => rfl), sm, ct.up (by omega)⟩
theorem op_ear (hf : 150 ≤ f) (a : Int32) : opI SM FR N f 27 37 [.inl (.ref 0), .inl (.int (a))] := by
  intro c σ μ hR hc
  obtain ⟨F, K, e, h, nd, fn, kp, er, wk, sm, ct⟩ := id hR
  obtain ⟨f, rfl⟩ : ∃ f', f = f' + 20 := ⟨f - 20, by omega⟩
  rw [dX1_ear_eq, dX6_ear_eq]
  unfold dX1_ear dX6_ear
  obtain ⟨h20, e9, e10, he⟩ := er
  rw [e9, e10, lc_0, cs_isIn, mm_in, am_ci_ok, am_ci_ok]
  have hN' : (decide ((nI 0).toInt64 ≤ a.toInt64) && decide (a.toInt64 ≤ (nI h - ic 1).toInt64)) = isN h a := by
    simp only [i64_le, isN]
    rfl
  rw [hN']
  cases h1 : isN h a with
  | false =>
    rw [if_pos b2f0, if_pos b2f0]
    exact ⟨_, σ, μ, rfl, rfl, hR.up⟩
  | true =>
    obtain ⟨j, hj, rfl⟩ := isN_t (by omega) h1
    obtain ⟨g1, g2, g3⟩ := he j hj
    rw [if_neg b2t0, if_neg b2t0, am_ix_nI (by omega) (by omega), am_ix_nI (by omega) (by omega), g2, g3]
    exact ⟨_, σ, μ, rfl, rfl, hR.up⟩
/-- of the walk: the node where it stands -/
theorem wk_sub {σ : cs_S} {μ : mm_S} {d : Nat} (h0 : tr_ok (cs_p σ 0)) (h1 : mn μ (cs_p σ 0)) (hl : ∀ j, j ≤ d → tr_lf (cs_p σ j) = false) (hs : ∀ j, j < d → ∃ b : Bool, cs_p σ (j + 1) = if b then tr_y (cs_p σ j) else tr_x (cs_p σ j)) : ∀ j, j ≤ d → tr_ok (cs_p σ j) ∧ mn μ (cs_p σ j) ∧ tr_n (cs_p σ j) ≤ tr_n (cs_p σ 0)
  | 0, _ => ⟨h0, h1, Nat.le_refl _⟩
  | j + 1, hj => by
    obtain ⟨⟨-, w, z⟩, m, n⟩ := wk_sub h0 h1 hl hs j (by omega)
    obtain ⟨b, e⟩ := hs j (by omega)
    have hlf := hl (j + 1) hj
    rw [e] at hlf ⊢
    cases q : cs_p σ j with
    | leaf =>
      have := hl j (by omega)
      rw [q] at this
      cases this
    | inner nn k v x y =>
      rw [q] at w z m n hlf
      obtain ⟨-, -, -, -, -, -, hx, hy, mx, my⟩ := m
      simp only [tr_sz] at z
      have n : nn ≤ tr_n (cs_p σ 0) := n
      cases b with
      | true =>
        simp only [if_true, tr_y] at hlf ⊢
        rcases hy with r | r
        · rw [r] at hlf; cases hlf
        · exact ⟨⟨hlf, w.2.1, by omega⟩, my, by omega⟩
      | false =>
        simp only [Bool.false_eq_true, if_false, tr_x] at hlf ⊢
        rcases hx with r | r
        · rw [r] at hlf; cases hlf
        · exact ⟨⟨hlf, w.1, by omega⟩, mx, by omega⟩
theorem op_glance (hf : 150 ≤ f) (hN : 1000 ≤ N) (a b : Int32) : opI SM FR N f 53 65 [.inl (.ref 0), .inl (.int (a)), .inl (.int (b))] := by
  intro c σ μ hR hc
  obtain ⟨F, K, e, h, nd, fn, kp, er, wk, sm, ct⟩ := id hR
  obtain ⟨f, rfl⟩ : ∃ f', f = f' + 20 := ⟨f - 20, by omega⟩
  rw [dX1_glance_eq, dX6_glance_eq]
  unfold dX1_glance dX6_glance
  rw [cs_isStyle, am_ci_ok, mm_isStyle, am_ci_ok]
  cases h1 : inR 0 7 a with
  | false =>
    rw [if_pos b2f0, if_pos b2f0]
    exact ⟨_, σ, μ, rfl, rfl, hR.up⟩
  | true =>
    obtain ⟨st, -, hst, rfl⟩ := inR_t (by omega) (by omega) h1
    rw [if_neg b2t0, if_neg b2t0, cs_inR 0 9 b σ (by decide) (by decide), am_ci_ok, mm_inR 0 9 b μ (by decide) (by decide), am_ci_ok]
    cases h2 : inR 0 9 b with
    | false =>
      rw [if_pos b2f0, if_pos b2f0]
      exact ⟨_, σ, μ, rfl, rfl, hR.up⟩
    | true =>
      obtain ⟨D, -, hD, rfl⟩ := inR_t (by omega) (by omega) h2
      rw [if_neg b2t0, if_neg b2t0]
      rcases wk with ⟨w1, w2⟩ | ⟨d, w1, w2, w3, w4, w5, w6, w7, w8, w9⟩
      · rw [w1, w2, if_neg (by decide), if_pos (by decide)]
        exact ⟨_, σ, μ, rfl, rfl, hR.up⟩
      · have hl := nd.1
        obtain ⟨a1, a2, a3⟩ := wk_sub w6 w7 (fun j hj => (w8 j hj).1) (fun j hj => by obtain ⟨b, -, -, q⟩ := w9 j hj; exact ⟨b, q⟩) d (Nat.le_refl _)
        obtain ⟨v1, v2, v3⟩ := w8 d (Nat.le_refl _)
        have hdp := a1.dp
        have hsz := a1.2.2
        have hmr := mn_mr (H := 120) a2 (.inr (by omega))
        unfold tr_ix at hmr
        rw [v1, cond_false] at hmr
        have hgz := glen_sz (K st) (cs_p σ d) (D + 1)
        obtain ⟨σ', b', e1, hb', hcw, hfr⟩ := cs_says2 (N := N) (f := f + 19) (w := 103) (D := D) (.inl rfl) (by omega) kp (show st < 8 by omega) (by omega) a1 (by omega)
        rw [w2, if_pos (nI_pos' (by omega)), am_ix_nI (by omega) (by omega), e1, am_ci_ok, w3, if_neg (show ¬ (1 : Int32) = 0 by decide), w4, am_ix_nI (by omega) (by omega), v2, mm_glanced (K st) st (by omega) _ μ 0 120 _ (f + 19) (D + 1) _ hmr (by omega) a1.2.1 (fun k hk => ((kp st (by omega)).1.elim fun m q => (q.2.2 k hk).2)) (by rw [nI_subI (by omega)]; rfl) (by omega) (by omega), am_ci_ok]
        by_cases hz : glen (K st) (cs_p σ d) (D + 1) ≤ 80
        · rw [decide_eq_true hz] at hb'
          subst hb'
          have hc1 := (hcw rfl).1
          rw [wsd_glen _ (kp st (by omega)).2 _ _ _ a1.2.1] at hc1
          rw [if_neg b2t0, hc1, ic_lit, if_pos (nI_le hz (by omega))]
          exact ⟨_, σ', μ, rfl, rfl, hR.fr (cs_same.of (.inl rfl) hfr) (mm_same.rf μ)⟩
        · rw [decide_eq_false hz] at hb'
          subst hb'
          rw [if_pos b2f0, ic_lit, if_neg (nI_ge (by omega) (by omega))]
          exact ⟨_, σ', μ, rfl, rfl, hR.fr (cs_same.of (.inl rfl) hfr) (mm_same.rf μ)⟩
end
