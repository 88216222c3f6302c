set_option maxRecDepth 100000
/-! THE OPERATIONS, both sides at once: the page looked at. -/
section
variable {SM : List Tr} {FR : Nat → Int32} {N f : Nat}
theorem b2t0 : ¬ b2 true = 0 := by decide
theorem b2f0 : b2 false = 0 := by decide
theorem cs_71 {t : Tr} (h : tr_ok t) : cs_sel [71, 71, 71, 71, 71, 71, 71, 71, 71, 71] (tr_k t) = 71 := cs_s71 _ (tr_k9 h.2.1 h.1)
theorem op_alike (hf : 150 ≤ f) (a b : Int32) : opI SM FR N f 9 12 [.inl (.ref 0), .inl (.int (a)), .inl (.int (b))] := by
  intro c σ μ hR hc
  obtain ⟨F, K, e, h, nd, -⟩ := id hR
  obtain ⟨f, rfl⟩ : ∃ f', f = f' + 20 := ⟨f - 20, by omega⟩
  rw [dX1_alike_eq, dX6_alike_eq]
  unfold dX1_alike dX6_alike
  rw [cs_isNode, am_ci_ok, mm_isNode _ nd.2.2.1, am_ci_ok]
  cases h1 : isN (cs_t σ 100).length a with
  | false =>
    rw [if_pos b2f0, if_pos b2f0]
    exact ⟨_, σ, μ, rfl, rfl, hR.up⟩
  | true =>
    rw [if_neg b2t0, if_neg b2t0, cs_isNode, am_ci_ok, mm_isNode _ nd.2.2.1, am_ci_ok]
    cases h2 : isN (cs_t σ 100).length b with
    | false =>
      rw [if_pos b2f0, if_pos b2f0]
      exact ⟨_, σ, μ, rfl, rfl, hR.up⟩
    | true =>
      have hl := nd.1
      obtain ⟨i, hi, rfl⟩ := isN_t (by omega) h1
      obtain ⟨j, hj, rfl⟩ := isN_t (by omega) h2
      obtain ⟨a1, a2, a3, a4⟩ := nd.at hi
      obtain ⟨b1, b2', b3, b4⟩ := nd.at hj
      have := a1.dp
      have := a1.2.2
      have := b1.2.2
      rw [if_neg b2t0, if_neg b2t0, cs_c201 rfl hi (by omega), am_ct_ok, a2, cond_true, cs_c201 rfl hj (by omega), am_ct_ok, b2', cond_true, cond_true, cs_71 a1, cs_isLike _ _ σ (f + 19) a1.2.1 b1.2.1 a1.1 b1.1 (by omega), am_ci_ok, mm_areAlike N _ _ μ 0 120 0 120 _ _ (f + 19) a3 b3 (by omega) (by omega) a1.2.1 b1.2.1 (by omega) (by omega) (by omega), am_ci_ok]
      by_cases hz : b2 (tr_like ((cs_t σ 100).getD i .leaf) ((cs_t σ 100).getD j .leaf)) = 0
      · rw [if_pos hz, if_pos hz]
        exact ⟨_, σ, μ, rfl, rfl, hR.up⟩
      · rw [if_neg hz, if_neg hz]
        exact ⟨_, σ, μ, rfl, rfl, hR.up⟩
theorem op_times (hf : 150 ≤ f) (a b : Int32) : opI SM FR N f 10 14 [.inl (.ref 0), .inl (.int (a)), .inl (.int (b))] := by
  intro c σ μ hR hc
  obtain ⟨F, K, e, h, nd, -⟩ := id hR
  obtain ⟨f, rfl⟩ : ∃ f', f = f' + 20 := ⟨f - 20, by omega⟩
  rw [dX1_times_eq, dX6_times_eq]
  unfold dX1_times dX6_times
  rw [cs_isNode, am_ci_ok, mm_isNode _ nd.2.2.1, am_ci_ok]
  cases h1 : isN (cs_t σ 100).length a with
  | false =>
    rw [if_pos b2f0, if_pos b2f0]
    exact ⟨_, σ, μ, rfl, rfl, hR.up⟩
  | true =>
    rw [if_neg b2t0, if_neg b2t0, cs_isNode, am_ci_ok, mm_isNode _ nd.2.2.1, am_ci_ok]
    cases h2 : isN (cs_t σ 100).length b with
    | false =>
      rw [if_pos b2f0, if_pos b2f0]
      exact ⟨_, σ, μ, rfl, rfl, hR.up⟩
    | true =>
      have hl := nd.1
      obtain ⟨i, hi, rfl⟩ := isN_t (by omega) h1
      obtain ⟨j, hj, rfl⟩ := isN_t (by omega) h2
      obtain ⟨a1, a2, a3, a4⟩ := nd.at hi
      obtain ⟨b1, b2', b3, b4⟩ := nd.at hj
      have := a1.dp
      have := a1.2.2
      have := b1.2.2
      rw [if_neg b2t0, if_neg b2t0, cs_c201 rfl hi (by omega), am_ct_ok, a2, cond_true, cs_c201 rfl hj (by omega), am_ct_ok, b2', cond_true, cs_timesIn _ b1.2.1 b1.1 _ σ (f + 19) a1.2.1 a1.1 (by omega), am_ci_ok, mm_has _ _ μ 0 120 0 120 _ _ (f + 19) a3 b3 (by omega) (by omega) a1.2.1 b1.2.1 (by omega) (by omega) (by omega), am_ci_ok]
      exact ⟨_, σ, μ, rfl, rfl, hR.up⟩
theorem op_changed (hf : 150 ≤ f) (a b : Int32) : opI SM FR N f 54 67 [.inl (.ref 0), .inl (.int (a)), .inl (.int (b))] := by
  intro c σ μ hR hc
  obtain ⟨F, K, e, h, nd, -⟩ := id hR
  obtain ⟨f, rfl⟩ : ∃ f', f = f' + 20 := ⟨f - 20, by omega⟩
  rw [dX1_changed_eq, dX6_changed_eq]
  unfold dX1_changed dX6_changed
  rw [cs_isNode, am_ci_ok, mm_isNode _ nd.2.2.1, am_ci_ok]
  cases h1 : isN (cs_t σ 100).length a with
  | false =>
    rw [if_pos b2f0, if_pos b2f0]
    exact ⟨_, σ, μ, rfl, rfl, hR.up⟩
  | true =>
    rw [if_neg b2t0, if_neg b2t0, cs_isNode, am_ci_ok, mm_isNode _ nd.2.2.1, am_ci_ok]
    cases h2 : isN (cs_t σ 100).length b with
    | false =>
      rw [if_pos b2f0, if_pos b2f0]
      exact ⟨_, σ, μ, rfl, rfl, hR.up⟩
    | true =>
      have hl := nd.1
      obtain ⟨i, hi, rfl⟩ := isN_t (by omega) h1
      obtain ⟨j, hj, rfl⟩ := isN_t (by omega) h2
      obtain ⟨a1, a2, a3, a4⟩ := nd.at hi
      obtain ⟨b1, b2', b3, b4⟩ := nd.at hj
      have := a1.dp
      have := a1.2.2
      have := b1.2.2
      rw [if_neg b2t0, if_neg b2t0, cs_c201 rfl hi (by omega), am_ct_ok, a2, cond_true, cs_c201 rfl hj (by omega), am_ct_ok, b2', cond_true, cs_difference _ _ σ (f + 18) a1.1 b1.1 a1.2.1 b1.2.1 (by omega) (by omega) (by omega), am_ci_ok, mm_difference _ _ μ 0 120 0 120 _ _ (f + 18) a3 b3 (by omega) (by omega) a1.1 b1.1 a1.2.1 b1.2.1 (by omega) (by omega) (by omega), am_ci_ok]
      exact ⟨_, σ, μ, rfl, rfl, hR.up⟩
theorem op_exchanged (hf : 150 ≤ f) (a b : Int32) : opI SM FR N f 57 70 [.inl (.ref 0), .inl (.int (a)), .inl (.int (b))] := by
  intro c σ μ hR hc
  obtain ⟨F, K, e, h, nd, -⟩ := id hR
  obtain ⟨f, rfl⟩ : ∃ f', f = f' + 20 := ⟨f - 20, by omega⟩
  rw [dX1_exchanged_eq, dX6_exchanged_eq]
  unfold dX1_exchanged dX6_exchanged
  rw [cs_isNode, am_ci_ok, mm_isNode _ nd.2.2.1, am_ci_ok]
  cases h1 : isN (cs_t σ 100).length a with
  | false =>
    rw [if_pos b2f0, if_pos b2f0]
    exact ⟨_, σ, μ, rfl, rfl, hR.up⟩
  | true =>
    rw [if_neg b2t0, if_neg b2t0, cs_isNode, am_ci_ok, mm_isNode _ nd.2.2.1, am_ci_ok]
    cases h2 : isN (cs_t σ 100).length b with
    | false =>
      rw [if_pos b2f0, if_pos b2f0]
      exact ⟨_, σ, μ, rfl, rfl, hR.up⟩
    | true =>
      have hl := nd.1
      obtain ⟨i, hi, rfl⟩ := isN_t (by omega) h1
      obtain ⟨j, hj, rfl⟩ := isN_t (by omega) h2
      obtain ⟨a1, a2, a3, a4⟩ := nd.at hi
      obtain ⟨b1, b2', b3, b4⟩ := nd.at hj
      have := a1.dp
      have := a1.2.2
      have := b1.2.2
      rw [if_neg b2t0, if_neg b2t0, cs_c201 rfl hi (by omega), am_ct_ok, a2, cond_true, cs_c201 rfl hj (by omega), am_ct_ok, b2', cond_true, cs_exchanges _ _ σ (f + 19) a1.1 b1.1 a1.2.1 b1.2.1 (by omega) (by omega) (by omega), am_ci_ok, mm_wholes _ _ μ 0 120 0 120 _ _ (f + 19) a3 b3 (by omega) (by omega) a1.1 b1.1 a1.2.1 b1.2.1 (by omega) (by omega) (by omega), am_ci_ok]
      exact ⟨_, σ, μ, rfl, rfl, hR.up⟩
theorem op_look (hf : 150 ≤ f) (a b : Int32) : opI SM FR N f 8 10 [.inl (.ref 0), .inl (.int (a)), .inl (.int (b))] := by
  intro c σ μ hR hc
  obtain ⟨F, K, e, h, nd, ⟨m, hm, hm1, hF⟩, -⟩ := id hR
  obtain ⟨f, rfl⟩ : ∃ f', f = f' + 20 := ⟨f - 20, by omega⟩
  rw [dX1_look_eq, dX6_look_eq]
  unfold dX1_look dX6_look
  rw [cs_isNode, am_ci_ok, mm_isNode _ nd.2.2.1, am_ci_ok]
  cases h1 : isN (cs_t σ 100).length a with
  | false =>
    rw [if_pos b2f0, if_pos b2f0]
    exact ⟨_, σ, μ, rfl, rfl, hR.up⟩
  | true =>
    have hl := nd.1
    obtain ⟨i, hi, rfl⟩ := isN_t (by omega) h1
    obtain ⟨a1, a2, a3, a4⟩ := nd.at hi
    have hdp := a1.dp
    have hsz := a1.2.2
    obtain ⟨-, -, -, g⟩ := nd
    obtain ⟨-, g2, g3⟩ := g i hi
    rw [if_neg b2t0, if_neg b2t0, cs_c201 rfl hi (by omega), am_ct_ok, mm_inR 0 6 b μ (by decide) (by decide), am_ci_ok]
    generalize hT : (cs_t σ 100).getD i .leaf = t at *
    cases t with
    | leaf => exact absurd a1.1 (by decide)
    | inner n k v x y =>
      have hwv := tr_wf_v a1.2.1
      obtain ⟨m1, m2, m3, m4, m5, m6, hx, hy, mx, my⟩ := g3
      have hn : n = i := g2
      subst hn
      simp only [a2, cond_true, tr_ki]
      cases h2 : inR 0 6 b with
      | false =>
        have hb : ∀ c, c ≤ 6 → ¬ b = nI c := fun c hc q => by
          rw [q, inR_nI (by omega) (by omega) hc] at h2
          cases h2
        rw [if_pos b2f0, if_neg (hb 0 (by omega)), if_neg (hb 1 (by omega)), if_neg (hb 2 (by omega)), if_neg (hb 3 (by omega)), if_neg (hb 4 (by omega)), if_neg (hb 5 (by omega)), if_neg (hb 6 (by omega))]
        exact ⟨_, σ, μ, rfl, rfl, hR.up⟩
      | true =>
        obtain ⟨w, -, hw, rfl⟩ := inR_t (by omega) (by omega) h2
        rw [if_neg b2t0]
        obtain rfl | rfl | rfl | rfl | rfl | rfl | rfl : w = 0 ∨ w = 1 ∨ w = 2 ∨ w = 3 ∨ w = 4 ∨ w = 5 ∨ w = 6 := by omega
        · rw [if_pos rfl, if_pos rfl, am_ix_nI (by omega) (by omega), m1]
          exact ⟨_, σ, μ, rfl, rfl, hR.up⟩
        · rw [if_neg (by decide), if_pos rfl, if_neg (by decide), if_pos rfl, am_ix_nI (by omega) (by omega), m2, cs_vvi a1.2.1, am_ci_ok]
          exact ⟨_, σ, μ, rfl, rfl, hR.up⟩
        · rw [if_neg (by decide), if_neg (by decide), if_pos rfl, if_neg (by decide), if_neg (by decide), if_pos rfl, am_ix_nI (by omega) (by omega), m3, cs_vxi a1.2.1, am_ct_ok]
          cases qx : tr_lf x with
          | true =>
            rw [cond_true]
            refine ⟨_, σ, μ, rfl, ?_, hR.up⟩
            unfold tr_ix
            rw [qx]
            rfl
          | false =>
            rw [cond_false, cs_vxi a1.2.1, am_ct_ok, tr_nd_wf a1.2.1.1 qx, cond_true]
            refine ⟨_, σ, μ, rfl, ?_, hR.up⟩
            unfold tr_ix
            rw [qx]
            rfl
        · rw [if_neg (by decide), if_neg (by decide), if_neg (by decide), if_pos rfl, if_neg (by decide), if_neg (by decide), if_neg (by decide), if_pos rfl, am_ix_nI (by omega) (by omega), m4, cs_vyi a1.2.1, am_ct_ok]
          cases qy : tr_lf y with
          | true =>
            rw [cond_true]
            refine ⟨_, σ, μ, rfl, ?_, hR.up⟩
            unfold tr_ix
            rw [qy]
            rfl
          | false =>
            rw [cond_false, cs_vyi a1.2.1, am_ct_ok, tr_nd_wf a1.2.1.2.1 qy, cond_true]
            refine ⟨_, σ, μ, rfl, ?_, hR.up⟩
            unfold tr_ix
            rw [qy]
            rfl
        · rw [if_neg (by decide), if_neg (by decide), if_neg (by decide), if_neg (by decide), if_pos rfl, if_neg (by decide), if_neg (by decide), if_neg (by decide), if_neg (by decide), if_pos rfl, am_ix_nI (by omega) (by omega), m5]
          exact ⟨_, σ, μ, rfl, rfl, hR.up⟩
        · rw [if_neg (by decide), if_neg (by decide), if_neg (by decide), if_neg (by decide), if_neg (by decide), if_pos rfl, if_neg (by decide), if_neg (by decide), if_neg (by decide), if_neg (by decide), if_neg (by decide), if_pos rfl, am_ix_nI (by omega) (by omega), m6]
          exact ⟨_, σ, μ, rfl, rfl, hR.up⟩
        · have hcr := cs_isRight (N := N) F m hm (fun l hl => (hF l hl).1) _ σ (f + 19) a1.2.1 a1.1 (by omega)
          rw [tr_ki] at hcr
          rw [if_neg (by decide), if_neg (by decide), if_neg (by decide), if_neg (by decide), if_neg (by decide), if_neg (by decide), if_pos rfl, if_neg (by decide), if_neg (by decide), if_neg (by decide), if_neg (by decide), if_neg (by decide), if_neg (by decide), hm1, hcr, am_ci_ok, mm_isRight F _ μ 0 120 _ (f + 19) a3 (by omega) a1.2.1 (fun l hl => (hF l hl).2) (by omega), am_ci_ok]
          by_cases hz : b2 (tr_right F (.inner n k v x y)) = 0
          · rw [if_pos hz, if_pos hz]
            exact ⟨_, σ, μ, rfl, rfl, hR.up⟩
          · rw [if_neg hz, if_neg hz]
            exact ⟨_, σ, μ, rfl, rfl, hR.up⟩
end
