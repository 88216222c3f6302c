set_option maxRecDepth 100000
/-! THE OPERATIONS: the walk. -/
section
variable {SM : List Tr} {FR : Nat → Int32} {N f : Nat}
/-- a walk is on, at depth d -/
def wkd (σ : cs_S) (μ : mm_S) (d : Nat) : Prop := d < 40 ∧ cs_i σ 17 = nI d ∧ μ.1 30 = 1 ∧ μ.1 33 = nI d ∧ tr_n (cs_p σ 0) < (cs_t σ 100).length ∧ tr_ok (cs_p σ 0) ∧ mn μ (cs_p σ 0) ∧
  (∀ j, j ≤ d → tr_lf (cs_p σ j) = false ∧ μ.2.1 31 j = nI (tr_n (cs_p σ j)) ∧ tr_dp (cs_p σ j) + j ≤ 40) ∧ ∀ j, j < d → ∃ b : Bool, cs_a σ 116 (j + 1) = b2 b ∧ μ.2.1 32 (j + 1) = b2 b ∧ cs_p σ (j + 1) = if b then tr_y (cs_p σ j) else tr_x (cs_p σ j)
theorem cm_wkd {σ : cs_S} {μ : mm_S} : cm_wk σ μ ↔ (cs_i σ 17 = -1 ∧ μ.1 30 = 0) ∨ ∃ d, wkd σ μ d := Iff.rfl
theorem wkd.at {σ : cs_S} {μ : mm_S} {d : Nat} (h : wkd σ μ d) {j : Nat} (hj : j ≤ d) : tr_ok (cs_p σ j) ∧ mn μ (cs_p σ j) ∧ tr_n (cs_p σ j) ≤ tr_n (cs_p σ 0) := by
  obtain ⟨a1, a2, a3, a4, a5, a6, a7, a8, a9⟩ := h
  exact wk_sub a6 a7 (fun j hj => (a8 j hj).1) (fun j hj => by obtain ⟨b, -, -, q⟩ := a9 j hj; exact ⟨b, q⟩) j hj
theorem Rel.wk' {c : Nat} {σ σ' : cs_S} {μ μ' : mm_S} (hR : Rel SM FR c σ μ) (hσ : σ'.1 1 = σ.1 1 ∧ σ'.1 9 = σ.1 9 ∧ (∀ c, c ≠ 116 → σ'.2.1 c = σ.2.1 c) ∧ cs_t σ' = cs_t σ ∧ cs_c σ' = cs_c σ ∧ cs_y σ' = cs_y σ ∧ cs_n1 σ' = cs_n1 σ ∧ cs_n2 σ' = cs_n2 σ) (hμ : μ'.1 0 = μ.1 0 ∧ μ'.1 10 = μ.1 10 ∧ ∀ c, c ≤ 15 → μ'.2.1 c = μ.2.1 c) (hw : cm_wk σ' μ') : Rel SM FR c σ' μ' := by
  obtain ⟨F, K, e, h, nd, fn, kp, er, wk, sm, ct⟩ := hR
  obtain ⟨s1, s2, s3, s4, s5, s6, s7, s8⟩ := hσ
  obtain ⟨m1, m2, m3⟩ := hμ
  refine ⟨F, K, e, h, nd.fr' (by rw [s4]) (by rw [s5]) m1 (fun c _ h2 j _ => by rw [m3 c (by omega)]), fn.fr s1 (m3 7 (by omega)), kp.fr (s3 102 (by omega)) (m3 8 (by omega)), er.fr s2 (s3 108 (by omega)) m2 (m3 9 (by omega)), hw, ?_, ?_⟩
  · exact sm.mk' (fun c hc => m3 c (by omega)) (by rw [s4]) (by rw [s5]) (s3 107 (by omega))
  · unfold cm_ct at *
    rw [s6, s7, s8]
    exact ct
theorem cs_pi_same (σ : cs_S) (v : Int32) : (cs_pi σ 17 v).1 1 = σ.1 1 ∧ (cs_pi σ 17 v).1 9 = σ.1 9 ∧ (∀ c, c ≠ 116 → (cs_pi σ 17 v).2.1 c = σ.2.1 c) ∧ cs_t (cs_pi σ 17 v) = cs_t σ ∧ cs_c (cs_pi σ 17 v) = cs_c σ ∧ cs_y (cs_pi σ 17 v) = cs_y σ ∧ cs_n1 (cs_pi σ 17 v) = cs_n1 σ ∧ cs_n2 (cs_pi σ 17 v) = cs_n2 σ := ⟨rfl, rfl, fun _ _ => rfl, rfl, rfl, rfl, rfl, rfl⟩
/-- back up, to a lesser depth -/
theorem wkd.back {c : Nat} {σ : cs_S} {μ : mm_S} {d d' : Nat} (hR : Rel SM FR c σ μ) (h : wkd σ μ d) (hd : d' ≤ d) : Rel SM FR c (cs_pi σ 17 (nI d')) (mm_p μ 33 (nI d')) ∧ wkd (cs_pi σ 17 (nI d')) (mm_p μ 33 (nI d')) d' := by
  have hw : wkd (cs_pi σ 17 (nI d')) (mm_p μ 33 (nI d')) d' := by
    obtain ⟨a1, a2, a3, a4, a5, a6, a7, a8, a9⟩ := h
    exact ⟨by omega, rfl, a3, rfl, a5, a6, mn_of (μ := μ) (μ' := mm_p μ 33 (nI d')) (H := tr_n (cs_p σ 0) + 1) (fun _ _ _ _ _ => rfl) a7 (.inr (Nat.lt_succ_self _)), fun j hj => a8 j (by omega), fun j hj => a9 j (by omega)⟩
  exact ⟨hR.wk' (cs_pi_same σ _) ⟨rfl, rfl, fun _ _ => rfl⟩ (.inr ⟨d', hw⟩), hw⟩
def cs_dn (σ : cs_S) (d : Nat) (b : Bool) (t : Tr) : cs_S := cs_pa (cs_pp (cs_pi σ 17 (nI (d + 1))) (d + 1) t) 116 (d + 1) (b2 b)
def mm_dn (μ : mm_S) (d : Nat) (b : Bool) (t : Tr) : mm_S := mm_p (mm_pa (mm_pa μ 31 (d + 1) (nI (tr_n t))) 32 (d + 1) (b2 b)) 33 (nI (d + 1))
theorem cs_dn_p (σ : cs_S) (d : Nat) (b : Bool) (t : Tr) (j : Nat) : cs_p (cs_dn σ d b t) j = if j = d + 1 then t else cs_p σ j := rfl
theorem cs_dn_a (σ : cs_S) (d : Nat) (b : Bool) (t : Tr) (j : Nat) : cs_a (cs_dn σ d b t) 116 j = if j = d + 1 then b2 b else cs_a σ 116 j := rfl
theorem mm_dn_31 (μ : mm_S) (d : Nat) (b : Bool) (t : Tr) (j : Nat) : (mm_dn μ d b t).2.1 31 j = if j = d + 1 then nI (tr_n t) else μ.2.1 31 j := by
  unfold mm_dn
  rw [mm_p_2, mm_pa_get, if_neg (by omega), mm_pa_get, if_pos rfl]
theorem mm_dn_32 (μ : mm_S) (d : Nat) (b : Bool) (t : Tr) (j : Nat) : (mm_dn μ d b t).2.1 32 j = if j = d + 1 then b2 b else μ.2.1 32 j := by
  unfold mm_dn
  rw [mm_p_2, mm_pa_get, if_pos rfl, mm_pa_get, if_neg (show ¬ 32 = 31 by decide)]
theorem mm_dn_c (μ : mm_S) (d : Nat) (b : Bool) (t : Tr) (c : Nat) (hc : c ≤ 15) : (mm_dn μ d b t).2.1 c = μ.2.1 c := by
  funext j
  unfold mm_dn
  rw [mm_p_2, mm_pa_get, if_neg (by omega), mm_pa_get, if_neg (by omega)]
/-- one step down -/
theorem wkd.down {c : Nat} {σ : cs_S} {μ : mm_S} {d : Nat} (hR : Rel SM FR c σ μ) (h : wkd σ μ d) (b : Bool) (hl : tr_lf (if b then tr_y (cs_p σ d) else tr_x (cs_p σ d)) = false) :
    Rel SM FR c (cs_dn σ d b (if b then tr_y (cs_p σ d) else tr_x (cs_p σ d))) (mm_dn μ d b (if b then tr_y (cs_p σ d) else tr_x (cs_p σ d))) ∧ wkd (cs_dn σ d b (if b then tr_y (cs_p σ d) else tr_x (cs_p σ d))) (mm_dn μ d b (if b then tr_y (cs_p σ d) else tr_x (cs_p σ d))) (d + 1) := by
  generalize ht : (if b then tr_y (cs_p σ d) else tr_x (cs_p σ d)) = t at hl ⊢
  obtain ⟨a1, a2, a3, a4, a5, a6, a7, a8, a9⟩ := id h
  have hdt : tr_dp t + (d + 1) ≤ 40 ∧ d + 1 < 40 := by
    obtain ⟨b1, -, b3⟩ := a8 d (Nat.le_refl _)
    have h1 : 1 ≤ tr_dp t := by
      cases t with
      | leaf => cases hl
      | inner _ _ _ _ _ => simp only [tr_dp]; omega
    have h2 : tr_dp t + 1 ≤ tr_dp (cs_p σ d) := by
      cases q : cs_p σ d with
      | leaf => rw [q] at b1; cases b1
      | inner n k v x y =>
        rw [q, tr_xi, tr_yi] at ht
        simp only [tr_dp]
        subst ht
        cases b <;> simp <;> omega
    omega
  have hw : wkd (cs_dn σ d b t) (mm_dn μ d b t) (d + 1) := by
    refine ⟨hdt.2, rfl, a3, rfl, ?_, ?_, ?_, ?_, ?_⟩
    · rw [cs_dn_p, if_neg (by omega)]
      exact a5
    · rw [cs_dn_p, if_neg (by omega)]
      exact a6
    · rw [cs_dn_p, if_neg (by omega)]
      exact mn_of (μ := μ) (H := tr_n (cs_p σ 0) + 1) (fun c _ h2 j _ => by rw [mm_dn_c _ _ _ _ _ (by omega)]) a7 (.inr (Nat.lt_succ_self _))
    · intro j hj
      rw [cs_dn_p, mm_dn_31]
      by_cases q : j = d + 1
      · rw [if_pos q, if_pos q]
        exact ⟨hl, rfl, by omega⟩
      · rw [if_neg q, if_neg q]
        exact a8 j (by omega)
    · intro j hj
      rw [cs_dn_p, mm_dn_32, cs_dn_a, cs_dn_p]
      by_cases q : j = d
      · subst q
        rw [if_pos rfl, if_pos rfl, if_pos rfl, if_neg (by omega)]
        exact ⟨b, rfl, rfl, ht.symm⟩
      · rw [if_neg (by omega), if_neg (by omega), if_neg (by omega), if_neg (by omega)]
        exact a9 j (by omega)
  exact ⟨hR.wk' ⟨rfl, rfl, fun c hc => va_up_ne _ _ hc, rfl, rfl, rfl, rfl, rfl⟩ ⟨rfl, rfl, fun c hc => mm_dn_c _ _ _ _ _ hc⟩ (.inr ⟨_, hw⟩), hw⟩
/-- goesDown and down -/
theorem op_down {c : Nat} {σ : cs_S} {μ : mm_S} {d : Nat} (hR : Rel SM FR c σ μ) (h : wkd σ μ d) (b : Bool) : ∃ r σ' μ' d', cs_call N (f + 9) 51 [.inl (.ref 0), .inl (.int (b2 b))] (σ) = some (.inl (some (.inl (.int (b2 r)))), σ') ∧ mm_call N (f + 9) 62 [.inl (.ref 0), .inl (.int (b2 b))] (μ) = some (.inl (some (.inl (.int (b2 r)))), μ') ∧ Rel SM FR c σ' μ' ∧ wkd σ' μ' d' := by
  obtain ⟨a1, a2, a3, a4, a5, a6, a7, a8, a9⟩ := id h
  obtain ⟨b1, b2', b3⟩ := a8 d (Nat.le_refl _)
  obtain ⟨c1, c2, c3⟩ := h.at (Nat.le_refl d)
  have hlen : (cs_t σ 100).length ≤ 120 := by
    obtain ⟨F, K, e, h, nd, -⟩ := id hR
    exact nd.1
  have hrow : μ.2.1 3 (tr_n (cs_p σ d)) = tr_ix (tr_x (cs_p σ d)) ∧ μ.2.1 4 (tr_n (cs_p σ d)) = tr_ix (tr_y (cs_p σ d)) := by
    cases q : cs_p σ d with
    | leaf => rw [q] at b1; cases b1
    | inner n k v x y =>
      rw [q] at c2
      exact ⟨c2.2.2.1, c2.2.2.2.1⟩
  have hn : ∀ t, t = tr_x (cs_p σ d) ∨ t = tr_y (cs_p σ d) → tr_lf t = false → tr_n t < 120 ∧ tr_nd t = true := by
    intro t ht hl
    cases q : cs_p σ d with
    | leaf => rw [q] at b1; cases b1
    | inner n k v x y =>
      rw [q] at c1 c2 c3
      have c3 : n ≤ tr_n (cs_p σ 0) := c3
      rw [q, tr_xi, tr_yi] at ht
      obtain ⟨-, -, -, -, -, -, hx, hy, -, -⟩ := c2
      obtain ⟨-, ⟨wx, wy, -⟩, -⟩ := c1
      rcases ht with rfl | rfl
      · rw [hl] at hx
        exact ⟨by rcases hx with q | q; · cases q
                  · omega, tr_nd_wf wx hl⟩
      · rw [hl] at hy
        exact ⟨by rcases hy with q | q; · cases q
                  · omega, tr_nd_wf wy hl⟩
  have hfin : ∀ (back : cs_bt) (back' : mm_bt) (call : cs_ct) (call' : mm_ct), ∃ r σ' μ' d', jX1_goesDown_31 back call σ (b2 b) (if b then tr_y (cs_p σ d) else tr_x (cs_p σ d)) = some (.inl (some (.inl (.int (b2 r)))), σ') ∧ jX6_down_35 back' call' μ (b2 b) (tr_ix (if b then tr_y (cs_p σ d) else tr_x (cs_p σ d))) = some (.inl (some (.inl (.int (b2 r)))), μ') ∧ Rel SM FR c σ' μ' ∧ wkd σ' μ' d' := by
    intro back back' call call'
    rw [jX1_goesDown_31_eq, jX6_down_35_eq]
    have hd := wkd.down hR h b
    have hn := hn (if b then tr_y (cs_p σ d) else tr_x (cs_p σ d)) (by cases b <;> simp)
    generalize (if b then tr_y (cs_p σ d) else tr_x (cs_p σ d)) = t at hd hn ⊢
    cases hl : tr_lf t with
    | true =>
      have : tr_ix t = -2 := by unfold tr_ix; rw [hl]; rfl
      rw [cond_true, this, if_pos (by decide), jX6_down_74_40_eq, jX6_down_74_eq, if_pos (by decide)]
      exact ⟨false, _, _, d, rfl, rfl, hR, h⟩
    | false =>
      obtain ⟨hR', hw'⟩ := hd hl
      have hd40 := hw'.1
      have hix : tr_ix t = nI (tr_n t) := by unfold tr_ix; rw [hl]; rfl
      have e1 : cs_i (cs_pi σ 17 (cs_i σ 17 + ic 1)) 17 = nI (d + 1) := by
        rw [cs_pi_get, if_pos rfl, a2, ic_lit, nI_add]
      have e2 : cs_i (cs_pp (cs_pi σ 17 (cs_i σ 17 + ic 1)) (d + 1) t) 17 = nI (d + 1) := e1
      rw [cond_false, (hn hl).2, cond_true, e1, am_ix_nI (by omega) (by omega), e2, am_ix_nI (by omega) (by omega), hix, if_neg (nI_pos (by have := (hn hl).1; omega)), a4, ic_lit, nI_add, am_ix_nI (by omega) (by omega), mm_pa_1, a4, nI_add, am_ix_nI (by omega) (by omega), jX6_down_74_eq, if_neg (nI_pos (by have := (hn hl).1; omega)), a2, ic_lit, nI_add, b2_and1, mm_pa_1, mm_pa_1, a4, nI_add]
      exact ⟨true, _, _, d + 1, rfl, rfl, hR', hw'⟩
  rw [dX1_goesDown_eq, dX6_down_eq]
  unfold dX1_goesDown dX6_down
  cases b with
  | false =>
    rw [if_pos b2f0, if_pos b2f0, a2, am_ix_nI (by omega) (by omega), tr_nd_wf c1.2.1 b1, cond_true, cs_vx c1.2.1 b1, am_ct_ok, a4, am_ix_nI (by omega) (by omega), b2', am_ix_nI (by omega) (by omega), hrow.1, jX6_down_35_21_eq]
    exact hfin _ _ _ _
  | true =>
    rw [if_neg b2t0, if_neg b2t0, a2, am_ix_nI (by omega) (by omega), tr_nd_wf c1.2.1 b1, cond_true, cs_vy c1.2.1 b1, am_ct_ok, a4, am_ix_nI (by omega) (by omega), b2', am_ix_nI (by omega) (by omega), hrow.2, jX1_goesDown_31_19_eq]
    exact hfin _ _ _ _
theorem op_walk (hf : 150 ≤ f) (a : Int32) : opI SM FR N f 49 60 [.inl (.ref 0), .inl (.int (a))] := by
  intro c σ μ hR hc
  obtain ⟨F, K, e, h, nd, -⟩ := id hR
  have hlen := nd.1
  obtain ⟨f, rfl⟩ : ∃ f', f = f' + 20 := ⟨f - 20, by omega⟩
  rw [dX1_walk_eq, dX6_walk_eq]
  unfold dX1_walk dX6_walk
  rw [cs_isNode, am_ci_ok, mm_isNode _ nd.2.2.1, am_ci_ok]
  cases h1 : isN (cs_t σ 100).length a with
  | false =>
    rw [if_pos b2f0, if_pos b2f0]
    exact ⟨_, σ, μ, rfl, rfl, hR.up⟩
  | true =>
    obtain ⟨i, hi, rfl⟩ := isN_t (by omega) h1
    obtain ⟨a1, a2, a3, a4⟩ := nd.at hi
    have ag := (nd.2.2.2 i hi).2.2
    rw [if_neg b2t0, if_neg b2t0, cs_c201 rfl hi (by omega), am_ct_ok, a2, cond_true, cond_true, ic_lit, ic_lit, am_ix_nI (by omega) (by omega), if_pos (.inr (by decide)), am_ix_nI (by omega) (by omega)]
    refine ⟨_, _, _, rfl, rfl, ?_⟩
    refine Rel.up (hR.wk' ⟨rfl, rfl, fun _ _ => rfl, rfl, rfl, rfl, rfl, rfl⟩ ⟨rfl, rfl, fun c hc => ?_⟩ (.inr ⟨0, ?_⟩))
    · funext j
      rw [mm_p_2, mm_pa_get, if_neg (by omega)]
      rfl
    · have hdp := a1.dp
      have e0 : ∀ j, cs_p (cs_pi (cs_pp σ 0 ((cs_t σ 100).getD i .leaf)) 17 (nI 0)) j = if j = 0 then (cs_t σ 100).getD i .leaf else cs_p σ j := fun j => rfl
      refine ⟨by omega, rfl, rfl, rfl, ?_, ?_, ?_, ?_, fun j hj => by omega⟩
      · rw [e0, if_pos rfl, a4]
        exact hi
      · rw [e0, if_pos rfl]
        exact a1
      · rw [e0, if_pos rfl]
        exact mn_of (μ := μ) (H := 120) (fun c _ h2 j _ => by rw [mm_p_2, mm_pa_get, if_neg (by omega)]; rfl) ag (.inr (by rw [a4]; omega))
      · intro j hj
        obtain rfl : j = 0 := by omega
        rw [e0, if_pos rfl, a4]
        exact ⟨a1.1, by rw [mm_p_2, mm_pa_get, if_pos rfl, if_pos rfl], by omega⟩
/-- where both walks stand -/
theorem wkd.here {σ : cs_S} {μ : mm_S} {d : Nat} (h : wkd σ μ d) : ∀ {k : Nat → am_R cs_S} {k' : Nat → am_R mm_S}, am_ix (cs_i σ 17) 41 k = k d ∧ tr_nd (cs_p σ d) = true ∧ am_ix (μ.1 33) 41 k' = k' d ∧ μ.2.1 31 d = nI (tr_n (cs_p σ d)) := by
  intro k k'
  obtain ⟨a1, a2, a3, a4, a5, a6, a7, a8, a9⟩ := id h
  obtain ⟨b1, b2', b3⟩ := a8 d (Nat.le_refl _)
  obtain ⟨c1, c2, c3⟩ := h.at (Nat.le_refl d)
  exact ⟨by rw [a2, am_ix_nI (by omega) (by omega)], tr_nd_wf c1.2.1 b1, by rw [a4, am_ix_nI (by omega) (by omega)], b2'⟩
end
