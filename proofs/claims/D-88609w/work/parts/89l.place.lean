set_option maxRecDepth 100000
/-! THE OPERATIONS: readings, place. -/
section
variable {SM : List Tr} {FR : Nat → Int32} {N f : Nat}
theorem Rel.fr0 {c : Nat} {σ σ' : cs_S} {μ μ' : mm_S} (hq : Rel SM FR c σ μ) (hσ : cs_same σ σ') (hμ : mm_same μ μ') : Rel SM FR c σ' μ' := by
  obtain ⟨F, K, e, h, a1, a2, a3, a4, a5, a6, a7⟩ := hq
  exact ⟨F, K, e, h, a1.fr hσ hμ, a2.fr hσ.1.1 (hμ.2.1.1 7 (.inl rfl)), a3.fr hσ.2.1.1 hμ.2.1.2.1, a4.fr hσ.1.2.1 hσ.2.1.2.2.1 hμ.1.2.1 hμ.2.1.2.2.1, a5.fr a1.1 hσ hμ, a6.fr hσ hμ, a7.fr hσ⟩
/-- what is heard, and how -/
def evOf (e : Nat → Nat) (F : Nat → Bool) (K : Nat → Nat → Bool) (st : Nat) : EV := (e, F, fun k b => if st < 8 then K st k == b else (!b || mk k))
theorem Rel.ev {c st : Nat} {σ : cs_S} {μ : mm_S} (hR : Rel SM FR c σ μ) (hst : st ≤ 8) : ∃ V h, cE (cs_pi σ 11 (nI st)) V h ∧ mE (mm_p μ 28 (nI st)) V h := by
  obtain ⟨F, K, e, h, nd, fn, kp, er, wk, sm, ct⟩ := hR
  obtain ⟨h20, e9, e10, he⟩ := er
  obtain ⟨m, hm, m1, m2⟩ := fn
  refine ⟨evOf e F K st, h, ⟨h20, e9, fun j hj => ⟨(he j hj).1, (he j hj).2.1⟩, ⟨m, hm, m1, fun l hl => (m2 l hl).1⟩, ⟨st, hst, rfl, fun q => ?_, fun q k b hk hmk => ?_⟩, fun k b hk hmk => ?_⟩, ⟨h20, e10, fun j hj => ⟨(he j hj).1, (he j hj).2.2⟩, fun l hl => (m2 l hl).2, st, hst, rfl, fun q k hk => ?_, fun q k b hk => ?_⟩⟩
  · obtain ⟨⟨m', n1, n2, n3⟩, n4⟩ := kp st q
    refine ⟨m', n1, n2, fun k hk _ b => ?_⟩
    show (if st < 8 then K st k == b else _) = _
    rw [if_pos q, (n3 k hk).1]
  · show (if st < 8 then K st k == b else (!b || mk k)) = true
    rw [if_neg (by omega), hmk, Bool.or_true]
  · show (if st < 8 then K st k == b else (!b || mk k)) = !b
    by_cases q : st < 8
    · rw [if_pos q]
      have : K st k = false := by
        cases q' : K st k with
        | false => rfl
        | true => rw [(kp st q).2 k q'] at hmk; cases hmk
      rw [this]
      cases b <;> rfl
    · rw [if_neg q, hmk, Bool.or_false]
  · obtain ⟨⟨m', n1, n2, n3⟩, n4⟩ := kp st q
    refine ⟨K st k, (n3 k hk).2, fun b => ?_⟩
    show (if st < 8 then K st k == b else _) = _
    rw [if_pos q]
  · show (if st < 8 then K st k == b else (!b || mk k)) = _
    rw [if_neg (by omega)]
theorem Rel.count {c st f : Nat} {σ : cs_S} {μ : mm_S} (hR : Rel SM FR c σ μ) (hst : st ≤ 8) (hN : 20000 ≤ N) : ∃ V h σ' μ', cs_call N (f + 6) 30 [.inl (.ref 0), .inl (.int (nI st))] (σ) = some (.inl (some (.inl (.long (lN (ct V 0 h))))), σ') ∧ mm_call N (f + 6) 39 [.inl (.ref 0), .inl (.int (nI st))] (μ) = some (.inl (some (.inl (.long (lN (ct V 0 h))))), μ') ∧ cE σ' V h ∧ cT σ' V h (h + 1) ∧ mE μ' V h ∧ mT μ' V h (h + 1) ∧ Rel SM FR c σ' μ' ∧ μ'.1 28 = nI st ∧ h ≤ 20 ∧ cs_t σ' = cs_t σ ∧ μ'.1 16 = μ.1 16 := by
  obtain ⟨V, h, hE, hM⟩ := hR.ev hst
  obtain ⟨σ', q1, q2, q3, q4⟩ := cs_listens (N := N) (f := f) hE (by omega)
  obtain ⟨μ', p1, p2, p3, p4⟩ := mm_counted (N := N) (f := f + 1) hM (by omega)
  refine ⟨V, h, σ', μ', q1, p1, q3, q4, p3, p4, ?_, by rw [p2.1]; rfl, hE.1, by funext j; unfold cs_t; rw [q2.2.2]; rfl, by rw [p2.1]; rfl⟩
  refine hR.fr0 ⟨⟨by rw [q2.1]; rfl, by rw [q2.1]; rfl, by rw [q2.1]; rfl⟩, ⟨by rw [q2.2.1]; rfl, by rw [q2.2.1]; rfl, by rw [q2.2.1]; rfl, by rw [q2.2.1]; rfl⟩, by rw [q2.2.2]; rfl⟩ ⟨⟨by rw [p2.1]; rfl, by rw [p2.1]; rfl, by rw [p2.1]; rfl, by rw [p2.1]; rfl⟩, ⟨fun _ _ => by rw [p2.2]; rfl, by rw [p2.2]; rfl, by rw [p2.2]; rfl, by rw [p2.2]; rfl, by rw [p2.2]; rfl⟩, fun c _ _ j _ => by rw [p2.2]; rfl⟩
/-- readings: an answer, or the component throws and the model marks it -/
theorem op_readings (hf : 150 ≤ f) (hN : 20000 ≤ N) (a : Int32) : ∀ c σ μ, Rel SM FR c σ μ → c ≤ 64 → (inR 0 8 a = true ∧ ∃ r σ' μ', cs_call N f 61 [.inl (.ref 0), .inl (.int (a))] σ = some (.inl (some (.inl (.long (r)))), σ') ∧ mm_call N f 38 [.inl (.ref 0), .inl (.int (a))] μ = some (.inl (some (.inl (.long (r)))), μ') ∧ Rel SM FR (c + 1) σ' μ' ∧ μ'.1 16 = 0) ∨
    (inR 0 8 a = false ∧ ∃ μ', mm_call N f 38 [.inl (.ref 0), .inl (.int (a))] μ = some (.inl (some (.inl (.long (lN 0)))), μ') ∧ Rel SM FR (c + 1) σ μ' ∧ μ'.1 16 = nI 1) := by
  intro c σ μ hR hc
  obtain ⟨f, rfl⟩ : ∃ f', f = f' + 20 := ⟨f - 20, by omega⟩
  rw [dX1_readings_eq, dX6_readings_eq]
  unfold dX1_readings dX6_readings
  rw [cs_isEar, am_ci_ok, mm_inR 0 8 a μ (by decide) (by decide), am_ci_ok]
  cases h1 : inR 0 8 a with
  | false =>
    rw [if_pos b2f0, if_pos b2f0, jX6_readings_18_eq, if_neg (show ¬ (mm_p μ 16 (ic 1)).1 16 = 0 from show ¬ ic 1 = 0 by decide)]
    exact .inr ⟨rfl, _, rfl, (hR.set16 _).up, rfl⟩
  | true =>
    obtain ⟨st, -, hst, rfl⟩ := inR_t (by omega) (by omega) h1
    obtain ⟨V, h, σ', μ', q1, q2, -, -, -, -, q3, -, -, -, q4⟩ := (hR.set16 (ic 0)).count (f := f + 13) hst hN
    rw [if_neg b2t0, if_neg b2t0, q1, am_cl_ok, jX6_readings_18_17_eq, jX6_readings_18_eq, if_pos (show (mm_p μ 16 (ic 0)).1 16 = 0 from rfl), q2, am_cl_ok]
    exact .inl ⟨rfl, _, _, _, rfl, rfl, q3.up, q4⟩
theorem op_place (hf : 150 ≤ f) (hN : 20000 ≤ N) (a x : Int32) : opL SM FR N f 40 51 [.inl (.ref 0), .inl (.int (a)), .inl (.int (x))] := by
  intro c σ μ hR hc
  obtain ⟨F, K, e, h, nd, -⟩ := id hR
  have hl := nd.1
  obtain ⟨f, rfl⟩ : ∃ f', f = f' + 20 := ⟨f - 20, by omega⟩
  rw [dX1_place_eq, dX6_place_eq]
  unfold dX1_place dX6_place
  rw [cs_isEar, am_ci_ok, mm_inR 0 8 a μ (by decide) (by decide), am_ci_ok]
  cases h1 : inR 0 8 a with
  | false =>
    rw [if_pos b2f0, if_pos b2f0, jX1_place_15_7_eq, jX6_place_20_12_eq, jX1_place_15_eq, jX6_place_20_eq]
    exact ⟨_, _, _, rfl, rfl, hR.up⟩
  | true =>
    obtain ⟨st, -, hst, rfl⟩ := inR_t (by omega) (by omega) h1
    rw [if_neg b2t0, if_neg b2t0, cs_isNode, am_ci_ok, mm_isNode _ nd.2.2.1, am_ci_ok]
    cases h2 : isN (cs_t σ 100).length x with
    | false =>
      rw [if_pos b2f0, if_pos b2f0, jX1_place_15_eq, jX6_place_20_eq]
      exact ⟨_, _, _, rfl, rfl, hR.up⟩
    | true =>
      obtain ⟨i, hi, rfl⟩ := isN_t (by omega) h2
      obtain ⟨V, h, σ', μ', q1, q2, cE1, cT1, mE1, mT1, hR', -, h20, ht, -⟩ := hR.count (N := N) (f := f + 13) hst hN
      obtain ⟨F', K', e', h', nd', -⟩ := id hR'
      have hi' : i < (cs_t σ' 100).length := by rw [ht]; exact hi
      obtain ⟨a1, a2, a3, a4⟩ := nd'.at hi'
      have hl' := nd'.1
      have hct := ct_lt V (i := 0) (j := h) (by omega)
      have hdp := a1.dp
      have hsz := a1.2.2
      rw [if_neg b2t0, if_neg b2t0, q1, am_cl_ok, q2, am_cl_ok]
      by_cases hz : ct V 0 h = 0
      · rw [hz, if_pos (by decide), if_pos (by decide)]
        exact ⟨_, _, _, rfl, rfl, hR'.up⟩
      · have hz' : ¬ lg_cmp (lN (ct V 0 h)) (lN 0) = 0 := fun q => by
          rw [lc_eq, lN_inj (by omega) (by omega)] at q
          exact hz q
        have h0 : 0 < h := by
          rcases Nat.eq_zero_or_pos h with q | q
          · rw [q, ct_nil V (Nat.le_refl _)] at hz
            exact absurd rfl hz
          · exact q
        obtain ⟨q, p1, p2⟩ := cs_placeOf (N := N) (by omega) _ 0 h σ' (f + 19) a1.2.1 a1.1 cE1 cT1 h0 (Nat.le_refl _) (by omega)
        obtain ⟨q', p3, p4⟩ := mm_rank (N := N) (by omega) _ 0 h μ' 0 120 (nI i) (f + 19) a1.2.1 a1.1 a3 (by omega) (by omega) mE1 mT1 h0 (Nat.le_refl _) (by omega)
        obtain rfl := plA_inj p2 p4
        rw [if_neg hz', if_neg hz', cs_c201 rfl hi' (by omega), am_ct_ok, a2, cond_true, cE1.2.1, ic_v0, p1, am_cl_ok, mE1.2.1, p3, am_cl_ok]
        rcases p2 with ⟨k, hk, rfl⟩ | ⟨-, rfl⟩
        · have hk2 := (Rd_lt hk).2
          have hn1 : ¬ lg_cmp (lN k) (-1) = 0 := fun q => by
            rw [lc_eq] at q
            have : lN k < 0 := by rw [q]; decide
            rw [← lN_00, lN_lt' (by omega) (by omega)] at this
            omega
          have hp1 : 0 ≤ lg_cmp (lN k) (lN 0) := by
            rw [lc_ge, lN_le' (by omega) (by omega)]
            omega
          rw [if_neg hn1, if_pos hp1]
          exact ⟨_, _, _, rfl, rfl, hR'.up⟩
        · rw [if_pos (by decide), if_neg (by decide)]
          exact ⟨_, _, _, rfl, rfl, hR'.up⟩
end
