set_option maxRecDepth 100000
/-! THE OPERATION fewest: its loops. -/
section
variable {SM : List Tr} {FR : Nat → Int32} {N : Nat}
theorem nI_ltt {a b : Nat} (h : a < b) (hb : b < 2 ^ 31) : nI a < nI b := (nI_ltI (by omega) hb).mpr h
theorem nI_ltf {a b : Nat} (h : b ≤ a) (ha : a < 2 ^ 31) : ¬ nI a < nI b := fun q => by
  rw [nI_ltI ha (by omega)] at q
  omega
theorem fw_cp {a b : Nat} (ha : am_lk cs_A a = some (20, 3)) (hb : am_lk cs_A b = some (20, 3)) (hab : a ≠ b) (σ : cs_S) (k : cs_S → am_R cs_S) : cs_cp a (ic 0) b (ic 0) (ic 20) σ k = k (cs_pf σ b (va_cpy (σ.2.1 a) (σ.2.1 b) 0 0 20)) := by
  unfold cs_cp
  rw [ha, hb]
  show (if ic 0 < 0 ∨ ic 0 < 0 ∨ ic 20 < 0 ∨ 20 < (ic 0).toNatClampNeg + (ic 20).toNatClampNeg ∨ 20 < (ic 0).toNatClampNeg + (ic 20).toNatClampNeg ∨ a = b then none else k (cs_pf σ b (va_cpy (σ.2.1 a) (σ.2.1 b) (ic 0).toNatClampNeg (ic 0).toNatClampNeg (ic 20).toNatClampNeg))) = _
  rw [if_neg]
  · rfl
  · rintro (q | q | q | q | q | q)
    · exact absurd q (by decide)
    · exact absurd q (by decide)
    · exact absurd q (by decide)
    · exact absurd q (by decide)
    · exact absurd q (by decide)
    · exact hab q
def fw_S (h0 : Nat) (e0 : Nat → Nat) (σ : cs_S) (μ : mm_S) : Prop := ∀ j, j < h0 → e0 j ≤ 30 ∧ cs_a σ 114 j = nI (e0 j) ∧ μ.2.1 22 j = nI (e0 j)
def fw_P (SM : List Tr) (FR : Nat → Int32) (c : Nat) (r1 : am_R cs_S) (r2 : am_R mm_S) : Prop := ∃ r σ' μ', r1 = some (.inl (some (.inl (.int (r)))), σ') ∧ r2 = some (.inl (some (.inl (.int (r)))), μ') ∧ Rel SM FR (c + 1) σ' μ'
theorem fw_end {c h0 f : Nat} {e0 : Nat → Nat} {σ : cs_S} {μ : mm_S} (hR : Rel SM FR c σ μ) (h20 : h0 ≤ 20) (hs : fw_S h0 e0 σ μ) (m : Nat) (v1 v2 : Int32) (o5 : Option am_V) :
    ∃ μ', jX6_fewest_141 (am_bk (mm_hop (mm_call N f)) am_no (some .int) kX6_fewest (m + h0)) (mm_call N f) μ v1 v2 (nI h0) (nI 0) o5 = some (.inl (some (.inl (.int (ic (-2))))), μ') ∧ Rel SM FR c (cs_pi (cs_pf σ 108 (va_cpy (σ.2.1 114) (σ.2.1 108) 0 0 20)) 9 (nI h0)) μ' := by
  have hl : ∀ (q j : Nat) (μ1 : mm_S), j + q = h0 → μ1.1 = μ.1 → (∀ c, c ≠ 9 → μ1.2.1 c = μ.2.1 c) → (∀ i, i < j → μ1.2.1 9 i = nI (e0 i)) → ∃ μ', jX6_fewest_141 (am_bk (mm_hop (mm_call N f)) am_no (some .int) kX6_fewest (m + q)) (mm_call N f) μ1 v1 v2 (nI h0) (nI j) o5 = some (.inl (some (.inl (.int (ic (-2))))), μ') ∧ Rel SM FR c (cs_pi (cs_pf σ 108 (va_cpy (σ.2.1 114) (σ.2.1 108) 0 0 20)) 9 (nI h0)) μ' := by
    intro q
    induction q with
    | zero =>
      intro j μ1 hj h1 h2 h3
      obtain rfl : j = h0 := by omega
      rw [jX6_fewest_141_eq, if_pos (nI_le (Nat.le_refl _) (by omega))]
      refine ⟨_, rfl, ?_⟩
      have k0 : ∀ i, i ≠ 10 → (mm_p μ1 10 (nI j)).1 i = μ.1 i := fun i hi => by
        rw [mm_p_get, if_neg hi, h1]
      refine hR.setE (e' := e0) (h' := j) ⟨rfl, rfl, ?_, ?_, ?_, rfl⟩ ⟨k0 0 (by omega), k0 30 (by omega), k0 33 (by omega), fun c hc => h2 c (by omega), h2 31 (by omega), h2 32 (by omega)⟩ ⟨h20, rfl, rfl, fun i hi => ⟨(hs i hi).1, ?_, h3 i hi⟩⟩
      · exact va_up_ne σ.2.1 (va_cpy (σ.2.1 114) (σ.2.1 108) 0 0 20) (show (102 : Nat) ≠ 108 by decide)
      · exact va_up_ne σ.2.1 (va_cpy (σ.2.1 114) (σ.2.1 108) 0 0 20) (show (107 : Nat) ≠ 108 by decide)
      · exact va_up_ne σ.2.1 (va_cpy (σ.2.1 114) (σ.2.1 108) 0 0 20) (show (116 : Nat) ≠ 108 by decide)
      · show va_up σ.2.1 108 (va_cpy (σ.2.1 114) (σ.2.1 108) 0 0 20) 108 i = _
        rw [va_up_self]
        unfold va_cpy
        rw [if_pos ⟨by omega, by omega⟩, Nat.sub_zero, Nat.zero_add]
        exact (hs i hi).2.1
    | succ q ih =>
      intro j μ1 hj h1 h2 h3
      rw [jX6_fewest_141_eq, if_neg (nI_ge (by omega) (by omega)), am_ix_nI (by omega) (by omega), am_ix_nI (by omega) (by omega), h2 22 (by omega), (hs j (by omega)).2.2, ic_v1, nI_add, ← Nat.add_assoc, jX6_fewest_141_bk]
      refine ih (j + 1) _ (by omega) h1 (fun c hc => ?_) (fun i hi => ?_)
      · rw [← h2 c hc]
        funext i
        rw [mm_pa_get, if_neg hc]
      · rw [mm_pa_get, if_pos rfl]
        by_cases q : i = j
        · rw [if_pos q, q]
        · rw [if_neg q, h3 i (by omega)]
  exact hl h0 0 μ (by omega) rfl (fun _ _ => rfl) (fun i hi => by omega)
theorem fw_inner {c h0 f n i cc : Nat} {e0 : Nat → Nat} {T : Nat → List Tr} (hi : i < (T 100).length) (hn : n ≤ 8) (hk : kc ((T 100).getD i .leaf) = n) (hcc : cc ≤ 8) (hN : 20000 ≤ N) (hf : 100 ≤ f) (k1 k2 : Nat)
    (hout : ∀ σ μ o5, Rel SM FR c σ μ → cs_t σ = T → fw_S h0 e0 σ μ → fw_P SM FR c (jX1_fewest_74 (am_bk (cs_hop 1 (cs_call N f)) am_no (some .int) kX1_fewest k1) (cs_call N f) σ (nI i) ((T 100).getD i .leaf) (nI n) (nI h0) (nI (cc + 1))) (jX6_fewest_83 (am_bk (mm_hop (mm_call N f)) am_no (some .int) kX6_fewest k2) (mm_call N f) μ (nI i) (nI n) (nI h0) (nI (cc + 1)) o5)) :
    ∀ (q way : Nat) (σ : cs_S) (μ : mm_S), way + q = 2 ^ n → Rel SM FR c σ μ → cs_t σ = T → fw_S h0 e0 σ μ → cs_i σ 12 = nI way → fw_P SM FR c (jX1_fewest_85 (am_bk (cs_hop 1 (cs_call N f)) am_no (some .int) kX1_fewest (k1 + 1 + q)) (cs_call N f) σ (nI i) ((T 100).getD i .leaf) (nI n) (nI h0) (nI cc)) (jX6_fewest_92 (am_bk (mm_hop (mm_call N f)) am_no (some .int) kX6_fewest (k2 + 1 + q)) (mm_call N f) μ (nI i) (nI n) (nI h0) (nI cc) (nI way)) := by
  have h2n : 2 ^ n ≤ 256 := Nat.pow_le_pow_right (n := 2) (by omega) (show n ≤ 8 by omega)
  intro q
  induction q with
  | zero =>
    intro way σ μ hw hR hT hS h12
    rw [jX1_fewest_85_eq, h12, nI_sh n (by omega), if_pos (nI_le (by omega) (by omega)), jX6_fewest_92_eq, nI_sh n (by omega), if_pos (nI_le (by omega) (by omega)), ic_v1, nI_add, Nat.add_zero, Nat.add_zero, jX1_fewest_74_bk, jX6_fewest_83_bk]
    exact hout σ μ _ hR hT hS
  | succ q ih =>
    intro way σ μ hw hR hT hS h12
    have hstep : ∀ σ μ, Rel SM FR c σ μ → cs_t σ = T → fw_S h0 e0 σ μ → cs_i σ 12 = nI way → fw_P SM FR c (jX1_fewest_121 (am_bk (cs_hop 1 (cs_call N f)) am_no (some .int) kX1_fewest (k1 + 1 + (q + 1))) (cs_call N f) σ (nI i) ((T 100).getD i .leaf) (nI n) (nI h0) (nI cc)) (jX6_fewest_126 (am_bk (mm_hop (mm_call N f)) am_no (some .int) kX6_fewest (k2 + 1 + (q + 1))) (mm_call N f) μ (nI i) (nI n) (nI h0) (nI cc) (nI way)) := by
      intro σ μ hR hT hS h12
      rw [jX1_fewest_121_eq, h12, jX6_fewest_126_eq, ic_v1, nI_add, ← Nat.add_assoc (k1 + 1), ← Nat.add_assoc (k2 + 1), jX1_fewest_85_bk, jX6_fewest_92_bk]
      refine ih (way + 1) _ μ (by omega) (hR.fr0 ⟨⟨?_, ?_, ?_⟩, ⟨rfl, rfl, rfl, rfl⟩, rfl⟩ (mm_same.rf μ)) hT hS ?_
      · exact va_up_ne σ.1 (nI (way + 1)) (show (1 : Nat) ≠ 12 by decide)
      · exact va_up_ne σ.1 (nI (way + 1)) (show (9 : Nat) ≠ 12 by decide)
      · exact va_up_ne σ.1 (nI (way + 1)) (show (17 : Nat) ≠ 12 by decide)
      · rw [cs_pi_get, if_pos rfl]
    obtain ⟨f, rfl⟩ : ∃ f', f = f' + 1 := ⟨f - 1, by omega⟩
    rw [jX1_fewest_85_eq, h12, nI_sh n (by omega), if_neg (nI_ge (by omega) (by omega)), cs_many (by omega) (by omega), am_ci_ok, jX6_fewest_92_eq, nI_sh n (by omega), if_neg (nI_ge (by omega) (by omega)), mm_bits (by omega) (by omega), am_ci_ok]
    by_cases hp : nI (pc 10 way) = nI cc
    · rw [if_pos hp, if_pos hp]
      subst hT
      obtain ⟨b, σ', μ', q1, q2, q3, q4, q5, q6, q7⟩ := sure_step (N := N) hR hi hn hk (show way < 256 by omega) h12 hN hf
      have hS' : fw_S h0 e0 σ' μ' := fun j hj => by
        unfold cs_a
        rw [q5, q7]
        exact hS j hj
      rw [q1, am_ci_ok, q2, am_ci_ok]
      cases b with
      | false =>
        rw [if_pos b2f0, if_pos b2f0, jX1_fewest_121_116_eq, jX6_fewest_126_121_eq]
        exact hstep σ' μ' q3 q6 hS' q4
      | true =>
        rw [if_neg b2t0, if_neg b2t0]
        obtain ⟨F, K, e, h, -, -, -, er, -⟩ := id q3
        rw [er.2.1, er.2.2.1]
        exact ⟨_, _, _, rfl, rfl, q3.up⟩
    · rw [if_neg hp, if_neg hp, jX1_fewest_121_107_eq, jX6_fewest_126_110_eq]
      exact hstep σ μ hR hT hS h12
theorem fw_outer {c h0 f n i : Nat} {e0 : Nat → Nat} {T : Nat → List Tr} (hi : i < (T 100).length) (hn : n ≤ 8) (hk : kc ((T 100).getD i .leaf) = n) (h20 : h0 ≤ 20) (hN : 20000 ≤ N) (hf : 100 ≤ f) :
    ∀ (q cc k1 k2 : Nat) (σ : cs_S) (μ : mm_S) (o5 : Option am_V), cc + q = n + 1 → 20 + 300 * q ≤ k1 → 20 + 300 * q ≤ k2 → Rel SM FR c σ μ → cs_t σ = T → fw_S h0 e0 σ μ → fw_P SM FR c (jX1_fewest_74 (am_bk (cs_hop 1 (cs_call N f)) am_no (some .int) kX1_fewest k1) (cs_call N f) σ (nI i) ((T 100).getD i .leaf) (nI n) (nI h0) (nI cc)) (jX6_fewest_83 (am_bk (mm_hop (mm_call N f)) am_no (some .int) kX6_fewest k2) (mm_call N f) μ (nI i) (nI n) (nI h0) (nI cc) o5) := by
  have h2n : 2 ^ n ≤ 256 := Nat.pow_le_pow_right (n := 2) (by omega) (show n ≤ 8 by omega)
  intro q
  induction q with
  | zero =>
    intro cc k1 k2 σ μ o5 hq hk1 hk2 hR hT hS
    obtain ⟨m, rfl⟩ : ∃ m, k2 = m + h0 := ⟨k2 - h0, by omega⟩
    obtain ⟨μ', e, hR'⟩ := fw_end (N := N) (f := f) hR h20 hS m (nI i) (nI n) o5
    rw [jX1_fewest_74_eq, if_pos (nI_ltt (by omega) (by omega)), fw_cp rfl rfl (by omega), jX6_fewest_83_eq, if_pos (nI_ltt (by omega) (by omega)), ic_v0, e]
    exact ⟨_, _, _, rfl, rfl, hR'.up⟩
  | succ q ih =>
    intro cc k1 k2 σ μ o5 hq hk1 hk2 hR hT hS
    rw [jX1_fewest_74_eq, if_neg (nI_ltf (by omega) (by omega)), jX6_fewest_83_eq, if_neg (nI_ltf (by omega) (by omega)), ic_v0]
    obtain ⟨m1, rfl⟩ : ∃ m, k1 = m + 1 + 2 ^ n := ⟨k1 - 1 - 2 ^ n, by omega⟩
    obtain ⟨m2, rfl⟩ : ∃ m, k2 = m + 1 + 2 ^ n := ⟨k2 - 1 - 2 ^ n, by omega⟩
    refine fw_inner hi hn hk (by omega) hN hf m1 m2 (fun σ μ o5 a b d => ih (cc + 1) m1 m2 σ μ o5 (by omega) (by omega) (by omega) a b d) (2 ^ n) 0 _ μ (by omega) (hR.fr0 ⟨⟨?_, ?_, ?_⟩, ⟨rfl, rfl, rfl, rfl⟩, rfl⟩ (mm_same.rf μ)) hT hS ?_
    · exact va_up_ne σ.1 (nI 0) (show (1 : Nat) ≠ 12 by decide)
    · exact va_up_ne σ.1 (nI 0) (show (9 : Nat) ≠ 12 by decide)
    · exact va_up_ne σ.1 (nI 0) (show (17 : Nat) ≠ 12 by decide)
    · rw [cs_pi_get, if_pos rfl]
theorem op_fewest {f : Nat} (hf : 150 ≤ f) (hN : 20000 ≤ N) (x : Int32) : opI SM FR N f 44 56 [.inl (.ref 0), .inl (.int (x))] := by
  intro c σ μ hR hc
  obtain ⟨F, K, e, h, nd, fn, kp, er, wk, sm, ct⟩ := id hR
  have hl := nd.1
  obtain ⟨f, rfl⟩ : ∃ f', f = f' + 20 := ⟨f - 20, by omega⟩
  rw [dX1_fewest_eq, dX6_fewest_eq]
  unfold dX1_fewest dX6_fewest
  rw [cs_isNode, am_ci_ok, mm_isNode _ nd.2.2.1, am_ci_ok]
  cases h2 : isN (cs_t σ 100).length x with
  | false =>
    rw [if_pos b2f0, if_pos b2f0]
    exact ⟨_, _, _, rfl, rfl, hR.up⟩
  | true =>
    obtain ⟨i, hi, rfl⟩ := isN_t (by omega) h2
    obtain ⟨a1, a2, a3, a4⟩ := nd.at hi
    have hdp := a1.dp
    obtain ⟨m, hm, m1, m2⟩ := fn
    have hkc := kc_sz ((cs_t σ 100).getD i .leaf)
    have hsz := a1.2.2
    rw [if_neg b2t0, if_neg b2t0, cs_c201 rfl hi (by omega), am_ct_ok, a2, cond_true, cs_keepers _ σ (f + 19) a1.2.1 a1.1 (by omega), am_ci_ok, cond_true, m1, cs_isRight F m hm (fun l hl => (m2 l hl).1) _ σ (f + 19) a1.2.1 a1.1 (by omega), am_ci_ok,
      mm_keepable _ μ 0 120 _ (f + 19) a3 (by omega) a1.2.1 (by omega), am_ci_ok, mm_isRight F _ μ 0 120 _ (f + 19) a3 (by omega) a1.2.1 (fun l hl => (m2 l hl).2) (by omega), am_ci_ok, show ic 8 = nI 8 from rfl]
    have h30 : ∀ back v2, jX6_fewest_30 back (mm_call N (f + 19)) μ (nI i) v2 = if b2 (tr_right F ((cs_t σ 100).getD i .leaf)) = 0 then some (.inl (some (.inl (.int (ic (-3))))), μ) else some (.inl (some (.inl (.int (ic (-5))))), μ) := fun back v2 => by
      rw [jX6_fewest_30_eq, mm_isRight F _ μ 0 120 _ (f + 19) a3 (by omega) a1.2.1 (fun l hl => (m2 l hl).2) (by omega), am_ci_ok]
    cases hr : tr_right F ((cs_t σ 100).getD i .leaf) with
    | false =>
      rw [if_pos b2f0, if_pos b2f0, jX6_fewest_30_24_eq, h30, hr, if_pos b2f0]
      exact ⟨_, _, _, rfl, rfl, hR.up⟩
    | true =>
      rw [if_neg b2t0, if_neg b2t0]
      by_cases h8 : kc ((cs_t σ 100).getD i .leaf) ≤ 8
      · rw [if_pos (nI_le h8 (by omega)), if_pos (nI_le h8 (by omega)), fw_cp rfl rfl (by omega), er.2.1, er.2.2.1, ic_v0]
        have h20 := er.1
        obtain ⟨n, rfl⟩ : ∃ n, N = n + h := ⟨N - h, by omega⟩
        have hR1 : Rel SM FR c (cs_pf σ 114 (va_cpy (σ.2.1 108) (σ.2.1 114) 0 0 20)) μ := hR.fr0 ⟨⟨rfl, rfl, rfl⟩, ⟨va_up_ne σ.2.1 (va_cpy (σ.2.1 108) (σ.2.1 114) 0 0 20) (show (102 : Nat) ≠ 114 by decide), va_up_ne σ.2.1 (va_cpy (σ.2.1 108) (σ.2.1 114) 0 0 20) (show (107 : Nat) ≠ 114 by decide), va_up_ne σ.2.1 (va_cpy (σ.2.1 108) (σ.2.1 114) 0 0 20) (show (108 : Nat) ≠ 114 by decide), va_up_ne σ.2.1 (va_cpy (σ.2.1 108) (σ.2.1 114) 0 0 20) (show (116 : Nat) ≠ 114 by decide)⟩, rfl⟩ (mm_same.rf μ)
        have hs1 : ∀ j, j < h → cs_a (cs_pf σ 114 (va_cpy (σ.2.1 108) (σ.2.1 114) 0 0 20)) 114 j = nI (e j) := fun j hj => by
          show va_up σ.2.1 114 (va_cpy (σ.2.1 108) (σ.2.1 114) 0 0 20) 114 j = _
          rw [va_up_self]
          unfold va_cpy
          rw [if_pos ⟨by omega, by omega⟩, Nat.sub_zero, Nat.zero_add]
          exact (er.2.2.2 j hj).2.1
        have hloop : ∀ (q j : Nat) (μ1 : mm_S), j + q = h → μ1.1 = μ.1 → (∀ c, c ≠ 22 → μ1.2.1 c = μ.2.1 c) → (∀ i, i < j → μ1.2.1 22 i = nI (e i)) → fw_P SM FR c (jX1_fewest_74 (am_bk (cs_hop 1 (cs_call (n + h) (f + 19))) am_no (some .int) kX1_fewest (n + h)) (cs_call (n + h) (f + 19)) (cs_pf σ 114 (va_cpy (σ.2.1 108) (σ.2.1 114) 0 0 20)) (nI i) ((cs_t σ 100).getD i .leaf) (nI (kc ((cs_t σ 100).getD i .leaf))) (nI h) (nI 0))
            (jX6_fewest_54 (am_bk (mm_hop (mm_call (n + h) (f + 19))) am_no (some .int) kX6_fewest (n + q)) (mm_call (n + h) (f + 19)) μ1 (nI i) (nI (kc ((cs_t σ 100).getD i .leaf))) (nI h) (nI j)) := by
          intro q
          induction q with
          | zero =>
            intro j μ1 hj h1 h2 h3
            obtain rfl : j = h := by omega
            rw [jX6_fewest_54_eq, if_pos (nI_le (Nat.le_refl _) (by omega)), ic_v0]
            have hR2 := hR1.fr0 (cs_same.rf _) (show mm_same μ μ1 from ⟨⟨by rw [h1], by rw [h1], by rw [h1], by rw [h1]⟩, ⟨fun c hc => h2 c (by omega), h2 8 (by omega), h2 9 (by omega), h2 31 (by omega), h2 32 (by omega)⟩, fun c _ _ j _ => by rw [h2 c (by omega)]⟩)
            exact fw_outer (T := cs_t σ) (e0 := e) hi h8 rfl h20 hN (by omega) (kc ((cs_t σ 100).getD i .leaf) + 1) 0 _ _ _ μ1 none (by omega) (by omega) (by omega) hR2 rfl (fun i hi => ⟨(er.2.2.2 i hi).1, hs1 i hi, h3 i hi⟩)
          | succ q ih =>
            intro j μ1 hj h1 h2 h3
            rw [jX6_fewest_54_eq, if_neg (nI_ge (by omega) (by omega)), am_ix_nI (by omega) (by omega), am_ix_nI (by omega) (by omega), h2 9 (by omega), (er.2.2.2 j (by omega)).2.2, ic_v1, nI_add, ← Nat.add_assoc, jX6_fewest_54_bk]
            refine ih (j + 1) _ (by omega) h1 (fun c hc => ?_) (fun i hi => ?_)
            · rw [← h2 c hc]
              funext i
              rw [mm_pa_get, if_neg hc]
            · rw [mm_pa_get, if_pos rfl]
              by_cases q : i = j
              · rw [if_pos q, q]
              · rw [if_neg q, h3 i (by omega)]
        exact hloop h 0 μ (by omega) rfl (fun _ _ => rfl) (fun i hi => by omega)
      · rw [if_neg (nI_ge (by omega) (by omega)), if_neg (nI_ge (by omega) (by omega)), h30, hr, if_neg b2t0]
        exact ⟨_, _, _, rfl, rfl, hR.up⟩
end
