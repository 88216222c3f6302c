set_option maxRecDepth 100000
/-! THE MODEL's clear. -/
/-- the words of the first so many trees are laid -/
def mws (μ : mm_S) (W : Nat → List Nat) (a : Nat) : Prop := ∀ j, j < a → μ.2.1 25 j = nI (W j).length ∧ ∀ i, i < (W j).length → μ.2.1 24 (20 * j + i) = nI ((W j).getD i 0)
def mm_kl (μ μ' : mm_S) : Prop := (∀ j, j ≠ 18 → j ≠ 19 → j ≠ 20 → j ≠ 23 → μ'.1 j = μ.1 j) ∧ (∀ c, c = 0 ∨ 6 < c → c ≠ 17 → c ≠ 24 → c ≠ 25 → μ'.2.1 c = μ.2.1 c) ∧ (∀ c j, 1 ≤ c → c ≤ 6 → j < 120 → μ'.2.1 c j = μ.2.1 c j)
theorem mm_kl.rf (μ : mm_S) : mm_kl μ μ := ⟨fun _ _ _ _ _ => rfl, fun _ _ _ _ _ => rfl, fun _ _ _ _ _ => rfl⟩
theorem mm_kl.tr {μ μ' μ'' : mm_S} (a : mm_kl μ μ') (b : mm_kl μ' μ'') : mm_kl μ μ'' :=
  ⟨fun j q1 q2 q3 q4 => (b.1 j q1 q2 q3 q4).trans (a.1 j q1 q2 q3 q4), fun c q1 q2 q3 q4 => (b.2.1 c q1 q2 q3 q4).trans (a.2.1 c q1 q2 q3 q4), fun c j q1 q2 q3 => (b.2.2 c j q1 q2 q3).trans (a.2.2 c j q1 q2 q3)⟩
theorem mm_ks.kl {μ μ' : mm_S} (a : mm_ks μ μ') : mm_kl μ μ' := ⟨fun j _ _ _ q => a.1 j q, fun c q _ _ _ => a.2.1 c q, fun c j _ _ q => a.2.2.1 c j q⟩
theorem mm_kl.same {μ μ' : mm_S} (a : mm_kl μ μ') : mm_same μ μ' :=
  ⟨⟨a.1 0 (by omega) (by omega) (by omega) (by omega), a.1 10 (by omega) (by omega) (by omega) (by omega), a.1 30 (by omega) (by omega) (by omega) (by omega), a.1 33 (by omega) (by omega) (by omega) (by omega)⟩,
    ⟨fun c hc => a.2.1 c (by omega) (by omega) (by omega) (by omega), a.2.1 8 (by omega) (by omega) (by omega) (by omega), a.2.1 9 (by omega) (by omega) (by omega) (by omega), a.2.1 31 (by omega) (by omega) (by omega) (by omega), a.2.1 32 (by omega) (by omega) (by omega) (by omega)⟩, fun c h1 h2 j hj => a.2.2 c j h1 h2 hj⟩
section
variable {N f : Nat}
theorem mm_isSame {μ : mm_S} {W : Nat → List Nat} {n a b : Nat} (h : mws μ W n) (ha : a < n) (hb : b < n) (hn : n ≤ 280) (hw : ∀ j, j < n → (W j).length ≤ 20 ∧ ∀ w ∈ W j, w ≤ 30) (hN : 100 ≤ N) : mm_call N (f + 1) 32 [.inl (.ref 0), .inl (.int (nI a)), .inl (.int (nI b))] (μ) = some (.inl (some (.inl (.int (b2 (decide (W a = W b)))))), μ) := by
  obtain ⟨a1, a3⟩ := h a ha
  obtain ⟨b1, b3⟩ := h b hb
  obtain ⟨la, hl⟩ := hw a ha
  obtain ⟨lb, hl'⟩ := hw b hb
  have hloop : (W a).length = (W b).length → ∀ (n m j : Nat), j + n = (W a).length → jX6_isSame_24 (am_bk (mm_hop (mm_call N f)) am_no (some .boolean) kX6_isSame (m + n)) (mm_call N f) μ (nI a) (nI b) (b2 (eqP (W a) (W b) j)) (nI j) = some (.inl (some (.inl (.int (b2 (decide (W a = W b)))))), μ) := by
    intro hlen n
    induction n with
    | zero =>
      intro m j hj
      obtain rfl : j = (W a).length := by omega
      rw [jX6_isSame_24_eq, am_ix_nI (by omega) (by omega), a1, if_pos (nI_le (Nat.le_refl _) (by omega)), b2_and1, eqP_all hlen]
    | succ n ih =>
      intro m j hj
      rw [jX6_isSame_24_eq, am_ix_nI (by omega) (by omega), a1, if_neg (nI_ge (by omega) (by omega))]
      cases q : eqP (W a) (W b) j with
      | false =>
        rw [if_pos b2f0, b2_and1, eqP_f q]
      | true =>
        have ih := ih m (j + 1) (by omega)
        rw [eqP_s, q, Bool.true_and] at ih
        have w1 := hl _ (getD_mem (W a) (show j < (W a).length by omega))
        have w2 := hl' _ (getD_mem (W b) (show j < (W b).length by omega))
        rw [if_neg b2t0, show ic 20 = nI 20 from rfl, nI_mulI, nI_mulI, nI_add, nI_add, am_ix_nI (by omega) (by omega), am_ix_nI (by omega) (by omega), a3 j (by omega), b3 j (by omega), ← Nat.add_assoc]
        by_cases q' : (W a).getD j 0 = (W b).getD j 0
        · rw [decide_eq_true q'] at ih
          rw [if_pos (by rw [q']), jX6_isSame_71_70_eq, jX6_isSame_71_eq, ic_v1, nI_add, jX6_isSame_24_bk]
          exact ih
        · rw [decide_eq_false q'] at ih
          rw [if_neg (fun q => q' ((nI_eq (by omega) (by omega)).mp q)), jX6_isSame_71_eq, ic_v1, ic_v0, nI_add, jX6_isSame_24_bk]
          exact ih
  rw [dX6_isSame_eq]
  unfold dX6_isSame
  rw [am_ix_nI (by omega) (by omega), am_ix_nI (by omega) (by omega), a1, b1]
  by_cases q : (W a).length = (W b).length
  · obtain ⟨n', rfl⟩ : ∃ n', N = n' + (W a).length := ⟨N - (W a).length, by omega⟩
    have := hloop q (W a).length n' 0 (by omega)
    rw [eqP_0] at this
    rw [if_pos (by rw [q]), jX6_isSame_20_19_eq, jX6_isSame_20_eq]
    exact this
  · rw [if_neg (fun q' => q ((nI_eq (by omega) (by omega)).mp q')), jX6_isSame_20_eq, jX6_isSame_24_eq, am_ix_nI (by omega) (by omega), ic_v0, if_pos nI_0, decide_eq_false (fun q' => q (by rw [q']))]
    split <;> rfl
/-- the pairs -/
theorem mc_138 {μ : mm_S} {W : Nat → List Nat} {n : Nat} (h : mws μ W n) (h23 : μ.1 23 = nI n) (hn : n ≤ 280) (hw : ∀ j, j < n → (W j).length ≤ 20 ∧ ∀ w ∈ W j, w ≤ 30) (hN : 100 ≤ N) (v1 v2 : Int32) :
    ∀ (q a m : Nat) (o4 : Option am_V), a + q = n → (n + 1) * q ≤ m → (∀ a', a' < a → ∀ b', b' < a' → W a' ≠ W b') → jX6_clear_138 (am_bk (mm_hop (mm_call N (f + 1))) am_no (some .int) kX6_clear m) (mm_call N (f + 1)) μ v1 v2 (nI a) o4 = some (.inl (some (.inl (.int ((if ∀ a', a' < n → ∀ b', b' < a' → W a' ≠ W b' then ic 1 else ic 0))))), μ) := by
  intro q
  induction q with
  | zero =>
    intro a m o4 ha hm hp
    obtain rfl : a = n := by omega
    rw [jX6_clear_138_eq, h23, if_pos (nI_le (Nat.le_refl _) (by omega)), if_pos hp]
  | succ q ih =>
    intro a m o4 ha hm hp
    rw [jX6_clear_138_eq, h23, if_neg (nI_ge (by omega) (by omega)), ic_v0]
    have hin : ∀ (p b m' : Nat), b + p = a → (n + 1) * q + 1 + p ≤ m' → (∀ b', b' < b → W a ≠ W b') → jX6_clear_149 (am_bk (mm_hop (mm_call N (f + 1))) am_no (some .int) kX6_clear m') (mm_call N (f + 1)) μ v1 v2 (nI a) (nI b) = some (.inl (some (.inl (.int ((if ∀ a', a' < n → ∀ b', b' < a' → W a' ≠ W b' then ic 1 else ic 0))))), μ) := by
      intro p
      induction p with
      | zero =>
        intro b m' hb hm' hpb
        obtain rfl : b = a := by omega
        obtain ⟨m', rfl⟩ : ∃ x, m' = x + 1 := ⟨m' - 1, by omega⟩
        rw [jX6_clear_149_eq, if_pos (nI_le (Nat.le_refl _) (by omega)), ic_v1, nI_add, jX6_clear_138_bk]
        refine ih (b + 1) m' _ (by omega) (by omega) (fun a' ha' b' hb' => ?_)
        by_cases e : a' = b
        · subst e
          exact hpb b' hb'
        · exact hp a' (by omega) b' hb'
      | succ p ihp =>
        intro b m' hb hm' hpb
        obtain ⟨m', rfl⟩ : ∃ x, m' = x + 1 := ⟨m' - 1, by omega⟩
        rw [jX6_clear_149_eq, if_neg (nI_ge (by omega) (by omega)), mm_isSame h (by omega) (by omega) hn hw hN, am_ci_ok]
        by_cases e : W a = W b
        · rw [decide_eq_true e, if_neg b2t0, if_neg (fun q' => q' a (by omega) b (by omega) e)]
        · rw [decide_eq_false e, if_pos b2f0, ic_v1, nI_add, jX6_clear_149_bk]
          refine ihp (b + 1) m' (by omega) (by omega) (fun b' hb' => ?_)
          by_cases e' : b' = b
          · rw [e']
            exact e
          · exact hpb b' (by omega)
    rw [Nat.mul_succ] at hm
    exact hin a 0 m (by omega) (by omega) (fun b' hb' => by omega)
/-- the words of one tree are laid -/
theorem mc_96 {a : Nat} {ws : List Nat} {μ0 : mm_S} (ha : a < 280) (hw : mw_ μ0 ws) (hl : ws.length ≤ 20) (v1 v2 : Int32) {P : am_R mm_S → Prop} {K : Nat}
    (hc : ∀ (m : Nat) (μ : mm_S) (o4 : Option am_V), K ≤ m → μ.1 = μ0.1 → (∀ c, c ≠ 24 → μ.2.1 c = μ0.2.1 c) → (∀ j, j < 20 * a → μ.2.1 24 j = μ0.2.1 24 j) → (∀ i, i < ws.length → μ.2.1 24 (20 * a + i) = nI (ws.getD i 0)) → P (jX6_clear_66 (am_bk (mm_hop (mm_call N f)) am_no (some .int) kX6_clear m) (mm_call N f) μ v1 v2 (nI (a + 1)) o4)) :
    ∀ (q k m : Nat) (μ : mm_S), k + q = ws.length → K + 1 + q ≤ m → μ.1 = μ0.1 → (∀ c, c ≠ 24 → μ.2.1 c = μ0.2.1 c) → (∀ j, j < 20 * a → μ.2.1 24 j = μ0.2.1 24 j) → (∀ i, i < k → μ.2.1 24 (20 * a + i) = nI (ws.getD i 0)) → P (jX6_clear_96 (am_bk (mm_hop (mm_call N f)) am_no (some .int) kX6_clear m) (mm_call N f) μ v1 v2 (nI a) (nI k)) := by
  intro q
  induction q with
  | zero =>
    intro k m μ hk hm h1 h2 h3 h4
    obtain rfl : k = ws.length := by omega
    obtain ⟨m, rfl⟩ : ∃ x, m = x + 1 := ⟨m - 1, by omega⟩
    rw [jX6_clear_96_eq, h1, hw.1, if_pos (nI_le (Nat.le_refl _) (by omega)), ic_v1, nI_add, jX6_clear_66_bk]
    exact hc m μ _ (by omega) h1 h2 h3 h4
  | succ q ih =>
    intro k m μ hk hm h1 h2 h3 h4
    obtain ⟨m, rfl⟩ : ∃ x, m = x + 1 := ⟨m - 1, by omega⟩
    rw [jX6_clear_96_eq, h1, hw.1, if_neg (nI_ge (by omega) (by omega)), am_ix_nI (by omega) (by omega), show ic 20 = nI 20 from rfl, nI_mulI, nI_add, am_ix_nI (by omega) (by omega), h2 17 (by omega), hw.2.2 k (by omega), ic_v1, nI_add, jX6_clear_96_bk]
    refine ih (k + 1) m _ (by omega) (by omega) h1 (fun c hc => ?_) (fun j hj => ?_) (fun i hi => ?_)
    · rw [← h2 c hc]
      funext i
      rw [mm_pa_get, if_neg hc]
    · rw [mm_pa_get, if_pos rfl, if_neg (by omega)]
      exact h3 j hj
    · rw [mm_pa_get, if_pos rfl]
      by_cases q : i = k
      · rw [if_pos (by rw [q]), q]
      · rw [if_neg (by omega), h4 i (by omega)]
theorem mc_66 {L : List Tr} {K : Nat → Bool} {st : Nat} (hst : st < 8) (hN : 1000 ≤ N) (hf : 60 ≤ f) (hL : L.length ≤ 280) (hss : ∀ j, j < L.length → tr_ss (L.getD j .leaf) = true) (hKm : ∀ k, K k = true → mk k = true) {μ0 : mm_S} (v2 : Int32) :
    ∀ (q a m : Nat) (μ : mm_S) (o4 : Option am_V), a + q = L.length → 22 * q + (L.length + 1) * L.length ≤ m → msm μ L → (∀ k, k < 10 → μ.2.1 8 (10 * st + k) = b2 (K k)) → mm_kl μ0 μ → mws μ (fun j => wsd (fun _ k => K k) (L.getD j .leaf) 0 41) a →
      ∃ μ', jX6_clear_66 (am_bk (mm_hop (mm_call N (f + 1))) am_no (some .int) kX6_clear m) (mm_call N (f + 1)) μ (nI st) v2 (nI a) o4 = some (.inl (some (.inl (.int ((if ∀ a', a' < L.length → ∀ b', b' < a' → wsd (fun _ k => K k) (L.getD a' .leaf) 0 41 ≠ wsd (fun _ k => K k) (L.getD b' .leaf) 0 41 then ic 1 else ic 0))))), μ') ∧ mm_kl μ0 μ' := by
  have hww : ∀ j, j < L.length → (wsd (fun _ k => K k) (L.getD j .leaf) 0 41).length ≤ 20 ∧ ∀ w ∈ wsd (fun _ k => K k) (L.getD j .leaf) 0 41, w ≤ 30 := fun j hj => by
    obtain ⟨h1, -, h3⟩ := tr_ss_ok (hss j hj)
    have := h3 (fun _ k => K k) 0 41
    exact ⟨by omega, wsd_le _ _ 0 41 h1.2.1⟩
  intro q
  induction q with
  | zero =>
    intro a m μ o4 ha hm h1 h2 h3 h4
    obtain rfl : a = L.length := by omega
    rw [jX6_clear_66_eq, h1.1, if_pos (nI_le (Nat.le_refl _) (by omega)), ic_v0, mc_138 h4 h1.1 hL hww (by omega) (nI st) v2 L.length 0 m o4 (by omega) (by omega) (fun a' h => by omega)]
    exact ⟨μ, rfl, h3⟩
  | succ q ih =>
    intro a m μ o4 ha hm h1 h2 h3 h4
    have haL : a < L.length := by omega
    obtain ⟨t1, t2, t3⟩ := tr_ss_ok (hss a haL)
    have hdp := tr_sz_dp (L.getD a .leaf)
    have hlen := t3 (fun _ k => K k) 0 41
    obtain ⟨μ1, e1, w1, w2, w3, w4⟩ := mm_sayAll (N := N) (st := st) (f := f + 1) (b := 41) (show 120 + L.length ≤ 450 by omega) hst (by omega) (h1.2.2 a haL) t1.2.1 t1.1 h2 hKm (by omega) (by omega) (by omega)
    rw [jX6_clear_66_eq, h1.1, if_neg (nI_ge (by omega) (by omega)), show ic 120 = nI 120 from rfl, nI_add, e1, am_cv_ok, am_ix_nI (by omega) (by omega), ic_v0, w1.1]
    generalize hws : wsd (fun _ k => K k) (L.getD a .leaf) 0 41 = ws at *
    have hmw : mw_ (mm_pa μ1 25 a (nI ws.length)) ws := ⟨w1.1, w1.2.1, fun j hj => by rw [mm_pa_get, if_neg (by omega)]; exact w1.2.2 j hj⟩
    have r0 : ∀ c, c ≠ 17 → c ≠ 25 → (mm_pa μ1 25 a (nI ws.length)).2.1 c = μ.2.1 c := fun c q1 q2 => by
      rw [← w3 c q1]
      funext i
      rw [mm_pa_get, if_neg q2]
    refine mc_96 (P := fun r => ∃ μ', r = some (.inl (some (.inl (.int ((if ∀ a', a' < L.length → ∀ b', b' < a' → wsd (fun _ k => K k) (L.getD a' .leaf) 0 41 ≠ wsd (fun _ k => K k) (L.getD b' .leaf) 0 41 then ic 1 else ic 0))))), μ') ∧ mm_kl μ0 μ') (K := 22 * q + (L.length + 1) * L.length) (by omega) hmw (by omega) (nI st) v2 ?_ ws.length 0 m _ (by omega) (by omega) rfl (fun _ _ => rfl) (fun _ _ => rfl) (fun i hi => by omega)
    intro m' μ2 o4 hm' g1 g2 g3 g4
    have hkl : mm_kl μ μ2 := ⟨fun j q1 q2 q3 _ => by rw [g1]; exact w2 j q1 q2 q3, fun c _ q1 q2 q3 => by rw [g2 c q2]; exact r0 c q1 q3, fun c j q1 q2 _ => by rw [g2 c (by omega), r0 c (by omega) (by omega)]⟩
    have h23 : μ2.1 23 = μ.1 23 := by rw [g1]; exact w2 23 (by omega) (by omega) (by omega)
    refine ih (a + 1) m' μ2 o4 (by omega) hm' ⟨h23.trans h1.1, h1.2.1, fun j hj => mr_of (fun c q1 q2 i _ _ => by rw [g2 c (by omega), r0 c (by omega) (by omega)]) _ _ (h1.2.2 j hj)⟩ (fun k hk => by rw [g2 8 (by omega), r0 8 (by omega) (by omega)]; exact h2 k hk) (h3.tr hkl) (fun j hj => ?_)
    by_cases e : j = a
    · subst e
      refine ⟨?_, fun i hi => ?_⟩
      · rw [g2 25 (by omega), mm_pa_get, if_pos rfl, if_pos rfl]
        show _ = nI (wsd (fun _ k => K k) (L.getD j .leaf) 0 41).length
        rw [hws]
      · have hi' : i < ws.length := by rw [← hws]; exact hi
        rw [g4 i hi']
        show _ = nI ((wsd (fun _ k => K k) (L.getD j .leaf) 0 41).getD i 0)
        rw [hws]
    · obtain ⟨p1, p2⟩ := h4 j (by omega)
      refine ⟨?_, fun i hi => ?_⟩
      · rw [g2 25 (by omega), mm_pa_get, if_pos rfl, if_neg e, w3 25 (by omega)]
        exact p1
      · have := (hww j (by omega)).1
        have hi2 : i < (wsd (fun _ k => K k) (L.getD j .leaf) 0 41).length := hi
        rw [g3 _ (by omega), r0 24 (by omega) (by omega)]
        exact p2 i hi
end
