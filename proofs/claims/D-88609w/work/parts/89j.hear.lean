set_option maxRecDepth 100000
/-! THE OPERATIONS: hear, listen. -/
section
variable {SM : List Tr} {FR : Nat → Int32} {N f : Nat}
theorem nI_any (w : Int32) : ∃ n, w = nI n := ⟨w.toBitVec.toNat, by
  apply Int32.toBitVec_inj.mp
  apply BitVec.eq_of_toNat_eq
  rw [nI_bv, Nat.mod_eq_of_lt w.toBitVec.isLt]⟩
theorem nI_31 (w : Int32) : ∃ j, j ≤ 31 ∧ w &&& ic 31 = nI j := by
  obtain ⟨n, rfl⟩ := nI_any w
  exact ⟨n &&& 31, Nat.and_le_right, by rw [show ic 31 = nI 31 from rfl, nI_and]⟩
/-- the ear alone has changed -/
theorem Rel.setE {c h' : Nat} {e' : Nat → Nat} {σ σ' : cs_S} {μ μ' : mm_S} (hR : Rel SM FR c σ μ) (hσ : σ'.1 1 = σ.1 1 ∧ σ'.1 17 = σ.1 17 ∧ σ'.2.1 102 = σ.2.1 102 ∧ σ'.2.1 107 = σ.2.1 107 ∧ σ'.2.1 116 = σ.2.1 116 ∧ σ'.2.2.2 = σ.2.2.2) (hμ : μ'.1 0 = μ.1 0 ∧ μ'.1 30 = μ.1 30 ∧ μ'.1 33 = μ.1 33 ∧ (∀ c, c ≤ 8 ∨ 11 ≤ c ∧ c ≤ 15 → μ'.2.1 c = μ.2.1 c) ∧ μ'.2.1 31 = μ.2.1 31 ∧ μ'.2.1 32 = μ.2.1 32) (he : cm_er e' h' σ' μ') : Rel SM FR c σ' μ' := by
  obtain ⟨F, K, e, h, nd, fn, kp, er, wk, sm, ct⟩ := hR
  obtain ⟨s1, s2, s3, s4, s5, s6⟩ := hσ
  obtain ⟨m1, m2, m3, m4, m5, m6⟩ := hμ
  have ht : cs_t σ' = cs_t σ := by funext j; unfold cs_t; rw [s6]
  have hcc : cs_c σ' = cs_c σ := by funext j; unfold cs_c; rw [s6]
  have hp : cs_p σ' = cs_p σ := by funext j; unfold cs_p; rw [s6]
  refine ⟨F, K, e', h', nd.fr' (by rw [ht]) (by rw [hcc]) m1 (fun c _ h2 j _ => by rw [m4 c (by omega)]), fn.fr s1 (m4 7 (by omega)), kp.fr s3 (m4 8 (by omega)), he, wk.fr' nd.1 (by rw [ht]) hp s2 s5 m2 m3 m5 m6 (fun c _ h2 j _ => by rw [m4 c (by omega)]), ?_, ?_⟩
  · exact sm.mk' (fun c hc => m4 c (.inr hc)) (by rw [ht]) (by rw [hcc]) s4
  · unfold cm_ct cs_y cs_n1 cs_n2 at *
    rw [s6]
    exact ct
/-- one more word in the ear -/
def cs_er (σ : cs_S) (h w : Nat) : cs_S := cs_pi (cs_pa σ 108 h (nI w)) 9 (nI (h + 1))
def mm_er (μ : mm_S) (h w : Nat) : mm_S := mm_p (mm_pa μ 9 h (nI w)) 10 (nI (h + 1))
theorem Rel.ear1 {c h w : Nat} {e : Nat → Nat} {σ : cs_S} {μ : mm_S} (hR : Rel SM FR c σ μ) (he : cm_er e h σ μ) (hh : h < 20) (hw : w ≤ 30) : Rel SM FR c (cs_er σ h w) (mm_er μ h w) ∧ cm_er (fun j => if j = h then w else e j) (h + 1) (cs_er σ h w) (mm_er μ h w) := by
  obtain ⟨e1, e2, e3, e4⟩ := he
  have h' : cm_er (fun j => if j = h then w else e j) (h + 1) (cs_er σ h w) (mm_er μ h w) := by
    refine ⟨by omega, rfl, rfl, fun j hj => ?_⟩
    have c1 : cs_a (cs_er σ h w) 108 j = if j = h then nI w else cs_a σ 108 j := by
      show cs_a (cs_pa σ 108 h (nI w)) 108 j = _
      rw [cs_pa_get, if_pos rfl]
    have c2 : (mm_er μ h w).2.1 9 j = if j = h then nI w else μ.2.1 9 j := by
      show (mm_pa μ 9 h (nI w)).2.1 9 j = _
      rw [mm_pa_get, if_pos rfl]
    rw [c1, c2]
    by_cases q : j = h
    · simp only [q, if_true]
      exact ⟨hw, trivial, trivial⟩
    · simp only [q, if_false]
      exact e4 j (by omega)
  refine ⟨hR.setE ⟨rfl, rfl, ?_, ?_, ?_, rfl⟩ ⟨rfl, rfl, rfl, fun c hc => ?_, ?_, ?_⟩ h', h'⟩
  · show va_up σ.2.1 108 (upd (σ.2.1 108) h (nI w)) 102 = _
    exact va_up_ne _ _ (by decide)
  · show va_up σ.2.1 108 (upd (σ.2.1 108) h (nI w)) 107 = _
    exact va_up_ne _ _ (by decide)
  · show va_up σ.2.1 108 (upd (σ.2.1 108) h (nI w)) 116 = _
    exact va_up_ne _ _ (by decide)
  · funext j
    show (mm_pa μ 9 h (nI w)).2.1 c j = _
    rw [mm_pa_get, if_neg (by omega)]
  · funext j
    show (mm_pa μ 9 h (nI w)).2.1 31 j = _
    rw [mm_pa_get, if_neg (by omega)]
  · funext j
    show (mm_pa μ 9 h (nI w)).2.1 32 j = _
    rw [mm_pa_get, if_neg (by omega)]
theorem hr_1 {N f c : Nat} {x : Int32} {W : Nat → Nat} (hW : ∀ j, j < 5 → W j ≤ 31 ∧ (x >>> ((ic 5 * nI j) &&& 31)) &&& ic 31 = nI (W j)) {a : Nat} (ha : a ≤ 5) (hWa : ∀ j, j < a → W j ≤ 30) : ∀ (n m : Nat) (σ : cs_S) (μ : mm_S) (h : Nat) (e : Nat → Nat), n ≤ a → h + n ≤ 20 → Rel SM FR c σ μ → cm_er e h σ μ →
    ∃ r σ' μ', jX1_hear_61 (am_bk (cs_hop 1 (cs_call N f)) am_no (some .int) kX1_hear (m + n)) (cs_call N f) σ (nI a) x (nI n + ic (-1)) = some (.inl (some (.inl (.int (r)))), σ') ∧ jX6_hear_60 (am_bk (mm_hop (mm_call N f)) am_no (some .int) kX6_hear (m + n)) (mm_call N f) μ (nI a) x (nI n + ic (-1)) = some (.inl (some (.inl (.int (r)))), μ') ∧ Rel SM FR c σ' μ' := by
  intro n
  induction n with
  | zero =>
    intro m σ μ h e _ hn hR he
    rw [jX1_hear_61_eq, if_pos (by decide), jX6_hear_60_eq, if_pos (by decide), he.2.1, he.2.2.1]
    exact ⟨_, _, _, rfl, rfl, hR⟩
  | succ n ih =>
    intro m σ μ h e hna hn hR he
    obtain ⟨hR', he'⟩ := hR.ear1 he (w := W n) (by omega) (hWa n (by omega))
    have hWn := hWa n (by omega)
    obtain ⟨-, w2⟩ := hW n (by omega)
    obtain ⟨r, σ', μ', q1, q2, q3⟩ := ih m _ _ _ _ (by omega) (by omega) hR' he'
    refine ⟨r, σ', μ', ?_, ?_, q3⟩
    · rw [jX1_hear_61_eq, nI_down, if_neg (nI_pos (by omega)), he.2.1, am_ix_nI (by omega) (by omega), w2, nI_i8 (by omega), nI_i8 (by omega), ← Nat.add_assoc, show cs_i (cs_pa σ 108 h (nI (W n))) 9 = nI h from he.2.1, ic_v1, nI_add, jX1_hear_61_bk]
      exact q1
    · rw [jX6_hear_60_eq, nI_down, if_neg (nI_pos (by omega)), he.2.2.1, am_ix_nI (by omega) (by omega), w2, ← Nat.add_assoc, show (mm_pa μ 9 h (nI (W n))).1 10 = nI h from he.2.2.1, ic_v1, nI_add, jX6_hear_60_bk]
      exact q2
theorem op_hear (hf : 150 ≤ f) (hN : 1000 ≤ N) (a x : Int32) : opI SM FR N f 22 33 [.inl (.ref 0), .inl (.int (a)), .inl (.int (x))] := by
  intro c σ μ hR hc
  obtain ⟨F, K, e, h, nd, fn, kp, er, wk, sm, ct⟩ := id hR
  obtain ⟨f, rfl⟩ : ∃ f', f = f' + 20 := ⟨f - 20, by omega⟩
  rw [dX1_hear_eq, dX6_hear_eq]
  unfold dX1_hear dX6_hear
  rw [cs_inR 1 5 a σ (by decide) (by decide), am_ci_ok, mm_inR 1 5 a μ (by decide) (by decide), am_ci_ok]
  cases h1 : inR 1 5 a with
  | false =>
    rw [if_pos b2f0, if_pos b2f0]
    exact ⟨_, σ, μ, rfl, rfl, hR.up⟩
  | true =>
    obtain ⟨a, ha1, ha, rfl⟩ := inR_t (by omega) (by omega) h1
    rw [if_neg b2t0, if_neg b2t0, ic_v0]
    have hW : ∃ W : Nat → Nat, ∀ j, j < 5 → W j ≤ 31 ∧ (x >>> ((ic 5 * nI j) &&& 31)) &&& ic 31 = nI (W j) :=
      ⟨fun j => (nI_31 (x >>> ((ic 5 * nI j) &&& 31))).choose, fun j _ => (nI_31 (x >>> ((ic 5 * nI j) &&& 31))).choose_spec⟩
    obtain ⟨W, hW⟩ := hW
    have hl : ∀ (n m j : Nat), j + n = a → 5 ≤ m → (∀ i, i < j → W i ≤ 30) → ∃ r σ' μ', jX1_hear_16 (am_bk (cs_hop 1 (cs_call N (f + 19))) am_no (some .int) kX1_hear (m + n)) (cs_call N (f + 19)) σ (nI a) x (nI j) = some (.inl (some (.inl (.int (r)))), σ') ∧ jX6_hear_16 (am_bk (mm_hop (mm_call N (f + 19))) am_no (some .int) kX6_hear (m + n)) (mm_call N (f + 19)) μ (nI a) x (nI j) = some (.inl (some (.inl (.int (r)))), μ') ∧ Rel SM FR (c + 1) σ' μ' := by
      intro n
      induction n with
      | zero =>
        intro m j hj hm hWj
        obtain rfl : j = a := by omega
        rw [jX1_hear_16_eq, if_pos (nI_le (Nat.le_refl _) (by omega)), jX6_hear_16_eq, if_pos (nI_le (Nat.le_refl _) (by omega)), er.2.1, er.2.2.1, nI_add, show ic 20 = nI 20 from rfl]
        have hh := er.1
        by_cases q : h + j ≤ 20
        · rw [if_pos (nI_le q (by omega)), if_pos (nI_le q (by omega)), Int32.sub_eq_add_neg, show (-ic 1 : Int32) = ic (-1) from rfl]
          obtain ⟨m', rfl⟩ : ∃ m', m = m' + j := ⟨m - j, by omega⟩
          obtain ⟨r, σ', μ', q1, q2, q3⟩ := hr_1 (N := N) (f := f + 19) hW ha hWj j m' σ μ h e (Nat.le_refl _) q hR er
          exact ⟨r, σ', μ', q1, q2, q3.up⟩
        · rw [if_neg (nI_ge (by omega) (by omega)), if_neg (nI_ge (by omega) (by omega))]
          exact ⟨_, _, _, rfl, rfl, hR.up⟩
      | succ n ih =>
        intro m j hj hm hWj
        obtain ⟨w1, w2⟩ := hW j (by omega)
        rw [jX1_hear_16_eq, if_neg (nI_ge (by omega) (by omega)), w2, cs_isWord, am_ci_ok, jX6_hear_16_eq, if_neg (nI_ge (by omega) (by omega)), w2, show ic 31 = nI 31 from rfl]
        by_cases q : W j = 31
        · rw [q, if_pos (by decide), if_pos rfl]
          exact ⟨_, _, _, rfl, rfl, hR.up⟩
        · rw [inR_nI (by omega) (by omega) (show W j ≤ 30 by omega), if_neg b2t0, if_neg (fun q' => q ((nI_eq (by omega) (by omega)).mp q')), ic_v1, nI_add, ← Nat.add_assoc, jX1_hear_16_bk, jX6_hear_16_bk]
          exact ih m (j + 1) (by omega) hm (fun i hi => by
            by_cases q' : i = j
            · rw [q']
              omega
            · exact hWj i (by omega))
    obtain ⟨n, rfl⟩ : ∃ n, N = n + a := ⟨N - a, by omega⟩
    exact hl a n 0 (by omega) (by omega) (fun i hi => by omega)
theorem getD_mem (l : List Nat) {j : Nat} (h : j < l.length) : l.getD j 0 ∈ l := by
  rw [List.getD_eq_getElem?_getD, List.getElem?_eq_getElem h]
  exact List.getElem_mem _
theorem cs_takes {f L : Nat} {σ : cs_S} (h : cs_i σ 103 = nI L) (hL : L ≤ 20) : cs_call N (f + 1) 25 [.inl (.ref 0), .inl (.ref 103)] (σ) = some (.inl none, cs_pi (cs_pf σ 108 (va_cpy (σ.2.1 123) (σ.2.1 108) 0 0 L)) 9 (nI L)) := by
  rw [dX1_takes_eq]
  unfold dX1_takes cs_cp
  rw [show cs_isW 103 = true from rfl, cond_true, cond_true, show am_lk cs_A (103 + 20) = some (80, 3) from rfl, show am_lk cs_A 108 = some (20, 3) from rfl, h]
  simp only [cond_true]
  rw [if_neg]
  · rw [nI_clamp (by omega), show (ic 0).toNatClampNeg = 0 from rfl, show cs_i (cs_pf σ 108 (va_cpy (σ.2.1 (103 + 20)) (σ.2.1 108) 0 0 L)) 103 = nI L from h]
  · rw [nI_clamp (by omega), show (ic 0).toNatClampNeg = 0 from rfl]
    rintro (q | q | q | q | q | q)
    · exact absurd q (by decide)
    · exact absurd q (by decide)
    · exact nI_pos (by omega) q
    · omega
    · omega
    · exact absurd q (by decide)
theorem mm_hears {f : Nat} {μ : mm_S} {ws : List Nat} (hw : mw_ μ ws) (hL : ws.length ≤ 20) (hN : 30 ≤ N) : ∃ μ', mm_call N (f + 1) 35 [.inl (.ref 0)] (μ) = some (.inl none, μ') ∧ μ'.1 10 = nI ws.length ∧ (∀ j, j ≠ 10 → μ'.1 j = μ.1 j) ∧ (∀ c, c ≠ 9 → μ'.2.1 c = μ.2.1 c) ∧ ∀ j, j < ws.length → μ'.2.1 9 j = nI (ws.getD j 0) := by
  obtain ⟨w1, w2, w3⟩ := hw
  have hl : ∀ (n m j : Nat) (μ' : mm_S), j + n = ws.length → μ'.1 = μ.1 → (∀ c, c ≠ 9 → μ'.2.1 c = μ.2.1 c) → (∀ i, i < j → μ'.2.1 9 i = nI (ws.getD i 0)) → ∃ μ'', jX6_hears_2 (am_bk (mm_hop (mm_call N f)) am_no none kX6_hears (m + n)) (mm_call N f) μ' (nI j) = some (.inl none, μ'') ∧ μ''.1 10 = nI ws.length ∧ (∀ j, j ≠ 10 → μ''.1 j = μ.1 j) ∧ (∀ c, c ≠ 9 → μ''.2.1 c = μ.2.1 c) ∧ ∀ j, j < ws.length → μ''.2.1 9 j = nI (ws.getD j 0) := by
    intro n
    induction n with
    | zero =>
      intro m j μ' hj h1 h2 h3
      obtain rfl : j = ws.length := by omega
      rw [jX6_hears_2_eq, h1, w1, if_pos (nI_le (Nat.le_refl _) (by omega))]
      refine ⟨_, rfl, rfl, fun j hj => ?_, h2, h3⟩
      rw [mm_p_get, if_neg hj, h1]
    | succ n ih =>
      intro m j μ' hj h1 h2 h3
      rw [jX6_hears_2_eq, h1, w1, if_neg (nI_ge (by omega) (by omega)), am_ix_nI (by omega) (by omega), am_ix_nI (by omega) (by omega), h2 17 (by omega), w3 j (by omega), ic_v1, nI_add, ← Nat.add_assoc, jX6_hears_2_bk]
      refine ih m (j + 1) _ (by omega) h1 (fun c hc => ?_) (fun i hi => ?_)
      · rw [← h2 c hc]
        funext i
        rw [mm_pa_get, if_neg hc]
      · rw [mm_pa_get, if_pos rfl]
        by_cases q : i = j
        · rw [if_pos q, q]
        · rw [if_neg q, h3 i (by omega)]
  obtain ⟨n, rfl⟩ : ∃ n, N = n + ws.length := ⟨N - ws.length, by omega⟩
  rw [dX6_hears_eq]
  unfold dX6_hears
  exact hl ws.length n 0 μ (by omega) rfl (fun _ _ => rfl) (fun i hi => by omega)
theorem op_listen (hf : 150 ≤ f) (hN : 1000 ≤ N) (a b : Int32) : opI SM FR N f 24 34 [.inl (.ref 0), .inl (.int (a)), .inl (.int (b))] := by
  intro c σ μ hR hc
  obtain ⟨F, K, e, h, nd, -, kp, er, -⟩ := id hR
  obtain ⟨f, rfl⟩ : ∃ f', f = f' + 20 := ⟨f - 20, by omega⟩
  rw [dX1_listen_eq, dX6_listen_eq]
  unfold dX1_listen dX6_listen
  rw [cs_isStyle, am_ci_ok, mm_isStyle, am_ci_ok]
  cases h1 : inR 0 7 a with
  | false =>
    rw [if_pos b2f0, if_pos b2f0]
    exact ⟨_, σ, μ, rfl, rfl, hR.up⟩
  | true =>
    obtain ⟨st, -, hst, rfl⟩ := inR_t (by omega) (by omega) h1
    rw [if_neg b2t0, if_neg b2t0, cs_isNode, am_ci_ok, mm_isNode _ nd.2.2.1, am_ci_ok]
    cases h2 : isN (cs_t σ 100).length b with
    | false =>
      rw [if_pos b2f0, if_pos b2f0]
      exact ⟨_, σ, μ, rfl, rfl, hR.up⟩
    | true =>
      have hl := nd.1
      obtain ⟨i, hi, rfl⟩ := isN_t (by omega) h2
      obtain ⟨a1, a2, a3, a4⟩ := nd.at hi
      have hdp := a1.dp
      have hwz := wlen_sz (K st) ((cs_t σ 100).getD i .leaf)
      have hsz := a1.2.2
      obtain ⟨σ', b', e1, hb', hcw, hfr⟩ := cs_says2 (N := N) (f := f + 19) (w := 103) (D := 40) (.inl rfl) (by omega) kp (show st < 8 by omega) (by omega) a1 (by omega)
      have hR' := hR.fr (cs_same.of (.inl rfl) hfr) (mm_same.rf μ)
      have hK : ∀ k, k < 10 → μ.2.1 8 (10 * st + k) = b2 (K st k) := fun k hk => ((kp st (by omega)).1.elim fun m q => (q.2.2 k hk).2)
      rw [if_neg b2t0, if_neg b2t0, cs_c201 rfl hi (by omega), am_ct_ok, a2, cond_true, show ic 40 = nI 40 from rfl, e1, am_ci_ok, mm_length (K st) st (by omega) _ μ 0 120 _ (f + 19) a3 (by omega) a1.2.1 hK (by omega), am_ci_ok, show ic 80 = nI 80 from rfl, show ic 20 = nI 20 from rfl]
      rw [wlen_glen a1] at hb'
      by_cases hz : wlen (K st) ((cs_t σ 100).getD i .leaf) ≤ 80
      · rw [decide_eq_true hz] at hb'
        subst hb'
        obtain ⟨hc1, hc2, hc3⟩ := hcw rfl
        have hlen := wsd_glen _ (kp st (by omega)).2 ((cs_t σ 100).getD i .leaf) 0 (40 + 1) a1.2.1
        rw [wlen_glen a1] at hlen
        have hle := wsd_le (fun _ k => K st k) ((cs_t σ 100).getD i .leaf) 0 (40 + 1) a1.2.1
        rw [if_neg b2t0, hc1, hlen, if_pos (nI_le hz (by omega))]
        by_cases hy : wlen (K st) ((cs_t σ 100).getD i .leaf) ≤ 20
        · obtain ⟨μ', e2, m1, m2⟩ := mm_sayAll (N := N) (st := st) (f := f + 19) (b := 40 + 1) (show 120 ≤ 450 by omega) (by omega) (by omega) a3 a1.2.1 a1.1 hK (kp st (by omega)).2 (by omega) (by omega) (by omega)
          obtain ⟨μ'', e3, n1, n2, n3, n4⟩ := mm_hears (N := N) (f := f + 18) m1 (by omega) (by omega)
          rw [hlen] at hc1
          rw [if_pos (nI_le hy (by omega)), if_pos (nI_le hy (by omega)), jX1_listen_59_56_eq, jX1_listen_59_eq, if_neg b2t0, cs_takes hc1 hy, am_cv_ok, e2, am_cv_ok, e3, am_cv_ok, n1, hlen]
          refine ⟨_, _, _, rfl, rfl, ?_⟩
          refine hR'.setE (e' := fun j => (wsd (fun _ k => K st k) ((cs_t σ 100).getD i .leaf) 0 (40 + 1)).getD j 0) (h' := wlen (K st) ((cs_t σ 100).getD i .leaf)) ⟨rfl, rfl, ?_, ?_, ?_, rfl⟩ ⟨?_, ?_, ?_, fun c hc => ?_, ?_, ?_⟩ ⟨hy, rfl, ?_, fun j hj => ⟨?_, ?_, ?_⟩⟩
          · exact va_up_ne σ'.2.1 (va_cpy (σ'.2.1 123) (σ'.2.1 108) 0 0 (wlen (K st) ((cs_t σ 100).getD i .leaf))) (show (102 : Nat) ≠ 108 by decide)
          · exact va_up_ne σ'.2.1 (va_cpy (σ'.2.1 123) (σ'.2.1 108) 0 0 (wlen (K st) ((cs_t σ 100).getD i .leaf))) (show (107 : Nat) ≠ 108 by decide)
          · exact va_up_ne σ'.2.1 (va_cpy (σ'.2.1 123) (σ'.2.1 108) 0 0 (wlen (K st) ((cs_t σ 100).getD i .leaf))) (show (116 : Nat) ≠ 108 by decide)
          · rw [n2 0 (by omega), m2.1 0 (by omega) (by omega) (by omega)]
          · rw [n2 30 (by omega), m2.1 30 (by omega) (by omega) (by omega)]
          · rw [n2 33 (by omega), m2.1 33 (by omega) (by omega) (by omega)]
          · rw [n3 c (by omega), m2.2.1 c (by omega)]
          · rw [n3 31 (by omega), m2.2.1 31 (by omega)]
          · rw [n3 32 (by omega), m2.2.1 32 (by omega)]
          · rw [n1, hlen]
          · refine hle _ ?_
            exact getD_mem _ (by omega)
          · show va_up σ'.2.1 108 (va_cpy (σ'.2.1 123) (σ'.2.1 108) 0 0 (wlen (K st) ((cs_t σ 100).getD i .leaf))) 108 j = _
            rw [va_up_self]
            unfold va_cpy
            rw [if_pos ⟨by omega, by omega⟩, Nat.sub_zero, Nat.zero_add]
            exact hc3 j (by omega)
          · exact n4 j (by omega)
        · rw [if_neg (show ¬ nI _ ≤ nI 20 from nI_ge (by omega) (by omega)), if_neg (show ¬ nI _ ≤ nI 20 from nI_ge (by omega) (by omega))]
          exact ⟨_, σ', μ, rfl, rfl, hR'⟩
      · rw [decide_eq_false hz] at hb'
        subst hb'
        rw [if_pos b2f0, jX1_listen_59_44_eq, jX1_listen_59_eq, if_pos b2f0, if_neg (nI_ge (by omega) (by omega))]
        exact ⟨_, σ', μ, rfl, rfl, hR'⟩
end
