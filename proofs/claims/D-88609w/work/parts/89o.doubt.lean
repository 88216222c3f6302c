set_option maxRecDepth 100000
/-! THE OPERATIONS: doubt. -/
section
variable {SM : List Tr} {FR : Nat → Int32} {N f : Nat}
theorem cs_isLike' {t u : Tr} {σ : cs_S} {f : Nat} (ht : tr_wf t) (hu : tr_wf u) (h1 : tr_lf t = false) (h2 : tr_lf u = false) (hf : tr_dp t < f) : cs_call N (f) (cs_sel [71, 71, 71, 71, 71, 71, 71, 71, 71, 71] (tr_k t)) [.inr (t), .inr (u)] (σ) = some (.inl (some (.inl (.int (b2 (tr_like t u))))), σ) := by
  have : cs_sel [71, 71, 71, 71, 71, 71, 71, 71, 71, 71] (tr_k t) = 71 := by
    cases t with
    | leaf => cases h1
    | inner n k v x y =>
      have := (tr_wf_v ht).1
      show cs_sel _ k = 71
      rcases (show k = 0 ∨ k = 1 ∨ k = 2 ∨ k = 3 ∨ k = 4 ∨ k = 5 ∨ k = 6 ∨ k = 7 ∨ k = 8 ∨ k = 9 by omega) with rfl | rfl | rfl | rfl | rfl | rfl | rfl | rfl | rfl | rfl <;> rfl
  rw [this]
  exact cs_isLike t u σ f ht hu h1 h2 hf
theorem db_loop {σ : cs_S} {μ : mm_S} {N f : Nat} (x1 : Int32) (x2 x3 : Int64) : ∀ (t t' : Tr) (ix ix' v8 v9 : Int32) (n : Nat) (o o' : Option am_V), tr_wf t → tr_wf t' → tr_lf t = false → tr_lf t' = false → tr_like t t' = false → mr μ 400 450 t ix → mr μ 400 450 t' ix' → tr_sz t ≤ 40 → tr_sz t' ≤ 40 → tr_dp t ≤ n → tr_dp t < f + 1 →
    ∃ r, jX1_doubt_95 (am_bk (cs_hop 1 (cs_call N (f + 1))) am_no (some .int) kX1_doubt n) (cs_call N (f + 1)) σ x1 x2 x3 t t' v8 v9 o = some (.inl (some (.inl (.int (r)))), σ) ∧ jX6_doubt_107 (am_bk (mm_hop (mm_call N (f + 1))) am_no (some .int) kX6_doubt n) (mm_call N (f + 1)) μ x1 x2 x3 ix ix' v8 v9 o' = some (.inl (some (.inl (.int (r)))), μ) := by
  intro t
  induction t with
  | leaf => intro t' ix ix' v8 v9 n o o' _ _ hl; cases hl
  | inner n1 k v x y ihx ihy =>
    intro t' ix ix' v8 v9 n o o' hw hw' hl hl' hlk hm hm' hs hs' hn hf
    cases t' with
    | leaf => cases hl'
    | inner n1' k' v' x' y' =>
      obtain ⟨j, j1, j2, rfl, r1, r2, -, -, mx, my⟩ := hm
      obtain ⟨j', j1', j2', rfl, r1', r2', -, -, mx', my'⟩ := hm'
      have hwv := tr_wf_v hw
      have hwv' := tr_wf_v hw'
      have hnd := tr_nd_wf hw hl
      have hnd' := tr_nd_wf hw' hl'
      rw [jX1_doubt_95_eq, hnd, cond_true, hnd', cond_true, tr_ki, tr_ki, jX6_doubt_107_eq, am_ix_nI (by omega) (by omega), am_ix_nI (by omega) (by omega), r1, r1']
      by_cases hk : k = k'
      · subst hk
        rw [if_pos rfl, if_pos rfl, cond_true, cs_vvi hw, am_ci_ok, cond_true, cs_vvi hw', am_ci_ok, am_ix_nI (by omega) (by omega), am_ix_nI (by omega) (by omega), r2, r2']
        have hvv := tr_vI_eq (k := k) hwv.2.1 hwv'.2.1 hwv.2.2 hwv'.2.2
        by_cases hv : v = v'
        · subst hv
          have hlk2 : (tr_like x x' && tr_like y y') = false := by
            simpa [tr_like] using hlk
          obtain ⟨wx, wy, wk⟩ := hw
          obtain ⟨wx', wy', wk'⟩ := hw'
          have hlfn : ∀ z : Tr, tr_lf z = true → z = .leaf := fun z q => by
            cases z with
            | leaf => rfl
            | inner _ _ _ _ _ => cases q
          have hk2 : 2 ≤ k := by
            rcases Nat.lt_or_ge k 2 with q | q
            · exfalso
              have e1 : tr_lf x = true ∧ tr_lf y = true := by rcases wk with a | a | a | a | a <;> first | exact ⟨a.2.2.1, a.2.2.2⟩ | omega
              have e2 : tr_lf x' = true ∧ tr_lf y' = true := by rcases wk' with a | a | a | a | a <;> first | exact ⟨a.2.2.1, a.2.2.2⟩ | omega
              rw [hlfn x e1.1, hlfn y e1.2, hlfn x' e2.1, hlfn y' e2.2] at hlk2
              simp [tr_like] at hlk2
            · exact q
          have lx : tr_lf x = false := by rcases wk with a | a | a | a | a <;> first | exact a.2.2.2.1 | exact a.2.2.1 | omega
          have lx' : tr_lf x' = false := by rcases wk' with a | a | a | a | a <;> first | exact a.2.2.2.1 | exact a.2.2.1 | omega
          have hndx := tr_nd_wf wx lx
          simp only [tr_sz] at hs hs'
          simp only [tr_dp] at hn hf
          obtain ⟨n, rfl⟩ : ∃ n', n = n' + 1 := ⟨n - 1, by omega⟩
          have hW : tr_wf (.inner n1 k v x y) := ⟨wx, wy, wk⟩
          have hW' : tr_wf (.inner n1' k v x' y') := ⟨wx', wy', wk'⟩
          rw [if_pos rfl, if_pos rfl, cond_true, cs_vxi hW, am_ct_ok, cond_true, cs_vxi hW', am_ct_ok, hndx, cond_true, cs_isLike' wx wx' lx lx' (by omega), am_ci_ok, am_ix_nI (by omega) (by omega), am_ix_nI (by omega) (by omega), mm_areAlike N x x' μ 400 450 400 450 _ _ (f + 1) mx mx' (by omega) (by omega) wx wx' (by omega) (by omega) (by omega), am_ci_ok]
          cases q : tr_like x x' with
          | false =>
            obtain ⟨r, q1, q2⟩ := ihx x' (μ.2.1 3 j) (μ.2.1 3 j') (v8 + v9 * ic 1) (v9 * ic 3) n (some (.inl (.int (ic 1)))) (some (.inl (.int (ic 1)))) wx wx' lx lx' q mx mx' (by omega) (by omega) (by omega) (by omega)
            refine ⟨r, ?_, ?_⟩
            · rw [if_pos b2f0, jX1_doubt_142_141_eq, jX1_doubt_142_eq, if_neg (show ¬ ic 1 = 0 by decide), jX1_doubt_158_157_eq, jX1_doubt_158_eq, if_neg (show ¬ ic 1 = 0 by decide), hnd, cond_true, tr_ki, cs_vxi hW, am_ct_ok, jX1_doubt_186_181_eq, jX1_doubt_186_eq, if_neg (show ¬ ic 1 = 0 by decide), hnd', cond_true, tr_ki, cs_vxi hW', am_ct_ok, jX1_doubt_206_201_eq, jX1_doubt_206_eq, jX1_doubt_95_bk]
              exact q1
            · rw [if_pos b2f0, jX6_doubt_167_166_eq, jX6_doubt_167_eq, if_neg (show ¬ ic 1 = 0 by decide), jX6_doubt_185_181_eq, jX6_doubt_185_eq, if_neg (show ¬ ic 1 = 0 by decide), am_ix_nI (by omega) (by omega), jX6_doubt_216_209_eq, jX6_doubt_216_eq, if_neg (show ¬ ic 1 = 0 by decide), am_ix_nI (by omega) (by omega), jX6_doubt_240_233_eq, jX6_doubt_240_eq, jX6_doubt_107_bk, ← q2, show v9 * ic 1 = v9 from Int32.mul_one v9]
          | true =>
            rw [q, Bool.true_and] at hlk2
            have k6 : k ≤ 6 := by
              rcases Nat.lt_or_ge 6 k with q' | q'
              · exfalso
                have e1 : tr_lf y = true := by rcases wk with a | a | a | a | a <;> first | exact a.2.2.2 | omega
                have e2 : tr_lf y' = true := by rcases wk' with a | a | a | a | a <;> first | exact a.2.2.2 | omega
                rw [hlfn y e1, hlfn y' e2] at hlk2
                simp [tr_like] at hlk2
              · exact q'
            have ly : tr_lf y = false := by rcases wk with a | a | a | a | a <;> first | exact a.2.2.2.2 | omega
            have ly' : tr_lf y' = false := by rcases wk' with a | a | a | a | a <;> first | exact a.2.2.2.2 | omega
            obtain ⟨r, q1, q2⟩ := ihy y' (μ.2.1 4 j) (μ.2.1 4 j') (v8 + v9 * ic 2) (v9 * ic 3) n (some (.inl (.int (ic 0)))) (some (.inl (.int (ic 0)))) wy wy' ly ly' hlk2 my my' (by omega) (by omega) (by omega) (by omega)
            refine ⟨r, ?_, ?_⟩
            · rw [if_neg b2t0, jX1_doubt_142_eq, if_pos (show ic 0 = 0 by decide), jX1_doubt_158_eq, if_pos (show ic 0 = 0 by decide), hnd, cond_true, tr_ki, cs_vyi hW, am_ct_ok, jX1_doubt_186_eq, if_pos (show ic 0 = 0 by decide), hnd', cond_true, tr_ki, cs_vyi hW', am_ct_ok, jX1_doubt_206_eq, jX1_doubt_95_bk]
              exact q1
            · rw [if_neg b2t0, jX6_doubt_167_eq, if_pos (show ic 0 = 0 by decide), jX6_doubt_185_eq, if_pos (show ic 0 = 0 by decide), am_ix_nI (by omega) (by omega), jX6_doubt_216_eq, if_pos (show ic 0 = 0 by decide), am_ix_nI (by omega) (by omega), jX6_doubt_240_eq, jX6_doubt_107_bk, ← q2, Int32.mul_comm (ic 2) v9]
        · have hv' : ¬ tr_vI k v = tr_vI k v' := fun q => hv (by rwa [hvv] at q)
          rw [if_neg hv', if_neg hv']
          exact ⟨_, rfl, rfl⟩
      · have hk' : ¬ nI k = nI k' := fun q => hk ((nI_eq (by omega) (by omega)).mp q)
        rw [if_neg hk', if_neg hk']
        exact ⟨_, rfl, rfl⟩
theorem mm_p_id {μ : mm_S} {j : Nat} {v : Int32} (h : μ.1 j = v) : mm_p μ j v = μ := by
  apply Prod.ext
  · funext i
    rw [mm_p_get]
    split
    · next q => rw [q, h]
    · rfl
  · rfl
theorem mm_again {V : EV} {h st f : Nat} {μ : mm_S} (hE : mE μ V h) (h28 : μ.1 28 = nI st) (hN : 20000 ≤ N) : ∃ μ', mm_call N (f + 5) 39 [.inl (.ref 0), .inl (.int (nI st))] (μ) = some (.inl (some (.inl (.long (lN (ct V 0 h))))), μ') ∧ mm_kr μ μ' ∧ mE μ' V h ∧ mT μ' V h (h + 1) := by
  have := mm_counted (N := N) (f := f) (μ := μ) (st := st) (V := V) (h := h) (by rw [mm_p_id h28]; exact hE) hN
  rw [mm_p_id h28] at this
  exact this
theorem mm_kr.same {μ μ' : mm_S} (h : mm_kr μ μ') : mm_same μ μ' := by
  obtain ⟨h1, h2⟩ := h
  exact ⟨⟨by rw [h1], by rw [h1], by rw [h1], by rw [h1]⟩, ⟨fun _ _ => by rw [h2], by rw [h2], by rw [h2], by rw [h2], by rw [h2]⟩, fun c _ _ j _ => by rw [h2]⟩
end
