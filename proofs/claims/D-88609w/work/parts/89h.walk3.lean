set_option maxRecDepth 100000
/-! THE OPERATIONS: where, lead. -/
section
variable {SM : List Tr} {FR : Nat → Int32} {N f : Nat}
theorem ic_v0 : ic 0 = nI 0 := rfl
theorem ic_v1 : ic 1 = nI 1 := rfl
theorem ic_v2 : ic 2 = nI 2 := rfl
theorem ic_v3 : ic 3 = nI 3 := rfl
theorem ic_v19 : ic 19 = nI 19 := rfl
/-- an int from 0 on -/
theorem nI_nn {a : Int32} (h : 0 ≤ a) : ∃ v, v < 2 ^ 31 ∧ a = nI v := by
  have h2 : a ≤ nI 2147483647 := by
    rw [Int32.le_iff_toInt_le]
    have := Int32.toInt_lt a
    have e : (nI 2147483647).toInt = 2147483647 := by decide
    omega
  obtain ⟨j, -, h3, rfl⟩ := nI_k (a := 0) (b := 2147483647) (by omega) h h2 (by omega)
  exact ⟨j, by omega, rfl⟩
theorem Rel.set16 {c : Nat} {σ : cs_S} {μ : mm_S} (hR : Rel SM FR c σ μ) (v : Int32) : Rel SM FR c σ (mm_p μ 16 v) := by
  obtain ⟨F, K, e, h, nd, fn, kp, er, wk, sm, ct⟩ := id hR
  refine hR.wk' ⟨rfl, rfl, fun _ _ => rfl, rfl, rfl, rfl, rfl, rfl⟩ ⟨rfl, rfl, fun _ _ => rfl⟩ (wk.fr' nd.1 rfl rfl rfl rfl rfl rfl rfl rfl (fun _ _ _ _ _ => rfl))
theorem wh_loop {σ : cs_S} {μ : mm_S} {d : Nat} (hw : wkd σ μ d) (call : cs_ct) (call' : mm_ct) (x : Int32) : ∀ (j m : Nat) (v : Int32), j ≤ d → ∃ r, jX1_where_76 (am_bk (cs_hop 1 call) am_no (some .int) kX1_where (m + j)) call σ x v (nI j) = some (.inl (some (.inl (.int (r)))), σ) ∧ jX6_where_78 (am_bk (mm_hop call') am_no (some .int) kX6_where (m + j)) call' μ x v (nI j) = some (.inl (some (.inl (.int (r)))), μ) := by
  intro j
  induction j with
  | zero =>
    intro m v hj
    rw [jX1_where_76_eq, jX6_where_78_eq, if_pos (by decide), if_pos (by decide)]
    exact ⟨_, rfl, rfl⟩
  | succ j ih =>
    intro m v hj
    have hd := hw.1
    have h0 : ¬ nI (j + 1) ≤ 0 := fun q => by
      rw [nI_le0 (by omega)] at q
      omega
    obtain ⟨b, v1, v2, -⟩ := hw.2.2.2.2.2.2.2.2 j (by omega)
    rw [jX1_where_76_eq, jX6_where_78_eq, if_neg h0, if_neg h0, am_ix_nI (by omega) (by omega), am_ix_nI (by omega) (by omega), v1, v2, nI_down, ← Nat.add_assoc, jX6_where_78_bk]
    cases b with
    | false =>
      rw [if_pos b2f0, jX1_where_97_eq, nI_down, jX1_where_76_bk, show ic 3 * v + b2 false + ic 1 = ic 3 * v + ic 1 by rw [b2_f, nI_0, Int32.add_zero]]
      exact ih m _ (by omega)
    | true =>
      rw [if_neg b2t0, jX1_where_97_96_eq, jX1_where_97_eq, nI_down, jX1_where_76_bk, show ic 3 * v + b2 true + ic 1 = ic 3 * v + ic 2 by rw [Int32.add_assoc]; rfl]
      exact ih m _ (by omega)
/-- where: an answer, or the component throws and the model marks it -/
theorem op_where (hf : 150 ≤ f) (hN : 1000 ≤ N) (a : Int32) : ∀ c σ μ, Rel SM FR c σ μ → c ≤ 64 → (∃ r σ' μ', cs_call N f 62 [.inl (.ref 0), .inl (.int (a))] σ = some (.inl (some (.inl (.int (r)))), σ') ∧ mm_call N f 63 [.inl (.ref 0), .inl (.int (a))] μ = some (.inl (some (.inl (.int (r)))), μ') ∧ Rel SM FR (c + 1) σ' μ' ∧ μ'.1 16 = 0) ∨
    (a = 0 ∧ (∃ d, 19 < d ∧ wkd σ μ d) ∧ ∃ μ', mm_call N f 63 [.inl (.ref 0), .inl (.int (a))] μ = some (.inl (some (.inl (.int (nI 0)))), μ') ∧ Rel SM FR (c + 1) σ μ' ∧ μ'.1 16 = nI 1) := by
  intro c σ μ hR hc
  have hR' := hR.set16 (nI 0)
  obtain ⟨F, K, e, h, nd, fn, kp, er, wk, sm, ct⟩ := id hR'
  have hlen := nd.1
  obtain ⟨f, rfl⟩ : ∃ f', f = f' + 20 := ⟨f - 20, by omega⟩
  rw [dX1_where_eq, dX6_where_eq]
  unfold dX1_where dX6_where
  rw [ic_v0, cs_inR 0 2 a σ (by decide) (by decide), am_ci_ok, mm_inR 0 2 a _ (by decide) (by decide), am_ci_ok]
  cases h1 : inR 0 2 a with
  | false =>
    rw [if_pos b2f0, if_pos b2f0]
    exact .inl ⟨_, σ, _, rfl, rfl, hR'.up, rfl⟩
  | true =>
    obtain ⟨i, -, hi, rfl⟩ := inR_t (by omega) (by omega) h1
    rw [if_neg b2t0, if_neg b2t0]
    rcases wk with ⟨w1, w2⟩ | ⟨d, hw⟩
    · rw [w1, if_neg (by decide), w2, if_pos rfl]
      exact .inl ⟨_, σ, _, rfl, rfl, hR'.up, rfl⟩
    · have hw : wkd σ (mm_p μ 16 (nI 0)) d := hw
      obtain ⟨w1, w2, w3, w4, w5, w6, w7, w8, w9⟩ := id hw
      obtain ⟨y1, y2, -⟩ := w8 d (Nat.le_refl _)
      have hnd := tr_nd_wf (hw.at (Nat.le_refl d)).1.2.1 y1
      rw [w2, if_pos (nI_pos' (by omega)), w3, if_neg (show ¬ (1 : Int32) = 0 by decide), ic_v1, ic_v2, ic_v19]
      by_cases i0 : i = 0
      · subst i0
        rw [if_neg (show ¬ nI 0 = nI 1 by decide), if_neg (show ¬ nI 0 = nI 2 by decide), if_pos (show nI 0 ≤ 0 by decide), w4]
        by_cases hd : d ≤ 19
        · obtain ⟨n, rfl⟩ : ∃ n, N = n + d := ⟨N - d, by omega⟩
          obtain ⟨r, q1, q2⟩ := wh_loop hw (cs_call (n + d) (f + 19)) (mm_call (n + d) (f + 19)) (nI 0) d n (nI 0) (Nat.le_refl _)
          rw [if_pos (nI_le hd (by omega)), if_pos (nI_le hd (by omega)), q1, q2]
          exact .inl ⟨_, _, _, rfl, rfl, hR'.up, rfl⟩
        · rw [if_neg (show ¬ nI d ≤ nI 19 from nI_ge (by omega) (by omega)), if_neg (show ¬ nI d ≤ nI 19 from nI_ge (by omega) (by omega))]
          refine .inr ⟨rfl, ⟨d, by omega, ?_⟩, _, rfl, (hR'.set16 _).up, rfl⟩
          exact ⟨w1, w2, w3, w4, w5, w6, mn_of (μ := mm_p μ 16 (nI 0)) (μ' := μ) (H := 120) (fun _ _ _ _ _ => rfl) w7 (.inr (by omega)), w8, w9⟩
      · have hi0 : ¬ nI i ≤ 0 := fun q => by
          rw [nI_le0 (by omega)] at q
          omega
        by_cases i1 : i = 1
        · subst i1
          rw [if_pos rfl, if_neg hi0, if_pos rfl, w4]
          exact .inl ⟨_, _, _, rfl, rfl, hR'.up, rfl⟩
        · have i1' : ¬ nI i = nI 1 := fun q => i1 ((nI_eq (by omega) (by omega)).mp q)
          rw [if_neg i1', if_pos (show nI i = nI 2 by rw [show i = 2 by omega]), am_ix_nI (by omega) (by omega), hnd, cond_true, if_neg hi0, if_neg i1', w4, am_ix_nI (by omega) (by omega), y2]
          exact .inl ⟨_, _, _, rfl, rfl, hR'.up, rfl⟩
/-- all digits to the base of three are 1 or 2 -/
def dg3 : Nat → Nat → Bool
  | 0, v => decide (v = 0)
  | n + 1, v => decide (v = 0) || (decide (v % 3 ≠ 0) && dg3 n (v / 3))
theorem ld_1 {σ : cs_S} {μ : mm_S} {N f m : Nat} (x : Int32) : ∀ (n v : Nat) (t : Tr), v < 3 ^ n → v < 2 ^ 31 → (tr_lf t = true ∨ (tr_lf t = false ∧ tr_wf t ∧ mn μ t ∧ tr_n t < 120)) →
    ∃ t' m' v', jX1_lead_25 (am_bk (cs_hop 1 (cs_call N (f + 1))) am_no (some .int) kX1_lead (m + n)) (cs_call N (f + 1)) σ x t (nI v) = jX1_lead_69 (am_bk (cs_hop 1 (cs_call N (f + 1))) am_no (some .int) kX1_lead m') (cs_call N (f + 1)) σ x t' (nI v') ∧
      jX6_lead_19 (am_bk (mm_hop (mm_call N (f + 1))) am_no (some .int) kX6_lead (m + n)) (mm_call N (f + 1)) μ x (tr_ix t) (nI v) = jX6_lead_69 (am_bk (mm_hop (mm_call N (f + 1))) am_no (some .int) kX6_lead m') (mm_call N (f + 1)) μ x (tr_ix t') (nI v') ∧ m ≤ m' ∧ (tr_lf t = true → tr_lf t' = true) ∧ (tr_lf t' = true ∨ (tr_lf t' = false ∧ tr_n t' < 120 ∧ dg3 n v = true ∧ v' = 0)) := by
  intro n
  induction n with
  | zero =>
    intro v t hv hv2 ht
    obtain rfl : v = 0 := by simpa using hv
    refine ⟨t, m, 0, ?_, ?_, Nat.le_refl _, id, ?_⟩
    · rw [jX1_lead_25_eq, if_pos (by decide)]
      rfl
    · rw [jX6_lead_19_eq]
      split
      · rfl
      · rw [if_pos (by decide)]
        rfl
    · rcases ht with q | ⟨q1, -, -, q4⟩
      · exact .inl q
      · exact .inr ⟨q1, q4, rfl, rfl⟩
  | succ n ih =>
    intro v t hv hv2 ht
    by_cases hz : v = 0
    · subst hz
      refine ⟨t, m + (n + 1), 0, ?_, ?_, by omega, id, ?_⟩
      · rw [jX1_lead_25_eq, if_pos (by decide)]
        rfl
      · rw [jX6_lead_19_eq]
        split
        · rfl
        · rw [if_pos (by decide)]
          rfl
      · rcases ht with q | ⟨q1, -, -, q4⟩
        · exact .inl q
        · exact .inr ⟨q1, q4, rfl, rfl⟩
    · have hz' : ¬ nI v ≤ 0 := fun q => by
        rw [nI_le0 (by omega)] at q
        omega
      rcases ht with hl | ⟨hl, hwf, hmn, hn⟩
      · refine ⟨t, m + (n + 1), v, ?_, ?_, by omega, id, .inl hl⟩
        · rw [jX1_lead_25_eq, if_neg hz', hl, cond_true]
          rfl
        · rw [jX6_lead_19_eq, show tr_ix t = -2 by unfold tr_ix; rw [hl]; rfl, if_pos (by decide)]
          rfl
      · have hix : tr_ix t = nI (tr_n t) := by unfold tr_ix; rw [hl]; rfl
        have hrow : μ.2.1 3 (tr_n t) = tr_ix (tr_x t) ∧ μ.2.1 4 (tr_n t) = tr_ix (tr_y t) ∧ (tr_lf (tr_x t) = true ∨ (tr_lf (tr_x t) = false ∧ tr_wf (tr_x t) ∧ mn μ (tr_x t) ∧ tr_n (tr_x t) < 120)) ∧ (tr_lf (tr_y t) = true ∨ (tr_lf (tr_y t) = false ∧ tr_wf (tr_y t) ∧ mn μ (tr_y t) ∧ tr_n (tr_y t) < 120)) := by
          cases t with
          | leaf => cases hl
          | inner n' k' v' x' y' =>
            obtain ⟨-, -, m3, m4, -, -, nx, ny, mx, my⟩ := hmn
            have hn : n' < 120 := hn
            refine ⟨m3, m4, ?_, ?_⟩
            · rw [tr_xi]
              cases q : tr_lf x' with
              | true => exact .inl rfl
              | false => exact .inr ⟨rfl, hwf.1, mx, by rw [q] at nx; rcases nx with h | h; · cases h
                                                        · omega⟩
            · rw [tr_yi]
              cases q : tr_lf y' with
              | true => exact .inl rfl
              | false => exact .inr ⟨rfl, hwf.2.1, my, by rw [q] at ny; rcases ny with h | h; · cases h
                                                          · omega⟩
        have hd3 : nI v / nI 3 = nI (v / 3) := pk_div (by omega) (by omega) (by omega)
        have hr3 : nI v - nI v / nI 3 * nI 3 = nI (v % 3) := pk_rem (by omega) (by omega) (by omega)
        have hc1 : ∀ t' : Tr, jX1_lead_61 (am_bk (cs_hop 1 (cs_call N (f + 1))) am_no (some .int) kX1_lead (m + n + 1)) (cs_call N (f + 1)) σ x t (nI v) t' = jX1_lead_25 (am_bk (cs_hop 1 (cs_call N (f + 1))) am_no (some .int) kX1_lead (m + n)) (cs_call N (f + 1)) σ x t' (nI (v / 3)) := fun t' => by
          rw [jX1_lead_61_eq, ic_lit, am_dz_nI (by omega), hd3, jX1_lead_25_bk]
        have hm1 : ∀ i, jX6_lead_61 (am_bk (mm_hop (mm_call N (f + 1))) am_no (some .int) kX6_lead (m + n + 1)) (mm_call N (f + 1)) μ x (nI (tr_n t)) (nI v) i = jX6_lead_19 (am_bk (mm_hop (mm_call N (f + 1))) am_no (some .int) kX6_lead (m + n)) (mm_call N (f + 1)) μ x i (nI (v / 3)) := fun i => by
          rw [jX6_lead_61_eq, ic_lit, am_dz_nI (by omega), hd3, jX6_lead_19_bk]
        have hv3 : v / 3 < 3 ^ n := by
          rw [Nat.div_lt_iff_lt_mul (by omega), ← Nat.pow_succ]
          exact hv
        rw [jX1_lead_25_eq, if_neg hz', hl, cond_false, jX6_lead_19_eq, hix, if_neg (nI_pos (by omega)), if_neg hz', ic_v3, ic_v1, ic_v2, am_dz_nI (by omega), am_dz_nI (by omega), hr3, ← Nat.add_assoc]
        by_cases r0 : v % 3 = 0
        · rw [r0, if_pos (show nI 0 = 0 by decide), if_neg (show ¬ nI 0 = nI 1 by decide), am_dz_nI (by omega), if_neg (show ¬ nI 0 = nI 2 by decide), jX1_lead_61_43_eq, hc1, hm1, ic_m2, show (-2 : Int32) = tr_ix .leaf from rfl]
          obtain ⟨t', m', v', q1, q2, q3, q5, q4⟩ := ih (v / 3) .leaf hv3 (by omega) (.inl rfl)
          exact ⟨t', m', v', q1, q2, q3, fun q => by simp at q, .inl (q5 rfl)⟩
        · have r0' : ¬ nI (v % 3) = 0 := fun q => by
            rw [nI_eq0 (by omega)] at q
            exact r0 q
          have hdg : dg3 (n + 1) v = dg3 n (v / 3) := by
            show (decide (v = 0) || (decide (v % 3 ≠ 0) && dg3 n (v / 3))) = _
            rw [decide_eq_false hz, decide_eq_true r0, Bool.false_or, Bool.true_and]
          have hnd := tr_nd_wf hwf hl
          rw [if_neg r0', hdg]
          by_cases r1 : v % 3 = 1
          · obtain ⟨t', m', v', q1, q2, q3, q5, q4⟩ := ih (v / 3) (tr_x t) hv3 (by omega) hrow.2.2.1
            rw [r1, if_pos rfl, if_pos rfl, hnd, cond_true, cs_vx hwf hl, am_ct_ok, jX1_lead_61_57_eq, hc1, am_ix_nI (by omega) (by omega), hrow.1, jX6_lead_61_43_eq, hm1]
            exact ⟨t', m', v', q1, q2, q3, fun q => by simp at q, q4⟩
          · obtain ⟨t', m', v', q1, q2, q3, q5, q4⟩ := ih (v / 3) (tr_y t) hv3 (by omega) hrow.2.2.2
            rw [show v % 3 = 2 by omega, if_neg (show ¬ nI 2 = nI 1 by decide), if_neg (show ¬ nI 2 = nI 1 by decide), hnd, cond_true, cs_vy hwf hl, am_ct_ok, hc1, am_dz_nI (by omega), if_pos rfl, am_ix_nI (by omega) (by omega), hrow.2.1, jX6_lead_61_59_eq, hm1]
            exact ⟨t', m', v', q1, q2, q3, fun q => by simp at q, q4⟩
theorem ld_2 {N f m c : Nat} (x y z : Int32) (t : Tr) : ∀ (n v : Nat) (σ : cs_S) (μ : mm_S) (d : Nat) (o o' : Option am_V), v < 3 ^ n → v < 2 ^ 31 → dg3 n v = true → Rel SM FR c σ μ → wkd σ μ d →
    ∃ r σ' μ', jX1_lead_82 (am_bk (cs_hop 1 (cs_call N (f + 9))) am_no (some .int) kX1_lead (m + n)) (cs_call N (f + 9)) σ x t (nI v) o = some (.inl (some (.inl (.int (r)))), σ') ∧
      jX6_lead_87 (am_bk (mm_hop (mm_call N (f + 9))) am_no (some .int) kX6_lead (m + n)) (mm_call N (f + 9)) μ x y z (nI v) o' = some (.inl (some (.inl (.int (r)))), μ') ∧ Rel SM FR c σ' μ' := by
  have hend : ∀ (n : Nat) (σ : cs_S) (μ : mm_S) (d : Nat) (o o' : Option am_V), Rel SM FR c σ μ → wkd σ μ d → ∃ r σ' μ', jX1_lead_82 (am_bk (cs_hop 1 (cs_call N (f + 9))) am_no (some .int) kX1_lead (m + n)) (cs_call N (f + 9)) σ x t (nI 0) o = some (.inl (some (.inl (.int (r)))), σ') ∧
      jX6_lead_87 (am_bk (mm_hop (mm_call N (f + 9))) am_no (some .int) kX6_lead (m + n)) (mm_call N (f + 9)) μ x y z (nI 0) o' = some (.inl (some (.inl (.int (r)))), μ') ∧ Rel SM FR c σ' μ' := by
    intro n σ μ d o o' hR hw
    obtain ⟨x1, x2, x3, x4, -, -, -, x8, -⟩ := id hw
    obtain ⟨y1, y2, -⟩ := x8 d (Nat.le_refl _)
    have hnd := tr_nd_wf (hw.at (Nat.le_refl d)).1.2.1 y1
    rw [jX1_lead_82_eq, if_pos (by decide), x2, am_ix_nI (by omega) (by omega), hnd, cond_true, jX6_lead_87_eq, if_pos (by decide), x4, am_ix_nI (by omega) (by omega), y2]
    exact ⟨_, _, _, rfl, rfl, hR⟩
  intro n
  induction n with
  | zero =>
    intro v σ μ d o o' hv hv2 hg hR hw
    obtain rfl : v = 0 := by simpa using hv
    exact hend 0 σ μ d o o' hR hw
  | succ n ih =>
    intro v σ μ d o o' hv hv2 hg hR hw
    by_cases hz : v = 0
    · subst hz
      exact hend (n + 1) σ μ d o o' hR hw
    · have hz' : ¬ nI v ≤ 0 := fun q => by
        rw [nI_le0 (by omega)] at q
        omega
      have hd3 : nI v / nI 3 = nI (v / 3) := pk_div (by omega) (by omega) (by omega)
      have hr3 : nI v - nI v / nI 3 * nI 3 = nI (v % 3) := pk_rem (by omega) (by omega) (by omega)
      have hg : (decide (v = 0) || (decide (v % 3 ≠ 0) && dg3 n (v / 3))) = true := hg
      rw [decide_eq_false hz, Bool.false_or, Bool.and_eq_true] at hg
      have r0 : v % 3 ≠ 0 := of_decide_eq_true hg.1
      have hv3 : v / 3 < 3 ^ n := by
        rw [Nat.div_lt_iff_lt_mul (by omega), ← Nat.pow_succ]
        exact hv
      have hb : ∃ b, nI (v % 3) - nI 1 = b2 b ∧ (b = true ↔ v % 3 = 2) := by
        by_cases q : v % 3 = 2
        · exact ⟨true, by rw [q]; decide, by simp [q]⟩
        · exact ⟨false, by rw [show v % 3 = 1 by omega]; decide, by simp [q]⟩
      obtain ⟨b, hb, hb2⟩ := hb
      obtain ⟨r, σ', μ', d', q1, q2, q3, q4⟩ := op_down (N := N) (f := f) hR hw b
      have h99 : jX1_lead_99 (am_bk (cs_hop 1 (cs_call N (f + 9))) am_no (some .int) kX1_lead (m + n + 1)) (cs_call N (f + 9)) σ x t (nI v) o (b2 b) = jX1_lead_82 (am_bk (cs_hop 1 (cs_call N (f + 9))) am_no (some .int) kX1_lead (m + n)) (cs_call N (f + 9)) σ' x t (nI (v / 3)) (some (.inl (.int (b2 r)))) := by
        rw [jX1_lead_99_eq, q1, am_ci_ok, ic_v3, am_dz_nI (by omega), hd3, jX1_lead_82_bk]
      rw [jX1_lead_82_eq, if_neg hz', jX6_lead_87_eq, if_neg hz', ic_v3, ic_v1, ic_v2, ic_v0, am_dz_nI (by omega), am_dz_nI (by omega), hr3, hb, q2, am_ci_ok, am_dz_nI (by omega), hd3, ← Nat.add_assoc, jX6_lead_87_bk]
      by_cases q : v % 3 = 2
      · obtain rfl := hb2.mpr q
        rw [q, if_pos rfl, jX1_lead_99_98_eq, ← b2_t, h99]
        exact ih _ _ _ _ _ _ hv3 (by omega) hg.2 q3 q4
      · have hbf : b = false := by
          cases b
          · rfl
          · exact absurd (hb2.mp rfl) q
        subst hbf
        rw [if_neg (fun q' => q ((nI_eq (by omega) (by omega)).mp q')), ← b2_f, h99]
        exact ih _ _ _ _ _ _ hv3 (by omega) hg.2 q3 q4
theorem op_lead (hf : 150 ≤ f) (hN : 1000 ≤ N) (a : Int32) : opI SM FR N f 52 64 [.inl (.ref 0), .inl (.int (a))] := by
  intro c σ μ hR hc
  obtain ⟨F, K, e, h, nd, fn, kp, er, wk, sm, ct⟩ := id hR
  have hlen := nd.1
  obtain ⟨f, rfl⟩ : ∃ f', f = f' + 20 := ⟨f - 20, by omega⟩
  rw [dX1_lead_eq, dX6_lead_eq]
  unfold dX1_lead dX6_lead
  rcases wk with ⟨w1, w2⟩ | ⟨d, hw⟩
  · rw [w1, if_neg (by decide), w2, if_pos rfl]
    exact ⟨_, σ, _, rfl, rfl, hR.up⟩
  · have hw : wkd σ μ d := hw
    obtain ⟨w1, w2, w3, w4, w5, w6, w7, w8, w9⟩ := id hw
    obtain ⟨y1, y2, -⟩ := w8 0 (Nat.zero_le _)
    have hix : tr_ix (cs_p σ 0) = nI (tr_n (cs_p σ 0)) := by unfold tr_ix; rw [w6.1]; rfl
    rw [w2, if_pos (nI_pos' (by omega)), w3, if_neg (show ¬ (1 : Int32) = 0 by decide), ic_v0, am_ix_nI (by omega) (by omega), am_ix_nI (by omega) (by omega), y2]
    by_cases ha : 0 ≤ a
    · obtain ⟨v, hv, rfl⟩ := nI_nn ha
      obtain ⟨n, rfl⟩ : ∃ n, N = n + 20 + 20 := ⟨N - 40, by omega⟩
      obtain ⟨t', m', v', q1, q2, q3, -, q4⟩ := ld_1 (σ := σ) (N := n + 20 + 20) (f := f + 18) (m := n + 20) (nI v) 20 v (cs_p σ 0) (by omega) hv (.inr ⟨w6.1, w6.2.1, w7, by omega⟩)
      rw [if_pos ha, q1, ← hix, q2, jX1_lead_69_eq, jX6_lead_69_eq]
      rcases q4 with q4 | ⟨q4, q5, q6, rfl⟩
      · rw [q4, cond_true, show tr_ix t' = -2 by unfold tr_ix; rw [q4]; rfl, if_pos (by decide)]
        exact ⟨_, _, _, rfl, rfl, hR.up⟩
      · rw [q4, cond_false, show tr_ix t' = nI (tr_n t') by unfold tr_ix; rw [q4]; rfl, if_neg (nI_pos (by omega)), if_pos (by decide), ic_v0]
        obtain ⟨hR', hw'⟩ := wkd.back hR hw (Nat.zero_le d)
        obtain ⟨m'', rfl⟩ : ∃ k, m' = k + 20 := ⟨m' - 20, by omega⟩
        obtain ⟨r, σ', μ', p1, p2, p3⟩ := ld_2 (N := n + 20 + 20) (f := f + 10) (m := m'') (nI v) (nI (tr_n t')) (nI 0) t' 20 v _ _ 0 none none (by omega) hv q6 hR' hw'
        exact ⟨r, σ', μ', p1, p2, p3.up⟩
    · have ha' : a ≤ 0 := by
        rw [Int32.le_iff_toInt_le] at ha ⊢
        omega
      rw [if_neg ha, jX6_lead_19_eq, if_neg (nI_pos (by omega)), if_pos ha', jX6_lead_69_27_eq, jX6_lead_69_eq, if_neg (nI_pos (by omega)), if_neg ha]
      exact ⟨_, _, _, rfl, rfl, hR.up⟩
end
