set_option maxRecDepth 100000
/-! THE OPERATIONS: sound. -/
section
variable {SM : List Tr} {FR : Nat → Int32} {N f : Nat}
/-- the first j are the same -/
def eqP (l l' : List Nat) (j : Nat) : Bool := decide (∀ i, i < j → l.getD i 0 = l'.getD i 0)
theorem eqP_0 (l l' : List Nat) : eqP l l' 0 = true := decide_eq_true (fun i hi => by omega)
theorem eqP_s (l l' : List Nat) (j : Nat) : eqP l l' (j + 1) = (eqP l l' j && decide (l.getD j 0 = l'.getD j 0)) := by
  unfold eqP
  rw [← Bool.decide_and]
  apply decide_eq_decide.mpr
  constructor
  · exact fun h => ⟨fun i hi => h i (by omega), h j (by omega)⟩
  · intro h i hi
    by_cases q : i = j
    · rw [q]; exact h.2
    · exact h.1 i (by omega)
theorem eqP_f {l l' : List Nat} {j : Nat} (h : eqP l l' j = false) : decide (l = l') = false := by
  apply decide_eq_false
  rintro rfl
  have := of_decide_eq_false h
  exact this (fun _ _ => rfl)
theorem eqP_all {l l' : List Nat} (h : l.length = l'.length) : eqP l l' l.length = decide (l = l') := by
  apply decide_eq_decide.mpr
  constructor
  · intro q
    apply List.ext_getElem h
    intro i h1 h2
    have := q i h1
    rw [List.getD_eq_getElem?_getD, List.getD_eq_getElem?_getD, List.getElem?_eq_getElem h1, List.getElem?_eq_getElem h2] at this
    exact this
  · rintro rfl i hi
    rfl
theorem cs_isAs {f : Nat} {σ : cs_S} {l l' : List Nat} (h : cw_ σ 103 l) (h' : cw_ σ 104 l') (hl : ∀ w ∈ l, w ≤ 30) (hl' : ∀ w ∈ l', w ≤ 30) (hN : 100 ≤ N) : cs_call N (f + 1) 65 [.inl (.ref 103), .inl (.ref 104)] (σ) = some (.inl (some (.inl (.int (b2 (decide (l = l')))))), σ) := by
  obtain ⟨a1, a2, a3⟩ := h
  obtain ⟨b1, b2', b3⟩ := h'
  have hI : ∀ (i : Int32) (k : Nat → am_R cs_S), cs_ix (103 + 20) true i k = am_ix i 80 k := fun _ _ => rfl
  have hI' : ∀ (i : Int32) (k : Nat → am_R cs_S), cs_ix (104 + 20) true i k = am_ix i 80 k := fun _ _ => rfl
  have hloop : l.length = l'.length → ∀ (n m j : Nat), j + n = l.length → jX2_isAs_19 (am_bk (cs_hop 2 (cs_call N f)) am_no (some .boolean) kX2_isAs (m + n)) (cs_call N f) σ 103 104 (b2 (eqP l l' j)) (nI j) = some (.inl (some (.inl (.int (b2 (decide (l = l')))))), σ) := by
    intro hlen n
    induction n with
    | zero =>
      intro m j hj
      obtain rfl : j = l.length := by omega
      rw [jX2_isAs_19_eq, show cs_isW 103 = true from rfl, cond_true, a1, if_pos (nI_le (Nat.le_refl _) (by omega)), b2_and1, eqP_all hlen]
    | succ n ih =>
      intro m j hj
      rw [jX2_isAs_19_eq, show cs_isW 103 = true from rfl, cond_true, a1, if_neg (nI_ge (by omega) (by omega))]
      cases q : eqP l l' j with
      | false =>
        rw [if_pos b2f0, b2_and1, eqP_f q]
      | true =>
        have ih := ih m (j + 1) (by omega)
        rw [eqP_s, q, Bool.true_and] at ih
        have w1 := hl _ (getD_mem l (show j < l.length by omega))
        have w2 := hl' _ (getD_mem l' (show j < l'.length by omega))
        rw [if_neg b2t0, cond_true, hI, am_ix_nI (by omega) (by omega), show cs_isW 104 = true from rfl, cond_true, hI', am_ix_nI (by omega) (by omega), a3 j (by omega), b3 j (by omega), ← Nat.add_assoc]
        by_cases q' : l.getD j 0 = l'.getD j 0
        · rw [decide_eq_true q'] at ih
          rw [if_pos (by rw [q']), jX2_isAs_51_50_eq, jX2_isAs_51_eq, ic_v1, nI_add, jX2_isAs_19_bk]
          exact ih
        · rw [decide_eq_false q'] at ih
          rw [if_neg (fun q => q' ((nI_eq (by omega) (by omega)).mp q)), jX2_isAs_51_eq, ic_v1, ic_v0, nI_add, jX2_isAs_19_bk]
          exact ih
  rw [dX2_isAs_eq]
  unfold dX2_isAs
  rw [show cs_isW 103 = true from rfl, show cs_isW 104 = true from rfl, cond_true, cond_true, a1, b1]
  by_cases q : l.length = l'.length
  · obtain ⟨n, rfl⟩ : ∃ n, N = n + l.length := ⟨N - l.length, by omega⟩
    have := hloop q l.length n 0 (by omega)
    rw [eqP_0] at this
    rw [if_pos (by rw [q]), jX2_isAs_16_15_eq, jX2_isAs_16_eq]
    exact this
  · rw [if_neg (fun q' => q ((nI_eq (by omega) (by omega)).mp q')), jX2_isAs_16_eq, jX2_isAs_19_eq, show cs_isW 103 = true from rfl, cond_true, ic_v0, if_pos nI_0, decide_eq_false (fun q' => q (by rw [q']))]
    split <;> rfl
/-- copied to the second row -/
def mw2_ (μ : mm_S) (l : List Nat) : Prop := ∀ j, j < l.length → μ.2.1 22 j = nI (l.getD j 0)
theorem sd_1 {N f : Nat} {l : List Nat} (hl : l.length ≤ 80) (x1 x2 x3 v5 : Int32) : ∀ (n m j : Nat) (μ : mm_S), j + n = l.length → mw_ μ l → (∀ i, i < j → μ.2.1 22 i = nI (l.getD i 0)) → ∃ μ' m', jX6_sound_67 (am_bk (mm_hop (mm_call N f)) am_no (some .int) kX6_sound (m + n)) (mm_call N f) μ x1 x2 x3 (nI l.length) v5 (nI j) =
      jX6_sound_67 (am_bk (mm_hop (mm_call N f)) am_no (some .int) kX6_sound m) (mm_call N f) μ' x1 x2 x3 (nI l.length) v5 (nI l.length) ∧ mw2_ μ' l ∧ μ'.1 = μ.1 ∧ (∀ c, c ≠ 22 → μ'.2.1 c = μ.2.1 c) ∧ μ'.2.2 = μ.2.2 ∧ m' = m := by
  intro n
  induction n with
  | zero =>
    intro m j μ hj hw h2
    obtain rfl : j = l.length := by omega
    exact ⟨μ, m, rfl, h2, rfl, fun _ _ => rfl, rfl, rfl⟩
  | succ n ih =>
    intro m j μ hj hw h2
    obtain ⟨μ', m', q1, q2, q3, q4, q5, q6⟩ := ih m (j + 1) (mm_pa μ 22 j (nI (l.getD j 0))) (by omega) ⟨hw.1, hw.2.1, fun i hi => by rw [mm_pa_get, if_neg (by omega)]; exact hw.2.2 i hi⟩ (fun i hi => by
      rw [mm_pa_get, if_pos rfl]
      by_cases q : i = j
      · rw [if_pos q, q]
      · rw [if_neg q, h2 i (by omega)])
    refine ⟨μ', m', ?_, q2, q3, fun c hc => (q4 c hc).trans ?_, q5, q6⟩
    · rw [jX6_sound_67_eq, if_neg (nI_ge (by omega) (by omega)), am_ix_nI (by omega) (by omega), am_ix_nI (by omega) (by omega), hw.2.2 j (by omega), ic_v1, nI_add, ← Nat.add_assoc, jX6_sound_67_bk]
      exact q1
    · funext i
      rw [mm_pa_get, if_neg hc]
theorem sd_2 {N f : Nat} {l l' : List Nat} {μ : mm_S} (hl : l.length ≤ 80) (hm : ∀ w ∈ l, w ≤ 30) (hm' : ∀ w ∈ l', w ≤ 30) (hlen : l.length = l'.length) (hw : mw2_ μ l) (hw' : mw_ μ l') (x1 x2 x3 v5 : Int32) : ∀ (n m j : Nat), j + n = l.length → jX6_sound_117 (am_bk (mm_hop (mm_call N f)) am_no (some .int) kX6_sound (m + n)) (mm_call N f) μ x1 x2 x3 (nI l.length) v5 (b2 (eqP l l' j)) (nI j) = some (.inl (some (.inl (.int (if l = l' then ic 1 else ic 0)))), μ) := by
  have hend : ∀ back b v7, jX6_sound_159 back (mm_call N f) μ x1 x2 x3 (nI l.length) v5 (b2 b) v7 = some (.inl (some (.inl (.int (if b = true then ic 1 else ic 0)))), μ) := by
    intro back b v7
    rw [jX6_sound_159_eq]
    cases b with
    | false => rw [if_pos b2f0]; rfl
    | true => rw [if_neg b2t0]; rfl
  intro n
  induction n with
  | zero =>
    intro m j hj
    obtain rfl : j = l.length := by omega
    rw [jX6_sound_117_eq, if_pos (nI_le (Nat.le_refl _) (by omega)), jX6_sound_159_124_eq, hend, eqP_all hlen]
    by_cases q : l = l' <;> simp [q]
  | succ n ih =>
    intro m j hj
    rw [jX6_sound_117_eq, if_neg (nI_ge (by omega) (by omega))]
    cases q : eqP l l' j with
    | false =>
      rw [if_pos b2f0, jX6_sound_159_129_eq, hend, if_neg (by decide), if_neg (of_decide_eq_false (eqP_f q))]
    | true =>
      have ih := ih m (j + 1) (by omega)
      rw [eqP_s, q, Bool.true_and] at ih
      have w1 := hm _ (getD_mem l (show j < l.length by omega))
      have w2 := hm' _ (getD_mem l' (show j < l'.length by omega))
      rw [if_neg b2t0, am_ix_nI (by omega) (by omega), am_ix_nI (by omega) (by omega), hw j (by omega), hw'.2.2 j (by omega), ← Nat.add_assoc]
      by_cases q' : l.getD j 0 = l'.getD j 0
      · rw [decide_eq_true q'] at ih
        rw [if_pos (by rw [q']), jX6_sound_151_150_eq, jX6_sound_151_eq, ic_v1, nI_add, jX6_sound_117_bk]
        exact ih
      · rw [decide_eq_false q'] at ih
        rw [if_neg (fun q => q' ((nI_eq (by omega) (by omega)).mp q)), jX6_sound_151_eq, ic_v1, ic_v0, nI_add, jX6_sound_117_bk]
        exact ih
theorem op_sound (hf : 150 ≤ f) (hN : 1000 ≤ N) (a x y : Int32) : opI SM FR N f 19 28 [.inl (.ref 0), .inl (.int (a)), .inl (.int (x)), .inl (.int (y))] := by
  intro c σ μ hR hc
  obtain ⟨F, K, e, h, nd, fn, kp, er, wk, sm, ct⟩ := id hR
  obtain ⟨f, rfl⟩ : ∃ f', f = f' + 20 := ⟨f - 20, by omega⟩
  rw [dX1_sound_eq, dX6_sound_eq]
  unfold dX1_sound dX6_sound
  rw [cs_isStyle, am_ci_ok, mm_isStyle, am_ci_ok]
  cases h1 : inR 0 7 a with
  | false =>
    rw [if_pos b2f0, if_pos b2f0]
    exact ⟨_, σ, μ, rfl, rfl, hR.up⟩
  | true =>
    obtain ⟨st, -, hst, rfl⟩ := inR_t (by omega) (by omega) h1
    rw [if_neg b2t0, if_neg b2t0, cs_isNode, am_ci_ok, mm_isNode _ nd.2.2.1, am_ci_ok]
    cases h2 : isN (cs_t σ 100).length x with
    | false =>
      rw [if_pos b2f0, if_pos b2f0]
      exact ⟨_, σ, μ, rfl, rfl, hR.up⟩
    | true =>
      rw [if_neg b2t0, if_neg b2t0, cs_isNode, am_ci_ok, mm_isNode _ nd.2.2.1, am_ci_ok]
      cases h3 : isN (cs_t σ 100).length y with
      | false =>
        rw [if_pos b2f0, if_pos b2f0]
        exact ⟨_, σ, μ, rfl, rfl, hR.up⟩
      | true =>
        have hl := nd.1
        obtain ⟨i, hi, rfl⟩ := isN_t (by omega) h2
        obtain ⟨j, hj, rfl⟩ := isN_t (by omega) h3
        obtain ⟨a1, a2, a3, a4⟩ := nd.at hi
        obtain ⟨b1, b2', b3, b4⟩ := nd.at hj
        generalize hx : (cs_t σ 100).getD i .leaf = tx at a1 a2 a3 a4
        generalize hy : (cs_t σ 100).getD j .leaf = ty at b1 b2' b3 b4
        have hdx := a1.dp
        have hdy := b1.dp
        have hwx := wlen_sz (K st) tx
        have hwy := wlen_sz (K st) ty
        have hsx := a1.2.2
        have hsy := b1.2.2
        have hK : ∀ k, k < 10 → μ.2.1 8 (10 * st + k) = b2 (K st k) := fun k hk => ((kp st (by omega)).1.elim fun m q => (q.2.2 k hk).2)
        obtain ⟨σ', b', e1, hb', hcw, hfr⟩ := cs_says2 (N := N) (f := f + 19) (w := 103) (D := 40) (.inl rfl) (by omega) kp (show st < 8 by omega) (by omega) a1 (by omega)
        have hsm' := cs_same.of (.inl rfl) hfr
        have kp' : cm_kp K σ' μ := kp.fr hsm'.2.1.1 rfl
        obtain ⟨σ'', b'', e2, hb'', hcw', hfr'⟩ := cs_says2 (N := N) (f := f + 19) (w := 104) (D := 40) (.inr rfl) (by omega) kp' (show st < 8 by omega) (by omega) b1 (by omega)
        have hsm'' := hsm'.tr (cs_same.of (.inr rfl) hfr')
        have ht' : cs_t σ' 100 = cs_t σ 100 := by unfold cs_t; rw [hfr.2.2]
        rw [wlen_glen a1] at hb'
        rw [wlen_glen b1] at hb''
        rw [if_neg b2t0, if_neg b2t0, cs_c201 rfl hi (by omega), am_ct_ok, hx, a2, cond_true, show ic 40 = nI 40 from rfl, e1, am_ci_ok, mm_length (K st) st (by omega) _ μ 0 120 _ (f + 19) a3 (by omega) a1.2.1 hK (by omega), am_ci_ok, mm_length (K st) st (by omega) _ μ 0 120 _ (f + 19) b3 (by omega) b1.2.1 hK (by omega), am_ci_ok, show ic 80 = nI 80 from rfl]
        by_cases zx : wlen (K st) tx ≤ 80
        · rw [decide_eq_true zx] at hb'
          subst hb'
          rw [if_neg b2t0, if_neg (nI_nlt zx (by omega)), cs_c201 rfl (by rw [ht']; exact hj) (by rw [ht']; omega), am_ct_ok, ht', hy, b2', cond_true, e2, am_ci_ok]
          by_cases zy : wlen (K st) ty ≤ 80
          · rw [decide_eq_true zy] at hb''
            subst hb''
            have hlx := wsd_glen _ (kp st (by omega)).2 tx 0 (40 + 1) a1.2.1
            have hly := wsd_glen _ (kp st (by omega)).2 ty 0 (40 + 1) b1.2.1
            rw [wlen_glen a1] at hlx
            rw [wlen_glen b1] at hly
            have hmx := wsd_le (fun _ k => K st k) tx 0 (40 + 1) a1.2.1
            have hmy := wsd_le (fun _ k => K st k) ty 0 (40 + 1) b1.2.1
            obtain ⟨u1, u2, u3⟩ := hcw rfl
            have c1 : cw_ σ'' 103 (wsd (fun _ k => K st k) tx 0 (40 + 1)) := ⟨(hfr'.1 103 (by omega) (by omega) (by omega)).trans u1, u2, fun j hj => by
              unfold cs_a at *
              rw [hfr'.2.1 (103 + 20) (by omega)]
              exact u3 j hj⟩
            have has := cs_isAs (N := N) (f := f + 18) c1 (hcw' rfl) hmx hmy (by omega)
            obtain ⟨μ', e3, m1, m2⟩ := mm_sayAll (N := N) (st := st) (f := f + 19) (b := 40 + 1) (show 120 ≤ 450 by omega) (by omega) (by omega) a3 a1.2.1 a1.1 hK (kp st (by omega)).2 (by omega) (by omega) (by omega)
            obtain ⟨n, rfl⟩ : ∃ n, N = n + 80 + (wsd (fun _ k => K st k) tx 0 (40 + 1)).length := ⟨N - 80 - (wsd (fun _ k => K st k) tx 0 (40 + 1)).length, by omega⟩
            have bg : mn μ ty := by
              have := (nd.2.2.2 j hj).2.2
              rwa [hy] at this
            generalize hWx : wsd (fun _ k => K st k) tx 0 (40 + 1) = wx at *
            generalize hWy : wsd (fun _ k => K st k) ty 0 (40 + 1) = wy at *
            obtain ⟨μ2, m', q1, q2, q3, q4, q5, -⟩ := sd_1 (N := n + 80 + wx.length) (f := f + 19) (l := wx) (by omega) (nI st) (nI i) (nI j) (nI wy.length) wx.length (n + 80) 0 μ' (by omega) m1 (fun i hi => by omega)
            have r16 : ∀ c, c ≠ 17 → c ≠ 22 → μ2.2.1 c = μ.2.1 c := fun c h1 h2 => (q4 c h2).trans (m2.2.1 c h1)
            have b3' : mr μ2 0 120 ty (nI j) := by
              have := mn_mr (H := 120) (mn_of (μ' := μ2) (H := 120) (fun c _ h2 j _ => by rw [r16 c (by omega) (by omega)]) bg (.inr (by omega))) (.inr (by omega))
              unfold tr_ix at this
              rw [b1.1, b4] at this
              exact this
            obtain ⟨μ3, e4, p1, p2⟩ := mm_sayAll (N := n + 80 + wx.length) (K := K st) (st := st) (f := f + 19) (b := 40 + 1) (show 120 ≤ 450 by omega) (by omega) (by omega) b3' b1.2.1 b1.1 (fun k hk => by rw [r16 8 (by omega) (by omega)]; exact hK k hk) (kp st (by omega)).2 (by omega) (by rw [hWy]; omega) (by omega)
            rw [hWy] at p1
            have hw3 : mw2_ μ3 wx := fun j hj => by
              rw [p2.2.1 22 (by omega)]
              exact q2 j hj
            have hfin : mm_same μ μ3 := by
              have g1 : ∀ j, j ≠ 18 → j ≠ 19 → j ≠ 20 → μ3.1 j = μ.1 j := fun j x y z => (p2.1 j x y z).trans ((congrFun q3 j).trans (m2.1 j x y z))
              have g2 : ∀ c, c ≠ 17 → c ≠ 22 → μ3.2.1 c = μ.2.1 c := fun c x y => (p2.2.1 c x).trans (r16 c x y)
              exact ⟨⟨g1 0 (by omega) (by omega) (by omega), g1 10 (by omega) (by omega) (by omega), g1 30 (by omega) (by omega) (by omega), g1 33 (by omega) (by omega) (by omega)⟩, ⟨fun c hc => g2 c (by omega) (by omega), g2 8 (by omega) (by omega), g2 9 (by omega) (by omega), g2 31 (by omega) (by omega), g2 32 (by omega) (by omega)⟩, fun c _ h2 j _ => by rw [g2 c (by omega) (by omega)]⟩
            rw [if_neg b2t0, has, am_ci_ok, if_pos (nI_le zy (by omega)), e3, am_cv_ok, ← hlx, ← hly, ic_v0, q1, jX6_sound_67_eq, if_pos (nI_le (Nat.le_refl _) (by omega)), e4, am_cv_ok]
            have hc : (if b2 (decide (wx = wy)) = 0 then some (.inl (some (.inl (.int (nI 0)))), σ'') else some (.inl (some (.inl (.int (ic 1)))), σ'') : am_R cs_S) = some (.inl (some (.inl (.int (if wx = wy then ic 1 else ic 0)))), σ'') := by
              by_cases q : wx = wy
              · rw [decide_eq_true q, if_neg b2t0, if_pos q]
              · rw [decide_eq_false q, if_pos b2f0, if_neg q]
                rfl
            rw [hc]
            by_cases q : wx.length = wy.length
            · have := sd_2 (N := n + 80 + wx.length) (f := f + 19) (by omega) hmx hmy q hw3 p1 (nI st) (nI i) (nI j) (nI wy.length) wx.length (n + 80 - wx.length) 0 (by omega)
              rw [eqP_0, show n + 80 - wx.length + wx.length = n + 80 by omega] at this
              rw [if_pos (show nI wx.length = nI wy.length by rw [q]), jX6_sound_112_111_eq, jX6_sound_112_eq, show ic 1 = b2 true from rfl, ic_v0, this]
              exact ⟨_, _, _, rfl, rfl, hR.fr hsm'' hfin⟩
            · rw [if_neg (show ¬ nI wx.length = nI wy.length from fun q' => q ((nI_eq (by omega) (by omega)).mp q')), jX6_sound_112_eq, jX6_sound_117_eq, ic_v0, if_pos nI_0, if_neg (show ¬ wx = wy from fun q' => q (by rw [q']))]
              refine ⟨nI 0, σ'', μ3, rfl, ?_, hR.fr hsm'' hfin⟩
              split
              · rw [jX6_sound_159_124_eq, jX6_sound_159_eq, if_pos nI_0]
                rfl
              · rw [jX6_sound_159_129_eq, jX6_sound_159_eq, if_pos nI_0]
                rfl
          · rw [decide_eq_false zy] at hb''
            subst hb''
            rw [if_pos b2f0, if_neg (nI_ge (by omega) (by omega))]
            exact ⟨_, σ'', μ, rfl, rfl, hR.fr hsm'' (mm_same.rf μ)⟩
        · rw [decide_eq_false zx] at hb'
          subst hb'
          rw [if_pos b2f0, if_pos (nI_lt (by omega) (by omega))]
          exact ⟨_, σ', μ, rfl, rfl, hR.fr hsm' (mm_same.rf μ)⟩
end
