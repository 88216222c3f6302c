set_option maxRecDepth 100000
/-! THE OPERATIONS: nodes come and go. -/
section
variable {SM : List Tr} {FR : Nat → Int32} {N f : Nat}
theorem cs_add_fr (σ : cs_S) (c : Nat) (t : Tr) : (cs_add σ c t).1 = σ.1 ∧ (cs_add σ c t).2.1 = σ.2.1 ∧ (cs_add σ c t).2.2.1 = σ.2.2.1 ∧ (∀ c', c' ≠ c → cs_t (cs_add σ c t) c' = cs_t σ c' ∧ cs_c (cs_add σ c t) c' = cs_c σ c') ∧ cs_p (cs_add σ c t) = cs_p σ ∧ cs_y (cs_add σ c t) = cs_y σ ∧ cs_n1 (cs_add σ c t) ≤ cs_n1 σ + 1 ∧ cs_n2 (cs_add σ c t) ≤ cs_n2 σ + cs_cap (cs_c σ c).1 := by
  unfold cs_add
  split
  · exact ⟨rfl, rfl, rfl, fun c' q => ⟨va_up_ne _ _ q, va_up_ne _ _ q⟩, rfl, rfl, Nat.le_succ _, Nat.le_add_right _ _⟩
  · exact ⟨rfl, rfl, rfl, fun c' q => ⟨va_up_ne _ _ q, va_up_ne _ _ q⟩, rfl, rfl, Nat.le_refl _, Nat.le_refl _⟩
theorem cm_nd.push {σ : cs_S} {μ μ' : mm_S} {t : Tr} (nd : cm_nd σ μ) (hl : (cs_t σ 100).length < 120) (ht : tr_ok t) (hn : tr_n t = (cs_t σ 100).length) (hm : mn μ' t) (h0 : μ'.1 0 = nI ((cs_t σ 100).length + 1)) (hr : ∀ c, 1 ≤ c → c ≤ 6 → ∀ j, j < (cs_t σ 100).length → μ'.2.1 c j = μ.2.1 c j) : cm_nd (cs_add σ 100 t) μ' := by
  obtain ⟨a, b, d, g⟩ := nd
  have e := cs_add_t σ 100 t
  refine ⟨by rw [e]; simp; omega, ?_, by rw [e]; simpa using h0, ?_⟩
  · refine cs_add_c b ?_ (by omega)
    unfold cs_cap
    split <;> omega
  · rw [e]
    intro j hj
    simp only [List.length_append, List.length_singleton] at hj
    by_cases q : j = (cs_t σ 100).length
    · subst q
      have : (cs_t σ 100 ++ [t]).getD (cs_t σ 100).length .leaf = t := by simp
      rw [this]
      exact ⟨ht, hn, hm⟩
    · have : (cs_t σ 100 ++ [t]).getD j .leaf = (cs_t σ 100).getD j .leaf := by
        rw [List.getD_eq_getElem?_getD, List.getD_eq_getElem?_getD, List.getElem?_append_left (by omega)]
      rw [this]
      obtain ⟨g1, g2, g3⟩ := g j (by omega)
      exact ⟨g1, g2, mn_of hr g3 (.inr (by rw [g2]; omega))⟩
theorem cm_wk.grow {σ σ' : cs_S} {μ μ' : mm_S} {H : Nat} (hq : cm_wk σ μ) (ht : (cs_t σ 100).length ≤ (cs_t σ' 100).length) (hH : (cs_t σ 100).length ≤ H) (hp : cs_p σ' = cs_p σ) (h17 : σ'.1 17 = σ.1 17) (h116 : σ'.2.1 116 = σ.2.1 116) (h30 : μ'.1 30 = μ.1 30) (h33 : μ'.1 33 = μ.1 33) (h31 : μ'.2.1 31 = μ.2.1 31) (h32 : μ'.2.1 32 = μ.2.1 32) (hr : ∀ c, 1 ≤ c → c ≤ 6 → ∀ j, j < H → μ'.2.1 c j = μ.2.1 c j) : cm_wk σ' μ' := by
  have h17 : cs_i σ' 17 = cs_i σ 17 := h17
  have h116 : ∀ j, cs_a σ' 116 j = cs_a σ 116 j := fun j => by unfold cs_a; rw [h116]
  rcases hq with ⟨a, b⟩ | ⟨d, a1, a2, a3, a4, a5, a6, a7, a8, a9⟩
  · exact .inl ⟨h17.trans a, h30.trans b⟩
  · refine .inr ⟨d, a1, h17.trans a2, h30.trans a3, h33.trans a4, by rw [hp]; omega, by rw [hp]; exact a6, ?_, fun j hj => ?_, fun j hj => ?_⟩
    · rw [hp]
      exact mn_of (H := H) hr a7 (.inr (by omega))
    · rw [hp, h31]
      exact a8 j hj
    · rw [hp, h116, h32]
      exact a9 j hj
/-- a node is laid behind the others, on both sides -/
theorem Rel.push {c : Nat} {σ : cs_S} {μ μ' : mm_S} {t : Tr} {x y : Int32} {tx ty : Tr} {n k v : Nat} {s' : mm_S} (hR : Rel SM FR c σ μ) (hl : (cs_t σ 100).length < 120) (et : t = .inner (cs_t σ 100).length k v tx ty) (ht : tr_ok t) (hx : x = tr_ix tx) (hy : y = tr_ix ty) (nx : tr_lf tx = true ∨ tr_n tx < (cs_t σ 100).length) (ny : tr_lf ty = true ∨ tr_n ty < (cs_t σ 100).length) (mx : mn μ tx) (my : mn μ ty)
    (hst : mm_st μ s' (cs_t σ 100).length (nI k) (tr_vI k v) x y (1 + tr_sz tx + tr_sz ty) (1 + max (tr_dp tx) (tr_dp ty))) (hμ : μ' = mm_p s' 0 (nI ((cs_t σ 100).length + 1))) : Rel SM FR (c + 1) (cs_add (cs_mk σ 1 (cs_nf (tr_k t))) 100 t) μ' := by
  obtain ⟨F, K, e, h, nd, fn, kp, er, wk, sm, ct⟩ := hR
  subst hμ
  obtain ⟨s1, s2, s3, s4, s5, s6, s7, s8, s9, s0⟩ := hst
  obtain ⟨f1, f2, f3, f4, f5, f6, f7, f8⟩ := cs_add_fr (cs_mk σ 1 (cs_nf (tr_k t))) 100 t
  have hrow : ∀ c, 1 ≤ c → c ≤ 6 → ∀ j, j < (cs_t σ 100).length → (mm_p s' 0 (nI ((cs_t σ 100).length + 1))).2.1 c j = μ.2.1 c j := fun c _ _ j hj => s4 c j (by omega)
  have hint : ∀ j, j ≠ 0 → (mm_p s' 0 (nI ((cs_t σ 100).length + 1))).1 j = μ.1 j := fun j hj => by rw [mm_p_get, if_neg hj, s1]
  have hmn : mn (mm_p s' 0 (nI ((cs_t σ 100).length + 1))) t := by
    rw [et]
    exact ⟨s5, s6, s7.trans hx, s8.trans hy, s9, s0, nx, ny, mn_of hrow mx nx, mn_of hrow my ny⟩
  have hnf : cs_nf (tr_k t) ≤ 6 := by unfold cs_nf; split <;> omega
  have hcap : cs_cap (cs_c (cs_mk σ 1 (cs_nf (tr_k t))) 100).1 ≤ 400 := by
    have := nd.2.1
    show cs_cap (cs_c σ 100).1 ≤ 400
    unfold cs_cap
    split <;> omega
  refine ⟨F, K, e, h, cm_nd.push (σ := cs_mk σ 1 (cs_nf (tr_k t))) nd hl ht (by rw [et]; rfl) hmn (by rw [mm_p_get, if_pos rfl]; rfl) hrow, ?_, ?_, ?_, ?_, ?_, ?_⟩
  · exact cm_fn.fr fn (by rw [f1]; rfl) (s3 7 (by omega))
  · exact cm_kp.fr kp (by rw [f2]; rfl) (s3 8 (by omega))
  · exact cm_er.fr er (by rw [f1]; rfl) (by rw [f2]; rfl) (hint 10 (by omega)) (s3 9 (by omega))
  · refine cm_wk.grow (H := (cs_t σ 100).length) wk ?_ (Nat.le_refl _) f5 (by rw [f1]; rfl) (by rw [f2]; rfl) (hint 30 (by omega)) (hint 33 (by omega)) (s3 31 (by omega)) (s3 32 (by omega)) hrow
    rw [cs_add_t]
    simp
    show (cs_t σ 100).length ≤ (cs_t σ 100).length + 1
    omega
  · exact sm.mk' (fun c hc => s3 c (by omega)) (f4 106 (by omega)).1 (f4 106 (by omega)).2 (by rw [f2]; rfl)
  · obtain ⟨c1, c2, c3⟩ := ct
    refine ⟨by rw [f6]; show (cs_y σ).length ≤ _; omega, ?_, ?_⟩
    · have : cs_n1 (cs_mk σ 1 (cs_nf (tr_k t))) = cs_n1 σ + 1 := rfl
      omega
    · have : cs_n2 (cs_mk σ 1 (cs_nf (tr_k t))) = cs_n2 σ + cs_nf (tr_k t) := rfl
      omega
theorem cs_adds {f : Nat} {σ : cs_S} {t : Tr} (ht : tr_nd t = true) (hc : (cs_c σ 100).1 ≤ 40000) : cs_call N (f + 11) 3 [.inl (.ref 0), .inr (t)] (σ) = some (.inl (some (.inl (.int (nI (cs_t σ 100).length)))), cs_add σ 100 t) := by
  rw [dX1_adds_eq]
  unfold dX1_adds
  rw [cs_p202 (c := 100) (fun k => rfl) ht hc, am_ci_ok, cs_c200 rfl, am_ci_ok, cs_add_t, ic_lit, List.length_append, nI_subI (by simp)]
  simp
theorem op_leaf (hf : 150 ≤ f) (a b : Int32) : opI SM FR N f 1 2 [.inl (.ref 0), .inl (.int (a)), .inl (.int (b))] := by
  intro c σ μ hR hc
  obtain ⟨F, K, e, h, nd, -⟩ := id hR
  obtain ⟨f, rfl⟩ : ∃ f', f = f' + 20 := ⟨f - 20, by omega⟩
  rw [dX1_leaf_eq, dX6_leaf_eq]
  unfold dX1_leaf dX6_leaf
  rw [cs_inR 0 1 a σ (by decide) (by decide), am_ci_ok, mm_inR 0 1 a μ (by decide) (by decide), am_ci_ok]
  cases h1 : inR 0 1 a with
  | false =>
    rw [if_pos b2f0, if_pos b2f0]
    exact ⟨_, σ, μ, rfl, rfl, hR.up⟩
  | true =>
    obtain ⟨k, -, hk, rfl⟩ := inR_t (by omega) (by omega) h1
    rw [if_neg b2t0, if_neg b2t0]
    suffices hs : ∀ (hi : Nat) (l : Int64), hi = (if k = 0 then 9 else 9999) → l = (nI hi).toInt64 → ∃ r σ' μ', jX1_leaf_26 (am_bk (cs_hop 1 (cs_call N (f + 19))) am_no (some .int) kX1_leaf N) (cs_call N (f + 19)) σ (nI k) b l (lN 0) b.toInt64 = some (.inl (some (.inl (.int (r)))), σ') ∧ jX6_leaf_26 (am_bk (mm_hop (mm_call N (f + 19))) am_no (some .int) kX6_leaf N) (mm_call N (f + 19)) μ (nI k) b l (lN 0) b.toInt64 = some (.inl (some (.inl (.int (r)))), μ') ∧ Rel SM FR (c + 1) σ' μ' by
      by_cases k0 : k = 0
      · subst k0
        rw [if_pos nI_0, if_pos nI_0, jX1_leaf_26_23_eq, jX6_leaf_26_23_eq]
        exact hs 9 _ rfl (by decide)
      · rw [if_neg (fun q => k0 ((nI_eq0 (by omega)).mp q)), if_neg (fun q => k0 ((nI_eq0 (by omega)).mp q))]
        exact hs 9999 _ (by rw [if_neg k0]) (by decide)
    intro hi l hhi hl
    have hi9 : hi ≤ 9999 := by split at hhi <;> omega
    rw [jX1_leaf_26_eq, jX6_leaf_26_eq, cs_inR 0 hi b σ (by decide) hl, am_ci_ok, mm_inR 0 hi b μ (by decide) hl, am_ci_ok]
    cases h2 : inR 0 hi b with
    | false =>
      rw [if_pos b2f0, if_pos b2f0]
      exact ⟨_, σ, μ, rfl, rfl, hR.up⟩
    | true =>
      obtain ⟨v, -, hv, rfl⟩ := inR_t (by omega) (by omega) h2
      have hlen := nd.1
      rw [if_neg b2t0, if_neg b2t0, cs_c200 rfl, am_ci_ok, nd.2.2.1, ic_lit]
      by_cases hz : (cs_t σ 100).length = 120
      · rw [if_pos (by rw [hz]), if_pos (by rw [hz])]
        exact ⟨_, σ, μ, rfl, rfl, hR.up⟩
      · have hnz : ¬ nI (cs_t σ 100).length = nI 120 := fun q => hz ((nI_eq (by omega) (by omega)).mp q)
        have hwf : tr_wf (.inner (cs_t σ 100).length k v .leaf .leaf) := by
          refine ⟨trivial, trivial, ?_⟩
          by_cases k0 : k = 0
          · rw [if_pos k0] at hhi
            exact .inl ⟨k0, by omega, rfl, rfl⟩
          · exact .inr (.inl ⟨by omega, by omega, rfl, rfl⟩)
        have hmade := cs_made_ok (n := (cs_t σ 100).length) (k := k) (v := v) (x := .leaf) (y := .leaf) (nI v) (by omega) (by omega) trivial trivial (by simp [tr_dp]) (by simp [tr_dp]) (fun _ => ⟨rfl, by omega⟩) (fun q => by omega) (by simp [tr_lf]; omega) (by simp [tr_lf]; omega)
        have hnd : tr_nd (.inner (cs_t σ 100).length k v .leaf .leaf) = true := Nat.ble_eq_true_of_le (by omega)
        have hvI : tr_vI k v = nI v := by
          unfold tr_vI
          rw [if_pos (by omega)]
        obtain ⟨s', e1, hst⟩ := mm_sets (N := N) (f := f + 18) (p := (cs_t σ 100).length) (s := μ) (k := nI k) (v := nI v) (x := -2) (y := -2) (tx := .leaf) (ty := .leaf) (lo := 0) (hi := 0) (by omega) rfl rfl (by omega) (by simp [tr_sz]) (by simp [tr_sz])
        rw [if_neg hnz, if_neg hnz, cs_c200 rfl, am_ci_ok, cs_p205 hmade, am_ct_ok, cs_adds (σ := cs_mk σ 1 (cs_nf (tr_k (.inner (cs_t σ 100).length k v .leaf .leaf)))) hnd (by have := nd.2.1; show (cs_c σ 100).1 ≤ 40000; omega), am_ci_ok, ic_m2, e1, am_cv_ok, hst.1, nd.2.2.1, ic_lit, nI_add, mm_p_get, if_pos rfl, nI_subI (by omega)]
        refine ⟨_, _, _, rfl, rfl, ?_⟩
        rw [← hvI] at hst
        exact Rel.push (n := 0) hR (by omega) rfl ⟨rfl, hwf, by simp [tr_sz]⟩ rfl rfl (.inl rfl) (.inl rfl) trivial trivial hst rfl
/-- the page's last node goes -/
theorem Rel.pop {c : Nat} {σ : cs_S} {μ : mm_S} {x : Tr} {l : List Tr} {q : Nat × Int32} (hR : Rel SM FR c σ μ) (hl : cs_t σ 100 = x :: l) (hq : q.1 = (cs_c σ 100).1) (hw : cs_i σ 17 = -1 ∨ tr_n (cs_p σ 0) < l.length) : Rel SM FR (c + 1) (cs_pt σ 100 (x :: l).dropLast q) (mm_p μ 0 (nI l.length)) := by
  obtain ⟨F, K, e, h, nd, fn, kp, er, wk, sm, ct⟩ := hR
  obtain ⟨a, b, d, g⟩ := nd
  have e1 : cs_t (cs_pt σ 100 (x :: l).dropLast q) 100 = (x :: l).dropLast := va_up_self (cs_t σ) 100 (x :: l).dropLast
  have e2 : cs_c (cs_pt σ 100 (x :: l).dropLast q) 100 = q := va_up_self (cs_c σ) 100 q
  have e3 : ∀ c, c ≠ 100 → cs_t (cs_pt σ 100 (x :: l).dropLast q) c = cs_t σ c ∧ cs_c (cs_pt σ 100 (x :: l).dropLast q) c = cs_c σ c := fun c hc => ⟨va_up_ne _ _ hc, va_up_ne _ _ hc⟩
  rw [hl] at a g
  simp only [List.length_cons] at a
  refine ⟨F, K, e, h, ⟨by rw [e1]; simp; omega, by rw [e2, hq]; exact b, by rw [e1, mm_p_get, if_pos rfl]; simp, ?_⟩, fn, kp, er, ?_, ?_, ct.up (by omega)⟩
  · rw [e1]
    intro j hj
    have hj' : j < l.length := by simpa using hj
    have hg : (x :: l).dropLast.getD j .leaf = (x :: l).getD j .leaf := getD_drop hj'
    obtain ⟨g1, g2, g3⟩ := g j (by simp; omega)
    rw [hg]
    exact ⟨g1, g2, mn_of (H := 120) (μ := μ) (μ' := mm_p μ 0 (nI l.length)) (fun _ _ _ _ _ => rfl) g3 (.inr (by rw [g2]; omega))⟩
  · rcases wk with ⟨w1, w2⟩ | ⟨d, w1, w2, w3, w4, w5, w6, w7, w8, w9⟩
    · exact .inl ⟨w1, w2⟩
    · refine .inr ⟨d, w1, w2, w3, w4, ?_, w6, ?_, w8, w9⟩
      · rw [e1]
        simp only [List.length_dropLast, List.length_cons, Nat.add_sub_cancel]
        rcases hw with q | q
        · rw [w2] at q
          exact absurd (show nI d < 0 by rw [q]; decide) (nI_pos (by omega))
        · exact q
      · exact mn_of (H := 120) (μ := μ) (μ' := mm_p μ 0 (nI l.length)) (fun _ _ _ _ _ => rfl) w7 (.inr (by rw [hl] at w5; simp at w5; show tr_n (cs_p σ 0) < 120; omega))
  · exact sm.mk' (fun _ _ => rfl) (e3 106 (by omega)).1 (e3 106 (by omega)).2 rfl
theorem cs_p203 {f : Nat} {σ : cs_S} {x : Tr} {l : List Tr} (hl : cs_t σ 100 = x :: l) : cs_call N (f + 10) 203 [.inl (.ref 100), .inl (.int (nI l.length))] (σ) = some (.inl (some (.inr ((x :: l).getD l.length .leaf))), cs_pt σ 100 (x :: l).dropLast ((cs_c σ 100).1, (cs_c σ 100).2 + 1)) := by
  show cs_prim (f + 9) 203 [.inl (.ref 100), .inl (.int (nI l.length))] σ = _
  unfold cs_prim
  simp only [show Nat.ble 9 (f + 9) = true from Nat.ble_eq_true_of_le (by omega), cond_true, cs_lid, show cs_isL 100 = true from rfl, hl, if_true]
theorem op_undo (hf : 150 ≤ f) : opI SM FR N f 6 8 [.inl (.ref 0)] := by
  intro c σ μ hR hc
  obtain ⟨F, K, e, h, nd, fn, kp, er, wk, sm, ct⟩ := id hR
  obtain ⟨f, rfl⟩ : ∃ f', f = f' + 20 := ⟨f - 20, by omega⟩
  rw [dX1_undo_eq, dX6_undo_eq]
  unfold dX1_undo dX6_undo
  rw [cs_c200 rfl, am_ci_ok, nd.2.2.1]
  have hlen := nd.1
  cases hl : cs_t σ 100 with
  | nil =>
    rw [if_neg (by decide), if_pos (by decide)]
    exact ⟨_, σ, μ, rfl, rfl, hR.up⟩
  | cons x l =>
    have hlen' : l.length + 1 ≤ 120 := by rw [hl] at hlen; simpa using hlen
    have e1 : nI (x :: l).length - ic 1 = nI l.length := nI_pred l.length
    have hgl := nd.at (j := l.length) (by rw [hl]; simp)
    rw [hl] at hgl
    have hn0 : ¬ nI (x :: l).length = 0 := fun q => by
      rw [nI_eq0 (by simp; omega)] at q
      simp at q
    rw [e1, if_pos (nI_pos' (by omega))]
    have hgo : (cs_i σ 17 = -1 ∨ tr_n (cs_p σ 0) < l.length) → ∃ r σ' μ', jX1_undo_39 (am_bk (cs_hop 1 (cs_call N (f + 19))) am_no (some .int) kX1_undo N) (cs_call N (f + 19)) σ (nI l.length) = some (.inl (some (.inl (.int (r)))), σ') ∧ jX6_undo_34 (am_bk (mm_hop (mm_call N (f + 19))) am_no (some .int) kX6_undo N) (mm_call N (f + 19)) μ = some (.inl (some (.inl (.int (r)))), μ') ∧ Rel SM FR (c + 1) σ' μ' := by
      intro hw
      rw [jX1_undo_39_eq, jX6_undo_34_eq, cs_p203 hl, am_ct_ok, hgl.2.1, cond_true, nd.2.2.1, hl, e1, mm_p_get, if_pos rfl]
      exact ⟨_, _, _, rfl, rfl, Rel.pop hR hl rfl hw⟩
    rcases wk with ⟨w1, w2⟩ | ⟨d, w1, w2, w3, w4, w5, w6, w7, w8, w9⟩
    · rw [w1, if_pos (by decide), if_neg hn0, w2, if_pos (by decide), jX1_undo_39_23_eq, jX6_undo_34_16_eq]
      exact hgo (.inl w1)
    · obtain ⟨v1, v2, -⟩ := w8 0 (by omega)
      have w5' : tr_n (cs_p σ 0) < l.length + 1 := by rw [hl] at w5; simpa using w5
      rw [w2, if_neg (nI_pos (by omega)), if_neg hn0, w3, if_neg (by decide), ic_lit, am_ix_nI (by omega) (by omega), am_ix_nI (by omega) (by omega), tr_nd_wf w6.2.1 v1, cond_true, v2]
      by_cases hz : tr_n (cs_p σ 0) = l.length
      · rw [if_pos (by rw [hz]), if_pos (by rw [hz])]
        exact ⟨_, σ, μ, rfl, rfl, hR.up⟩
      · have hz' : ¬ nI (tr_n (cs_p σ 0)) = nI l.length := fun q => hz ((nI_eq (by omega) (by omega)).mp q)
        rw [if_neg hz', if_neg hz', jX1_undo_39_36_eq, jX6_undo_34_31_eq]
        exact hgo (.inr (by omega))
theorem op_node (hf : 150 ≤ f) (a x y : Int32) : opI SM FR N f 4 5 [.inl (.ref 0), .inl (.int (a)), .inl (.int (x)), .inl (.int (y))] := by
  intro c σ μ hR hc
  obtain ⟨F, K, e, h, nd, -⟩ := id hR
  obtain ⟨f, rfl⟩ : ∃ f', f = f' + 20 := ⟨f - 20, by omega⟩
  have hlen := nd.1
  -- both ways to the answer -1
  have hno : ∀ (back : mm_bt), jX6_node_62 back (mm_call N (f + 19)) μ a x y = some (.inl (some (.inl (.int (ic (-1))))), μ) := fun back => by
    rw [jX6_node_62_eq, jX6_node_63_eq, if_pos (by decide)]
  rw [dX1_node_eq, dX6_node_eq]
  unfold dX1_node dX6_node
  rw [cs_inR 2 9 a σ (by decide) (by decide), am_ci_ok, mm_inR 2 9 a μ (by decide) (by decide), am_ci_ok]
  cases h1 : inR 2 9 a with
  | false =>
    rw [if_pos b2f0, if_pos b2f0, jX6_node_62_14_eq, hno]
    exact ⟨_, σ, μ, rfl, rfl, hR.up⟩
  | true =>
    obtain ⟨k, hk2, hk9, rfl⟩ := inR_t (by omega) (by omega) h1
    rw [if_neg b2t0, if_neg b2t0, cs_isNode, am_ci_ok, mm_isNode _ nd.2.2.1, am_ci_ok]
    cases h2 : isN (cs_t σ 100).length x with
    | false =>
      rw [if_pos b2f0, if_pos b2f0, jX6_node_62_22_eq, hno]
      exact ⟨_, σ, μ, rfl, rfl, hR.up⟩
    | true =>
      obtain ⟨i, hi, rfl⟩ := isN_t (by omega) h2
      obtain ⟨a1, a2, a3, a4⟩ := nd.at hi
      have ag := (nd.2.2.2 i hi).2.2
      rw [if_neg b2t0, if_neg b2t0]
      -- the node itself, with its second part
      have hgo : ∀ (ty : Tr) (v : Nat) (vi yi : Int32), tr_wf (.inner (cs_t σ 100).length k v ((cs_t σ 100).getD i .leaf) ty) → (tr_lf ty = true ∨ tr_n ty < (cs_t σ 100).length) → mn μ ty → tr_sz ty ≤ 40 → ((k = 0 ∨ k = 1 ∨ k = 9) → y = nI v) → tr_lf ty = decide (¬ (2 ≤ k ∧ k ≤ 6)) → vi = tr_vI k v → yi = tr_ix ty →
          1 + tr_sz ((cs_t σ 100).getD i .leaf) + tr_sz ty ≤ 40 → (cs_t σ 100).length ≠ 120 → ∃ r σ' μ', (am_ct (cs_call N (f + 19) 205 [.inl (.int (nI (cs_t σ 100).length)), .inl (.int (nI k)), .inr ((cs_t σ 100).getD i .leaf), .inr (ty), .inl (.int (y))] (σ)) am_tx fun r28 s27 => am_ci (cs_call N (f + 19) 3 [.inl (.ref 0), .inr (r28)] (s27)) am_tx fun r30 s29 => some (.inl (some (.inl (.int (r30)))), s29)) = some (.inl (some (.inl (.int (r)))), σ') ∧ jX6_node_150 (am_bk (mm_hop (mm_call N (f + 19))) am_no (some .int) kX6_node N) (mm_call N (f + 19)) μ (nI k) (nI i) y (nI 1) yi (nI i) vi (nI k) (nI (cs_t σ 100).length) = some (.inl (some (.inl (.int (r)))), μ') ∧ Rel SM FR (c + 1) σ' μ' := by
        intro ty v vi yi hwf hny hmy hsz hv hly hvi hyi h40 hn120
        have hdx := a1.dp
        have hdy : tr_dp ty ≤ 40 := Nat.le_trans (tr_sz_dp ty) hsz
        have hwv := tr_wf_v hwf
        have hxl : tr_lf ((cs_t σ 100).getD i .leaf) = decide (k ≤ 1) := by rw [a1.1, decide_eq_false (by omega)]
        have hmade := cs_made_ok (n := (cs_t σ 100).length) (k := k) (v := v) (x := (cs_t σ 100).getD i .leaf) (y := ty) y (by omega) (by omega) a1.2.1 hwf.2.1 (by omega) (by omega) (fun q => ⟨hv q, by omega⟩) hwv.2.2 hxl hly
        have hnd : tr_nd (.inner (cs_t σ 100).length k v ((cs_t σ 100).getD i .leaf) ty) = true := Nat.ble_eq_true_of_le (by omega)
        have hix : tr_ix ((cs_t σ 100).getD i .leaf) = nI i := by
          unfold tr_ix
          rw [a1.1, a4]
          rfl
        have hmry : mr μ 0 120 ty yi := by
          rw [hyi]
          exact mn_mr hmy (hny.imp id (fun q => by omega))
        obtain ⟨s', e1, hst⟩ := mm_sets (N := N) (f := f + 18) (p := (cs_t σ 100).length) (s := μ) (k := nI k) (v := vi) (x := nI i) (y := yi) (by omega) a3 hmry (by omega) (by have := a1.2.2; omega) (by omega)
        rw [cs_p205 hmade, am_ct_ok, cs_adds (σ := cs_mk σ 1 (cs_nf (tr_k (.inner (cs_t σ 100).length k v ((cs_t σ 100).getD i .leaf) ty)))) hnd (by have := nd.2.1; show (cs_c σ 100).1 ≤ 40000; omega), am_ci_ok, jX6_node_150_eq, e1, am_cv_ok, hst.1, nd.2.2.1, ic_lit, nI_add, mm_p_get, if_pos rfl, nI_subI (by omega)]
        refine ⟨_, _, _, rfl, rfl, ?_⟩
        rw [hvi] at hst
        exact Rel.push (n := 0) hR (by omega) rfl ⟨rfl, hwf, by simp only [tr_sz]; omega⟩ hix.symm hyi (.inr (by rw [a4]; exact hi)) hny ag hmy hst rfl
      have hsx := a1.2.2
      obtain ⟨ix', _, hix', hixe, ek, ev, es, ed, -, -⟩ : ∃ j, 0 ≤ j ∧ j < 120 ∧ nI i = nI j ∧ μ.2.1 1 j = nI (tr_k ((cs_t σ 100).getD i .leaf)) ∧ μ.2.1 2 j = μ.2.1 2 j ∧ μ.2.1 5 j = nI (tr_sz ((cs_t σ 100).getD i .leaf)) ∧ True ∧ True ∧ True := by
        cases q : (cs_t σ 100).getD i .leaf with
        | leaf => rw [q] at a1; exact absurd a1.1 (by decide)
        | inner n' k' v' x' y' =>
          rw [q] at a3
          obtain ⟨j, b1, b2, b3, b4, b5, b6, b7, -, -⟩ := a3
          exact ⟨j, b1, b2, b3, b4, rfl, b6, trivial, trivial, trivial⟩
      obtain rfl : ix' = i := ((nI_eq (by omega) (by omega)).mp hixe).symm
      -- behind the checks: from 56 (component) and 58 (model) on
      have hcont : (2 ≤ k ∧ k ≤ 6 → ∃ j, j < (cs_t σ 100).length ∧ y = nI j) → (k = 9 → ∃ v, v ≤ 9 ∧ y = nI v) → ∃ r σ' μ', jX1_node_56 (am_bk (cs_hop 1 (cs_call N (f + 19))) am_no (some .int) kX1_node N) (cs_call N (f + 19)) σ (nI k) (nI ix') y = some (.inl (some (.inl (.int (r)))), σ') ∧ jX6_node_58 (am_bk (mm_hop (mm_call N (f + 19))) am_no (some .int) kX6_node N) (mm_call N (f + 19)) μ (nI k) (nI ix') y = some (.inl (some (.inl (.int (r)))), μ') ∧ Rel SM FR (c + 1) σ' μ' := by
        intro hy2 hy9
        rw [jX1_node_56_eq, jX6_node_58_eq, jX6_node_63_62_eq, jX6_node_63_eq, if_neg (show ¬ ic 1 = 0 by decide), cs_c200 rfl, am_ci_ok, nd.2.2.1, ic_lit]
        by_cases hz : (cs_t σ 100).length = 120
        · rw [if_pos (by rw [hz]), if_pos (by rw [hz])]
          exact ⟨_, σ, μ, rfl, rfl, hR.up⟩
        · have hnz : ¬ nI (cs_t σ 100).length = nI 120 := fun q => hz ((nI_eq (by omega) (by omega)).mp q)
          rw [if_neg hnz, if_neg hnz, am_ix_nI (by omega) (by omega), es, mm_isTwo k (by omega), am_ci_ok, ic_lit]
          by_cases k6 : k ≤ 6
          · obtain ⟨j, hj, rfl⟩ := hy2 ⟨hk2, k6⟩
            obtain ⟨b1, b2', b3, b4⟩ := nd.at hj
            have bg := (nd.2.2.2 j hj).2.2
            have hsy := b1.2.2
            have ey : μ.2.1 5 j = nI (tr_sz ((cs_t σ 100).getD j .leaf)) := by
              cases q : (cs_t σ 100).getD j .leaf with
              | leaf => rw [q] at b1; exact absurd b1.1 (by decide)
              | inner n' k' v' x' y' =>
                rw [q] at b3
                obtain ⟨j', -, hj', b3', -, -, b6, -, -, -⟩ := b3
                have hjj : j = j' := (nI_eq (by omega) (by omega)).mp b3'
                rw [hjj]
                exact b6
            rw [if_neg (nI_nlt k6 (by omega)), cs_c201 rfl hj (by omega), am_ct_ok, b2', cond_true, jX1_node_92_91_eq, jX1_node_92_eq, cs_c201 rfl hi (by omega), am_ct_ok, a2, cond_true, cond_true, b1.1, cond_false, b2', cond_true, jX1_node_124_eq, decide_eq_true (show 2 ≤ k ∧ k ≤ 6 from ⟨hk2, k6⟩), if_neg b2t0, am_ix_nI (by omega) (by omega), ey, jX6_node_109_108_eq, jX6_node_109_eq, ic_lit, nI_add, nI_add, ic_lit]
            by_cases h40 : 1 + tr_sz ((cs_t σ 100).getD ix' .leaf) + tr_sz ((cs_t σ 100).getD j .leaf) ≤ 40
            · rw [if_pos (nI_le h40 (by omega)), if_pos (nI_le h40 (by omega)), cs_c200 rfl, am_ci_ok, cs_c201 rfl hi (by omega), am_ct_ok, a2, cond_true, ic_lit, if_neg (fun q => by rw [nI_eq (by omega) (by omega)] at q; omega), jX6_node_136_eq, mm_isTwo k (by omega), am_ci_ok, decide_eq_true (show 2 ≤ k ∧ k ≤ 6 from ⟨hk2, k6⟩), if_neg b2t0, jX6_node_150_148_eq, nd.2.2.1]
              refine hgo _ 0 _ _ ⟨a1.2.1, b1.2.1, .inr (.inr (.inl ⟨hk2, k6, rfl, a1.1, b1.1⟩))⟩ (.inr (by rw [b4]; exact hj)) bg hsy (fun q => by omega) ?_ ?_ ?_ h40 hz
              · rw [b1.1, decide_eq_false (fun q => q ⟨hk2, k6⟩)]
              · unfold tr_vI
                rw [if_neg (by omega), ic_m2]
              · unfold tr_ix
                rw [b1.1, b4]
                rfl
            · rw [if_neg (nI_ge (by omega) (by omega)), if_neg (nI_ge (by omega) (by omega))]
              exact ⟨_, σ, μ, rfl, rfl, hR.up⟩
          · rw [if_pos (nI_lt (by omega) (by omega)), jX1_node_92_eq, cs_c201 rfl hi (by omega), am_ct_ok, a2, cond_true, cond_true, show tr_lf (.leaf : Tr) = true from rfl, cond_true, jX1_node_124_119_eq, jX1_node_124_eq, decide_eq_false (show ¬ (2 ≤ k ∧ k ≤ 6) by omega), if_pos b2f0, jX6_node_109_eq, ic_lit, ic_lit, nI_add, nI_add, ic_lit]
            by_cases h40 : 1 + tr_sz ((cs_t σ 100).getD ix' .leaf) + 0 ≤ 40
            · rw [if_pos (nI_le h40 (by omega)), if_pos (nI_le h40 (by omega)), cs_c200 rfl, am_ci_ok, cs_c201 rfl hi (by omega), am_ct_ok, a2, cond_true]
              by_cases k9 : k = 9
              · obtain ⟨v, hv, rfl⟩ := hy9 k9
                subst k9
                rw [ic_lit, if_pos rfl, jX6_node_136_134_eq, jX6_node_136_eq, mm_isTwo 9 (by omega), am_ci_ok, decide_eq_false (show ¬ (2 ≤ 9 ∧ 9 ≤ 6) by omega), if_pos b2f0, nd.2.2.1]
                exact hgo .leaf v _ _ ⟨a1.2.1, trivial, .inr (.inr (.inr (.inr ⟨rfl, hv, a1.1, rfl⟩)))⟩ (.inl rfl) trivial (by simp [tr_sz]) (fun _ => rfl) rfl rfl ic_m2 h40 hz
              · rw [ic_lit, if_neg (fun q => k9 ((nI_eq (by omega) (by omega)).mp q)), jX6_node_136_eq, mm_isTwo k (by omega), am_ci_ok, decide_eq_false (show ¬ (2 ≤ k ∧ k ≤ 6) by omega), if_pos b2f0, nd.2.2.1]
                refine hgo .leaf 0 _ _ ⟨a1.2.1, trivial, .inr (.inr (.inr (.inl ⟨by omega, rfl, a1.1, rfl⟩)))⟩ (.inl rfl) trivial (by simp [tr_sz]) (fun q => by omega) ?_ ?_ ic_m2 h40 hz
                · rw [decide_eq_true (show ¬ (2 ≤ k ∧ k ≤ 6) by omega)]
                  rfl
                · unfold tr_vI
                  rw [if_neg (by omega), ic_m2]
            · rw [if_neg (nI_ge (by omega) (by omega)), if_neg (nI_ge (by omega) (by omega))]
              exact ⟨_, σ, μ, rfl, rfl, hR.up⟩
      rw [ic_lit, ic_lit]
      by_cases k6 : k ≤ 6
      · rw [if_neg (nI_nlt k6 (by omega)), if_neg (fun q => by rw [nI_eq (by omega) (by omega)] at q; omega), mm_isTwo k (by omega), am_ci_ok, decide_eq_true (show 2 ≤ k ∧ k ≤ 6 from ⟨hk2, k6⟩), if_neg b2t0, cs_isNode, am_ci_ok, mm_isNode _ nd.2.2.1, am_ci_ok]
        cases h3 : isN (cs_t σ 100).length y with
        | false =>
          rw [if_pos b2f0, if_pos b2f0, jX6_node_62_58_eq, hno]
          exact ⟨_, σ, μ, rfl, rfl, hR.up⟩
        | true =>
          obtain ⟨j, hj, rfl⟩ := isN_t (by omega) h3
          rw [if_neg b2t0, if_neg b2t0, jX1_node_36_eq, ic_lit, if_neg (fun q => by rw [nI_eq (by omega) (by omega)] at q; omega), jX1_node_56_42_eq]
          exact hcont (fun _ => ⟨j, hj, rfl⟩) (fun q => by omega)
      · rw [if_pos (nI_lt (by omega) (by omega)), jX1_node_36_28_eq, jX1_node_36_eq, ic_lit]
        by_cases k9 : k = 9
        · subst k9
          rw [if_pos rfl, if_pos rfl, cs_inR 0 9 y σ (by decide) (by decide), am_ci_ok, mm_inR 0 9 y μ (by decide) (by decide), am_ci_ok]
          cases h3 : inR 0 9 y with
          | false =>
            rw [if_pos b2f0, if_pos b2f0, jX6_node_62_40_eq, hno]
            exact ⟨_, σ, μ, rfl, rfl, hR.up⟩
          | true =>
            obtain ⟨v, -, hv, rfl⟩ := inR_t (by omega) (by omega) h3
            rw [if_neg b2t0, if_neg b2t0, jX1_node_56_54_eq, jX6_node_58_43_eq]
            exact hcont (fun q => by omega) (fun _ => ⟨v, hv, rfl⟩)
        · have k9' : ¬ nI k = nI 9 := fun q => k9 ((nI_eq (by omega) (by omega)).mp q)
          rw [if_neg k9', if_neg k9', mm_isTwo k (by omega), am_ci_ok, decide_eq_false (show ¬ (2 ≤ k ∧ k ≤ 6) by omega), if_pos b2f0, jX1_node_56_42_eq, jX6_node_58_50_eq]
          exact hcont (fun q => by omega) (fun q => absurd q k9)
end
