set_option maxRecDepth 100000
/-! THE SHELVES, on the model's side. -/
/-- what a shelf holds: 0 nothing, 1 a node, 3 bytes, 4 chars -/
abbrev sh_T : Type := Nat × Tr × List Nat
def sh_ok (q : sh_T) : Prop := q.1 = 0 ∨ (q.1 = 1 ∧ tr_ok q.2.1) ∨ ((q.1 = 3 ∨ q.1 = 4) ∧ q.2.2.length ≤ 60 ∧ ∀ w ∈ q.2.2, w ≤ 30)
def sh_1 (q : sh_T) (μ : mm_S) (i : Nat) : Prop := μ.2.1 11 i = nI q.1 ∧ (q.1 = 1 → μ.2.1 12 i = nI (tr_k q.2.1) ∧ μ.2.1 13 i = tr_vI (tr_k q.2.1) (tr_v q.2.1) ∧ μ.2.1 14 i = nI (tr_sz q.2.1)) ∧ (3 ≤ q.1 → μ.2.1 14 i = nI q.2.2.length ∧ ∀ j, j < q.2.2.length → μ.2.1 15 (60 * i + j) = nI (q.2.2.getD j 0))
def sh_R (SH : Nat → sh_T) (μ : mm_S) : Prop := ∀ i, i < 8 → sh_ok (SH i) ∧ sh_1 (SH i) μ i
theorem sh_ok.tag {q : sh_T} (h : sh_ok q) : q.1 ≤ 4 := by
  rcases h with h | ⟨h, -⟩ | ⟨h | h, -⟩ <;> omega
/-- the shelves' rows are the same -/
theorem sh_R.fr {SH : Nat → sh_T} {μ μ' : mm_S} (h : sh_R SH μ) (hμ : ∀ c, 11 ≤ c → c ≤ 15 → ∀ j, μ'.2.1 c j = μ.2.1 c j) : sh_R SH μ' := fun i hi => by
  obtain ⟨h0, h1, h2, h3⟩ := h i hi
  refine ⟨h0, ?_, fun q => ?_, fun q => ?_⟩
  · rw [hμ 11 (by omega) (by omega)]
    exact h1
  · rw [hμ 12 (by omega) (by omega), hμ 13 (by omega) (by omega), hμ 14 (by omega) (by omega)]
    exact h2 q
  · refine ⟨by rw [hμ 14 (by omega) (by omega)]; exact (h3 q).1, fun j hj => ?_⟩
    rw [hμ 15 (by omega) (by omega)]
    exact (h3 q).2 j hj
/-- one shelf changes -/
theorem sh_R.put {SH : Nat → sh_T} {μ μ' : mm_S} {d : Nat} {q : sh_T} (h : sh_R SH μ) (hq : sh_ok q) (h1 : sh_1 q μ' d) (hμ : ∀ c, 11 ≤ c → c ≤ 14 → ∀ j, j ≠ d → μ'.2.1 c j = μ.2.1 c j) (h15 : ∀ j, j < 60 * d ∨ 60 * d + 60 ≤ j → μ'.2.1 15 j = μ.2.1 15 j) : sh_R (fun i => if i = d then q else SH i) μ' := fun i hi => by
  by_cases e : i = d
  · subst e
    simp only [if_true]
    exact ⟨hq, h1⟩
  · simp only [e, if_false]
    obtain ⟨g0, g1, g2, g3⟩ := h i hi
    refine ⟨g0, ?_, fun q => ?_, fun q => ?_⟩
    · rw [hμ 11 (by omega) (by omega) i e]
      exact g1
    · rw [hμ 12 (by omega) (by omega) i e, hμ 13 (by omega) (by omega) i e, hμ 14 (by omega) (by omega) i e]
      exact g2 q
    · obtain ⟨g4, g5⟩ := g3 q
      refine ⟨by rw [hμ 14 (by omega) (by omega) i e]; exact g4, fun j hj => ?_⟩
      have : (SH i).2.2.length ≤ 60 := by
        rcases g0 with g | ⟨g, -⟩ | ⟨-, g, -⟩
        · omega
        · omega
        · exact g
      rw [h15 _ (by omega)]
      exact g5 j hj
/-- nothing but the shelves has changed -/
def mm_kh (μ μ' : mm_S) : Prop := (∀ j, j ≠ 16 → j ≠ 34 → μ'.1 j = μ.1 j) ∧ (∀ c, c < 11 ∨ 15 < c → c ≠ 22 → μ'.2.1 c = μ.2.1 c) ∧ μ'.2.2 = μ.2.2
theorem mm_kh.rf (μ : mm_S) : mm_kh μ μ := ⟨fun _ _ _ => rfl, fun _ _ _ => rfl, rfl⟩
theorem mm_kh.tr {μ μ' μ'' : mm_S} (a : mm_kh μ μ') (b : mm_kh μ' μ'') : mm_kh μ μ'' := ⟨fun j q q' => (b.1 j q q').trans (a.1 j q q'), fun c q q' => (b.2.1 c q q').trans (a.2.1 c q q'), b.2.2.trans a.2.2⟩
theorem mm_kh.pa (μ : mm_S) {c : Nat} (i : Nat) (v : Int32) (h : (11 ≤ c ∧ c ≤ 15) ∨ c = 22) : mm_kh μ (mm_pa μ c i v) := ⟨fun _ _ _ => rfl, fun c' q q' => by
  funext j
  rw [mm_pa_get, if_neg (by omega)], rfl⟩
/-- the rows by which Rel keeps the shelves -/
def sh_FR (μ : mm_S) (k : Nat) : Int32 := if k < 6 then nI (sfr k) else μ.2.1 (11 + (k - 6) % 5) ((k - 6) / 5)
theorem sh_FR_sh (μ : mm_S) : cm_sh (sh_FR μ) μ := fun c h1 h2 j => by
  unfold sh_FR
  rw [if_neg (by omega), show 6 + 5 * j + (c - 11) - 6 = 5 * j + (c - 11) by omega, Nat.mul_add_mod, Nat.mul_add_div (by omega), Nat.mod_eq_of_lt (by omega), Nat.div_eq_of_lt (by omega), show 11 + (c - 11) = c by omega, Nat.add_zero]
theorem Rel.sh {SM : List Tr} {FR FR' : Nat → Int32} {c : Nat} {σ : cs_S} {μ μ' : mm_S} (hR : Rel SM FR c σ μ) (hk : mm_kh μ μ') (h6 : ∀ j, j < 6 → FR' j = FR j) (hs : cm_sh FR' μ') : Rel SM FR' c σ μ' := by
  obtain ⟨F, K, e, h, nd, fn, kp, er, wk, sm, ct⟩ := hR
  obtain ⟨k1, k2, k3⟩ := hk
  refine ⟨F, K, e, h, nd.fr' rfl rfl (k1 0 (by omega) (by omega)) (fun c h1 h2 j _ => by rw [k2 c (by omega) (by omega)]), fn.fr rfl (k2 7 (by omega) (by omega)), kp.fr rfl (k2 8 (by omega) (by omega)), er.fr rfl rfl (k1 10 (by omega) (by omega)) (k2 9 (by omega) (by omega)), wk.fr' nd.1 rfl rfl rfl rfl (k1 30 (by omega) (by omega)) (k1 33 (by omega) (by omega)) (k2 31 (by omega) (by omega)) (k2 32 (by omega) (by omega)) (fun c h1 h2 j _ => by rw [k2 c (by omega) (by omega)]), ⟨hs, ?_⟩, ct⟩
  rcases sm.2 with ⟨s1, s2, s3⟩ | ⟨s1, s2, s3⟩
  · exact .inl ⟨s1, s2, s3⟩
  · exact .inr ⟨s1, s2, fun j hj => by rw [h6 j hj]; exact s3 j hj⟩
/-- the relation with the shelves -/
def RelS (SH : Nat → sh_T) (c : Nat) (σ : cs_S) (μ : mm_S) : Prop := (∃ FR : Nat → Int32, (∀ j, j < 6 → FR j = nI (sfr j)) ∧ Rel scD FR c σ μ) ∧ sh_R SH μ
theorem RelS.keep {SH : Nat → sh_T} {c c' : Nat} {FR : Nat → Int32} {σ σ' : cs_S} {μ μ' : mm_S} (h6 : ∀ j, j < 6 → FR j = nI (sfr j)) (hR : Rel scD FR c σ μ) (hs : sh_R SH μ) (hR' : Rel scD FR c' σ' μ') : RelS SH c' σ' μ' := by
  refine ⟨⟨FR, h6, hR'⟩, hs.fr fun c h1 h2 j => ?_⟩
  obtain ⟨-, -, -, -, -, -, -, -, -, sm, -⟩ := hR
  obtain ⟨-, -, -, -, -, -, -, -, -, sm', -⟩ := hR'
  rw [sm.1 c h1 h2 j, sm'.1 c h1 h2 j]
theorem RelS.put {SH SH' : Nat → sh_T} {c : Nat} {σ : cs_S} {μ μ' : mm_S} (h : RelS SH c σ μ) (hk : mm_kh μ μ') (hs : sh_R SH' μ') : RelS SH' c σ μ' := by
  obtain ⟨⟨FR, h6, hR⟩, -⟩ := h
  exact ⟨⟨sh_FR μ', fun j hj => by unfold sh_FR; rw [if_pos hj], hR.sh hk (fun j hj => by unfold sh_FR; rw [if_pos hj, h6 j hj]) (sh_FR_sh μ')⟩, hs⟩
theorem RelS.up {SH : Nat → sh_T} {c : Nat} {σ : cs_S} {μ : mm_S} (h : RelS SH c σ μ) : RelS SH (c + 1) σ μ := by
  obtain ⟨⟨FR, h6, hR⟩, hs⟩ := h
  exact ⟨⟨FR, h6, hR.up⟩, hs⟩
section
variable {N f : Nat}
/-- held -/
theorem mm_held {SH : Nat → sh_T} {μ : mm_S} (hs : sh_R SH μ) (x : Int32) : mm_call N (f + 3) 81 [.inl (.ref 0), .inl (.int (x))] (μ) = some (.inl (some (.inl (.int ((if inR 0 7 x = true then (if (SH x.toNatClampNeg).1 = 0 then ic (-11) else if (SH x.toNatClampNeg).1 = 1 then ic 0 else ic (-12)) else ic (-1)))))), μ) := by
  rw [dX6_held_eq]
  unfold dX6_held
  rw [mm_isShelf, am_ci_ok]
  cases h1 : inR 0 7 x with
  | false => rw [if_pos b2f0, if_neg (by decide)]
  | true =>
    obtain ⟨d, -, hd, rfl⟩ := inR_t (by omega) (by omega) h1
    obtain ⟨h0, e1, -⟩ := hs d (by omega)
    have ht := h0.tag
    rw [if_neg b2t0, if_pos rfl, am_ix_nI (by omega) (by omega), e1, nI_clamp (by omega)]
    by_cases q0 : (SH d).1 = 0
    · rw [if_pos (by rw [q0]; rfl), if_pos q0]
    · rw [if_neg (fun q => q0 ((nI_eq0 (by omega)).mp q)), if_neg q0, am_ix_nI (by omega) (by omega), e1, ic_v1]
      by_cases q1 : (SH d).1 = 1
      · rw [if_pos (by rw [q1]), if_pos q1]
      · rw [if_neg (fun q => q1 ((nI_eq (by omega) (by omega)).mp q)), if_neg q1]
/-- a node's weight -/
def tr_wg (t : Tr) : Nat := match tr_k t with
  | 1 => tr_sz t + 10 + tr_v t
  | 5 => tr_sz t + 10 + 100
  | 6 => tr_sz t + 10 + 100
  | 8 => 2 * (tr_sz t + 10)
  | 9 => tr_sz t + 10 + 1000
  | _ => tr_sz t + 10
def sh_wg (SH : Nat → sh_T) (x : Int32) : Int32 := if inR 0 7 x = true then (if (SH x.toNatClampNeg).1 = 0 then ic (-11) else if (SH x.toNatClampNeg).1 = 1 then nI (tr_wg (SH x.toNatClampNeg).2.1) else ic (-12)) else ic (-1)
theorem mm_weight {SH : Nat → sh_T} {μ : mm_S} (hs : sh_R SH μ) (x : Int32) : mm_call N (f + 4) 80 [.inl (.ref 0), .inl (.int (x))] (μ) = some (.inl (some (.inl (.int (sh_wg SH x)))), μ) := by
  rw [dX6_weight_eq]
  unfold dX6_weight sh_wg
  rw [mm_held hs, am_ci_ok]
  cases h1 : inR 0 7 x with
  | false => rw [if_neg (show ¬ false = true by decide), if_neg (show ¬ ic (-1) = 0 by decide), if_neg (by decide)]
  | true =>
    obtain ⟨d, -, hd, rfl⟩ := inR_t (by omega) (by omega) h1
    obtain ⟨h0, e1, e2, -⟩ := hs d (by omega)
    rw [if_pos rfl, if_pos rfl, nI_clamp (by omega)]
    by_cases q0 : (SH d).1 = 0
    · rw [if_pos q0, if_pos q0, if_neg (by decide)]
    · rw [if_neg q0, if_neg q0]
      by_cases q1 : (SH d).1 = 1
      · obtain ⟨g1, g2, g3⟩ := e2 q1
        have hk : tr_ok (SH d).2.1 := by
          rcases h0 with h | ⟨-, h⟩ | ⟨h | h, -⟩
          · omega
          · exact h
          · omega
          · omega
        generalize (SH d).2.1 = t at *
        cases t with
        | leaf => exact absurd hk.1 (by decide)
        | inner n k v x y =>
          have hv := tr_wf_v hk.2.1
          have hz := hk.2.2
          rw [if_pos q1, if_pos q1, if_pos (show ic 0 = 0 from rfl), am_ix_nI (by omega) (by omega), am_ix_nI (by omega) (by omega), g1, g3, show ic 10 = nI 10 from rfl, nI_add]
          simp only [show tr_k (.inner n k v x y) = k from rfl, show tr_v (.inner n k v x y) = v from rfl] at g1 g2 ⊢
          unfold tr_wg
          simp only [show tr_k (.inner n k v x y) = k from rfl, show tr_v (.inner n k v x y) = v from rfl]
          have hne : ∀ j, j < 10 → k ≠ j → ¬ nI k = nI j := fun j hj q q' => q ((nI_eq (by omega) (by omega)).mp q')
          rcases (by omega : k = 0 ∨ k = 1 ∨ k = 2 ∨ k = 3 ∨ k = 4 ∨ k = 5 ∨ k = 6 ∨ k = 7 ∨ k = 8 ∨ k = 9) with rfl | rfl | rfl | rfl | rfl | rfl | rfl | rfl | rfl | rfl
          · simp only [hne 1 (by omega) (by omega), hne 2 (by omega) (by omega), hne 3 (by omega) (by omega), hne 4 (by omega) (by omega), hne 5 (by omega) (by omega), hne 6 (by omega) (by omega), hne 7 (by omega) (by omega), hne 8 (by omega) (by omega), hne 9 (by omega) (by omega), if_false]
          · rw [if_pos rfl, am_ix_nI (by omega) (by omega), g2, tr_vI_1, nI_add]
            rfl
          · simp only [hne 1 (by omega) (by omega), if_false, if_true]
          · simp only [hne 1 (by omega) (by omega), hne 2 (by omega) (by omega), if_false, if_true]
          · simp only [hne 1 (by omega) (by omega), hne 2 (by omega) (by omega), hne 3 (by omega) (by omega), if_false, if_true]
          · simp only [hne 1 (by omega) (by omega), hne 2 (by omega) (by omega), hne 3 (by omega) (by omega), hne 4 (by omega) (by omega), if_false, if_true]
            rw [show ic 100 = nI 100 from rfl, nI_add]
          · simp only [hne 1 (by omega) (by omega), hne 2 (by omega) (by omega), hne 3 (by omega) (by omega), hne 4 (by omega) (by omega), hne 5 (by omega) (by omega), if_false, if_true]
            rw [show ic 100 = nI 100 from rfl, nI_add]
          · simp only [hne 1 (by omega) (by omega), hne 2 (by omega) (by omega), hne 3 (by omega) (by omega), hne 4 (by omega) (by omega), hne 5 (by omega) (by omega), hne 6 (by omega) (by omega), if_false, if_true]
          · simp only [hne 1 (by omega) (by omega), hne 2 (by omega) (by omega), hne 3 (by omega) (by omega), hne 4 (by omega) (by omega), hne 5 (by omega) (by omega), hne 6 (by omega) (by omega), hne 7 (by omega) (by omega), if_false, if_true]
            rw [show ic 2 = nI 2 from rfl, nI_mulI]
          · simp only [hne 1 (by omega) (by omega), hne 2 (by omega) (by omega), hne 3 (by omega) (by omega), hne 4 (by omega) (by omega), hne 5 (by omega) (by omega), hne 6 (by omega) (by omega), hne 7 (by omega) (by omega), hne 8 (by omega) (by omega), if_false, if_true]
            rw [show ic 1000 = nI 1000 from rfl, nI_add]
      · rw [if_neg q1, if_neg q1, if_neg (by decide)]
/-- what a node throws -/
def tr_ts (t : Tr) : Int32 := if tr_k t = 0 ∨ tr_k t = 1 ∨ tr_k t = 9 then nI (tr_v t) else ic (-15)
def sh_ts (SH : Nat → sh_T) (x : Int32) : Int32 := if inR 0 7 x = true then (if (SH x.toNatClampNeg).1 = 0 then ic (-11) else if (SH x.toNatClampNeg).1 = 1 then tr_ts (SH x.toNatClampNeg).2.1 else ic (-12)) else ic (-1)
theorem mm_toss {SH : Nat → sh_T} {μ : mm_S} (hs : sh_R SH μ) (x : Int32) : mm_call N (f + 4) 82 [.inl (.ref 0), .inl (.int (x))] (μ) = some (.inl (some (.inl (.int (sh_ts SH x)))), μ) := by
  rw [dX6_toss_eq]
  unfold dX6_toss sh_ts
  rw [mm_held hs, am_ci_ok]
  cases h1 : inR 0 7 x with
  | false => rw [if_neg (show ¬ false = true by decide), if_neg (show ¬ ic (-1) = 0 by decide), if_neg (by decide)]
  | true =>
    obtain ⟨d, -, hd, rfl⟩ := inR_t (by omega) (by omega) h1
    obtain ⟨h0, e1, e2, -⟩ := hs d (by omega)
    rw [if_pos rfl, if_pos rfl, nI_clamp (by omega)]
    by_cases q0 : (SH d).1 = 0
    · rw [if_pos q0, if_pos q0, if_neg (by decide)]
    · rw [if_neg q0, if_neg q0]
      by_cases q1 : (SH d).1 = 1
      · obtain ⟨g1, g2, g3⟩ := e2 q1
        have hk : tr_ok (SH d).2.1 := by
          rcases h0 with h | ⟨-, h⟩ | ⟨h | h, -⟩
          · omega
          · exact h
          · omega
          · omega
        generalize (SH d).2.1 = t at *
        cases t with
        | leaf => exact absurd hk.1 (by decide)
        | inner n k v x y =>
          have hv := tr_wf_v hk.2.1
          rw [if_pos q1, if_pos q1, if_pos (show ic 0 = 0 from rfl), am_ix_nI (by omega) (by omega), g2]
          unfold tr_ts tr_vI
          simp only [show tr_k (.inner n k v x y) = k from rfl, show tr_v (.inner n k v x y) = v from rfl]
          by_cases q : k = 0 ∨ k = 1 ∨ k = 9
          · rw [if_pos q, if_pos q, if_pos (nI_pos' (by omega)), am_ix_nI (by omega) (by omega), g2]
            unfold tr_vI
            simp only [show tr_k (.inner n k v x y) = k from rfl, show tr_v (.inner n k v x y) = v from rfl]
            rw [if_pos q]
          · rw [if_neg q, if_neg q, if_neg (by decide)]
      · rw [if_neg q1, if_neg q1, if_neg (by decide)]
end
