set_option maxRecDepth 100000
/-! THE SMALL TREES: the two orders. -/
def sm1 (x : Tr) : List Tr := [.inner 0 7 0 x .leaf, .inner 0 8 0 x .leaf, .inner 0 9 9 x .leaf]
def sm2 (x y : Tr) : List Tr := [.inner 0 2 0 x y, .inner 0 3 0 x y, .inner 0 4 0 x y, .inner 0 5 0 x y, .inner 0 6 0 x y]
def sm0 : List Tr := [.inner 0 0 0 .leaf .leaf, .inner 0 1 1 .leaf .leaf]
/-- what comes for q places from k on -/
def fm (g : Nat → List Tr) : Nat → Nat → List Tr
  | _, 0 => []
  | k, q + 1 => g k ++ fm g (k + 1) q
theorem fm_congr {g g' : Nat → List Tr} : ∀ {k q : Nat}, (∀ j, k ≤ j → j < k + q → g j = g' j) → fm g k q = fm g' k q
  | _, 0, _ => rfl
  | k, q + 1, h => by
    unfold fm
    rw [h k (Nat.le_refl _) (by omega), fm_congr (fun j a b => h j (by omega) (by omega))]
def sg1 (L : List Tr) (k q : Nat) : List Tr := fm (fun a => sm1 (L.getD a .leaf)) k q
def sg2 (L : List Tr) (a na b nb : Nat) : List Tr := fm (fun i => fm (fun j => sm2 (L.getD i .leaf) (L.getD j .leaf)) b nb) a na
/-- the component's order -/
def scA : List Tr := sm0
def scB : List Tr := scA ++ sg1 scA 0 2
def scC : List Tr := scB ++ sg1 scB 2 6 ++ sg2 scB 0 2 0 2
def scD : List Tr := scC ++ sg1 scC 8 38 ++ sg2 scC 0 2 2 6 ++ sg2 scC 2 6 0 2
def sfr (j : Nat) : Nat := [0, 0, 2, 8, 46, 280].getD j 0
/-- the model's -/
def smg (n : Nat) (L : List Tr) : List Tr := L ++ fm (fun a => (if tr_sz (L.getD a .leaf) = n - 1 then sm1 (L.getD a .leaf) else []) ++ fm (fun b => if tr_sz (L.getD a .leaf) + tr_sz (L.getD b .leaf) = n - 1 then sm2 (L.getD a .leaf) (L.getD b .leaf) else []) 0 L.length) 0 L.length
def smM : Nat → List Tr
  | 0 => sm0
  | n + 1 => smg (n + 2) (smM n)
def tr_q : Tr → Tr → Bool
  | .leaf, .leaf => true
  | .inner n k v x y, .inner n' k' v' x' y' => Nat.beq n n' && Nat.beq k k' && Nat.beq v v' && tr_q x x' && tr_q y y'
  | _, _ => false
theorem tr_q_eq : ∀ {t u : Tr}, tr_q t u = true → t = u
  | .leaf, .leaf, _ => rfl
  | .inner n k v x y, .inner n' k' v' x' y', h => by
    simp only [tr_q, Bool.and_eq_true] at h
    obtain ⟨⟨⟨⟨h1, h2⟩, h3⟩, h4⟩, h5⟩ := h
    rw [Nat.eq_of_beq_eq_true h1, Nat.eq_of_beq_eq_true h2, Nat.eq_of_beq_eq_true h3, tr_q_eq h4, tr_q_eq h5]
  | .leaf, .inner _ _ _ _ _, h => by cases h
  | .inner _ _ _ _ _, .leaf, h => by cases h
theorem tr_q_rf : ∀ t : Tr, tr_q t t = true
  | .leaf => rfl
  | .inner n k v x y => by simp only [tr_q, Nat.beq_refl, tr_q_rf x, tr_q_rf y, Bool.and_self]
/-- one list is another, put in order -/
def tr_er (t : Tr) : List Tr → Option (List Tr)
  | [] => none
  | u :: l => bif tr_q t u then some l else (match tr_er t l with
    | some l' => some (u :: l')
    | none => none)
def tr_pm : List Tr → List Tr → Bool
  | [], [] => true
  | [], _ :: _ => false
  | t :: l, l' => match tr_er t l' with
    | some l'' => tr_pm l l''
    | none => false
theorem tr_er_perm {t : Tr} : ∀ {l l' : List Tr}, tr_er t l = some l' → l.Perm (t :: l')
  | [], _, h => by cases h
  | u :: l, l', h => by
    unfold tr_er at h
    cases hq : tr_q t u with
    | true =>
      rw [hq, cond_true] at h
      cases h
      rw [tr_q_eq hq]
    | false =>
      rw [hq, cond_false] at h
      cases he : tr_er t l with
      | none => rw [he] at h; cases h
      | some l'' =>
        rw [he] at h
        cases h
        exact ((tr_er_perm he).cons u).trans (List.Perm.swap _ _ _)
theorem tr_pm_perm : ∀ {l l' : List Tr}, tr_pm l l' = true → l.Perm l'
  | [], [], _ => List.Perm.refl _
  | [], _ :: _, h => by cases h
  | t :: l, l', h => by
    unfold tr_pm at h
    cases he : tr_er t l' with
    | none => rw [he] at h; cases h
    | some l'' =>
      rw [he] at h
      exact ((tr_pm_perm h).cons t).trans (tr_er_perm he).symm
/-- a small tree -/
def tr_sl : Tr → Bool
  | .leaf => true
  | .inner n k v x y => Nat.beq n 0 && tr_sl x && tr_sl y && ((Nat.beq k 0 && Nat.beq v 0 && tr_lf x && tr_lf y) || (Nat.beq k 1 && Nat.beq v 1 && tr_lf x && tr_lf y) || (Nat.ble 2 k && Nat.ble k 6 && Nat.beq v 0 && !tr_lf x && !tr_lf y) || ((Nat.beq k 7 || Nat.beq k 8) && Nat.beq v 0 && !tr_lf x && tr_lf y) || (Nat.beq k 9 && Nat.beq v 9 && !tr_lf x && tr_lf y))
def tr_ss (t : Tr) : Bool := tr_sl t && !tr_lf t && Nat.ble (tr_sz t) 4
theorem tr_sl_wf : ∀ {t : Tr}, tr_sl t = true → tr_wf t
  | .leaf, _ => trivial
  | .inner n k v x y, h => by
    simp only [tr_sl, Bool.and_eq_true, Bool.or_eq_true, Nat.beq_eq, Nat.ble_eq, Bool.not_eq_true'] at h
    obtain ⟨⟨⟨-, hx⟩, hy⟩, h⟩ := h
    refine ⟨tr_sl_wf hx, tr_sl_wf hy, ?_⟩
    rcases h with (((⟨⟨⟨h1, h2⟩, h3⟩, h4⟩ | ⟨⟨⟨h1, h2⟩, h3⟩, h4⟩) | ⟨⟨⟨⟨h1, h1'⟩, h2⟩, h3⟩, h4⟩) | ⟨⟨⟨h1, h2⟩, h3⟩, h4⟩) | ⟨⟨⟨h1, h2⟩, h3⟩, h4⟩
    · exact .inl ⟨h1, by omega, h3, h4⟩
    · exact .inr (.inl ⟨h1, by omega, h3, h4⟩)
    · exact .inr (.inr (.inl ⟨h1, h1', h2, h3, h4⟩))
    · exact .inr (.inr (.inr (.inl ⟨h1, h2, h3, h4⟩)))
    · exact .inr (.inr (.inr (.inr ⟨h1, by omega, h3, h4⟩)))
theorem tr_sl_len (g : Nat → Nat → Bool) : ∀ (t : Tr) (m b : Nat), tr_sl t = true → (wsd g t m b).length ≤ 4 * tr_sz t
  | .leaf, _, _, _ => by simp [wsd]
  | .inner n k v x y, m, 0, _ => by simp only [wsd, tr_sz, List.length_singleton]; omega
  | .inner n k v x y, m, b + 1, h => by
    have h0 := h
    simp only [tr_sl, Bool.and_eq_true, Bool.or_eq_true, Nat.beq_eq, Nat.ble_eq, Bool.not_eq_true'] at h
    obtain ⟨⟨⟨-, qx⟩, qy⟩, h⟩ := h
    have hx := tr_sl_len g x (m + if mk k then 1 else 0) b qx
    have hy := tr_sl_len g y ((m + if mk k then 1 else 0) + kc x) b qy
    have h1 : ∀ w, (if mk k && g m k then [w] else ([] : List Nat)).length ≤ 1 := fun w => by split <;> simp
    have h29 := h1 29
    have h30 := h1 30
    have hd : k = 1 → (dgl v (dg v - 1)).length = 1 := fun hk => by
      have : v = 1 := by
        rcases h with (((⟨⟨⟨h1, h2⟩, h3⟩, h4⟩ | ⟨⟨⟨h1, h2⟩, h3⟩, h4⟩) | ⟨⟨⟨⟨h1, h1'⟩, h2⟩, h3⟩, h4⟩) | ⟨⟨⟨h1, h2⟩, h3⟩, h4⟩) | ⟨⟨⟨h1, h2⟩, h3⟩, h4⟩ <;> omega
      rw [this]
      rfl
    simp only [wsd, tr_sz, List.length_append]
    generalize (if mk k && g m k then [29] else ([] : List Nat)).length = A at *
    generalize (if mk k && g m k then [30] else ([] : List Nat)).length = B at *
    by_cases k0 : k = 0
    · rw [if_pos k0]
      simp only [List.length_singleton]
      omega
    · rw [if_neg k0]
      by_cases k1 : k = 1
      · rw [if_pos k1, hd k1]
        omega
      · rw [if_neg k1]
        by_cases k6 : k ≤ 6
        · rw [if_pos k6]
          simp only [List.length_append, List.length_singleton]
          omega
        · rw [if_neg k6]
          by_cases k7 : k = 7
          · rw [if_pos k7]
            simp only [List.length_append, List.length_singleton]
            omega
          · rw [if_neg k7]
            by_cases k8 : k = 8
            · rw [if_pos k8]
              simp only [List.length_append, List.length_singleton]
              omega
            · rw [if_neg k8]
              simp only [List.length_append, List.length_singleton]
              omega
theorem tr_ss_ok {t : Tr} (h : tr_ss t = true) : tr_ok t ∧ tr_sz t ≤ 4 ∧ ∀ (g : Nat → Nat → Bool) (m b : Nat), (wsd g t m b).length ≤ 16 := by
  simp only [tr_ss, Bool.and_eq_true, Bool.not_eq_true', Nat.ble_eq] at h
  obtain ⟨⟨h1, h2⟩, h3⟩ := h
  exact ⟨⟨h2, tr_sl_wf h1, by omega⟩, h3, fun g m b => Nat.le_trans (tr_sl_len g t m b h1) (by omega)⟩
/-! the facts of the two orders -/
theorem sc_len : scA.length = 2 ∧ scB.length = 8 ∧ scC.length = 46 ∧ scD.length = 280 := by decide +kernel
theorem sm_len : (smM 0).length = 2 ∧ (smM 1).length = 8 ∧ (smM 2).length = 46 ∧ (smM 3).length = 280 := by decide +kernel
theorem sc_ss : scD.all tr_ss = true := by decide +kernel
theorem sm_ss : (smM 3).all tr_ss = true := by decide +kernel
theorem sc_pm : tr_pm (scD.take 2) (smM 0) = true ∧ tr_pm (scD.take 8) (smM 1) = true ∧ tr_pm (scD.take 46) (smM 2) = true ∧ tr_pm (scD.take 280) (smM 3) = true := by decide +kernel
theorem sm_perm {n : Nat} (h1 : 1 ≤ n) (h4 : n ≤ 4) : (scD.take (sfr (n + 1))).Perm (smM (n - 1)) ∧ (smM (n - 1)).length = sfr (n + 1) ∧ sfr (n + 1) ≤ 280 := by
  obtain ⟨a, b, c, d⟩ := sc_pm
  obtain ⟨a', b', c', d'⟩ := sm_len
  rcases (by omega : n = 1 ∨ n = 2 ∨ n = 3 ∨ n = 4) with rfl | rfl | rfl | rfl
  · exact ⟨tr_pm_perm a, a', by decide⟩
  · exact ⟨tr_pm_perm b, b', by decide⟩
  · exact ⟨tr_pm_perm c, c', by decide⟩
  · exact ⟨tr_pm_perm d, d', by decide⟩
/-- no two alike: one answer in both orders -/
theorem sm_nodup {α : Type} (w : Tr → α) {n : Nat} (h1 : 1 ≤ n) (h4 : n ≤ 4) : ((scD.take (sfr (n + 1))).map w).Nodup ↔ ((smM (n - 1)).map w).Nodup := ((sm_perm h1 h4).1.map w).nodup_iff
/-- by looking at each pair -/
theorem nd_pairs {α : Type} {l : List Tr} (w : Tr → α) : (l.map w).Nodup ↔ ∀ a, a < l.length → ∀ b, b < a → w (l.getD a .leaf) ≠ w (l.getD b .leaf) := by
  have hg : ∀ {j : Nat}, (h : j < l.length) → (l.map w)[j]'(by simpa using h) = w (l.getD j .leaf) := fun {j} h => by
    rw [List.getElem_map, List.getD_eq_getElem?_getD, List.getElem?_eq_getElem h]
    rfl
  rw [List.nodup_iff_pairwise_ne, List.pairwise_iff_getElem]
  constructor
  · intro h a ha b hb q
    exact h b a (by simp; omega) (by simpa using ha) hb (by rw [hg (by omega), hg ha]; exact q.symm)
  · intro h i j hi hj hij
    simp at hi hj
    rw [hg hi, hg hj]
    exact fun q => h j hj i hij q.symm
