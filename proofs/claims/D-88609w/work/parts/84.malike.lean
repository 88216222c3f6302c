theorem tr_like_sz : ∀ (t u : Tr), tr_like t u = true → tr_sz t = tr_sz u
  | .leaf, .leaf, _ => rfl
  | .leaf, .inner _ _ _ _ _, h => by simp [tr_like] at h
  | .inner _ _ _ _ _, .leaf, h => by simp [tr_like] at h
  | .inner n k v x y, .inner n' k' v' x' y', h => by
    simp only [tr_like, Bool.and_eq_true] at h
    simp only [tr_sz, tr_like_sz x x' h.1.2, tr_like_sz y y' h.2]
theorem tr_wf_v {n k v : Nat} {x y : Tr} (h : tr_wf (.inner n k v x y)) : k ≤ 9 ∧ v ≤ 9999 ∧ (¬ (k = 0 ∨ k = 1 ∨ k = 9) → v = 0) := by
  obtain ⟨-, -, h⟩ := h
  omega
theorem tr_vI_eq {k v v' : Nat} (hv : v ≤ 9999) (hv' : v' ≤ 9999) (h0 : ¬ (k = 0 ∨ k = 1 ∨ k = 9) → v = 0) (h0' : ¬ (k = 0 ∨ k = 1 ∨ k = 9) → v' = 0) : (tr_vI k v = tr_vI k v') = (v = v') := by
  unfold tr_vI
  by_cases hk : k = 0 ∨ k = 1 ∨ k = 9
  · rw [if_pos hk, if_pos hk, nI_inj (by omega) (by omega)]
  · rw [if_neg hk, if_neg hk, h0 hk, h0' hk]
    simp
theorem m2lt : ((-2 : Int32) < 0) = True := by decide
theorem m2ge : (0 ≤ (-2 : Int32)) = False := by decide
theorem mm_areAlike (N : Nat) : ∀ (t u : Tr) (s : mm_S) (lo hi lo' hi' : Nat) (i i' : Int32) (f : Nat), mr s lo hi t i → mr s lo' hi' u i' → hi ≤ 450 → hi' ≤ 450 → tr_wf t → tr_wf u → tr_sz t < 2 ^ 31 → tr_sz u < 2 ^ 31 → tr_dp t < f →
    mm_call N f 13 [.inl (.ref 0), .inl (.int i), .inl (.int i')] s = some (.inl (some (.inl (.int (b2 (tr_like t u))))), s) := by
  intro t
  induction t with
  | leaf =>
    intro u s lo hi lo' hi' i i' f ht hu h1 h2 _ _ _ _ hf
    obtain ⟨f, rfl⟩ : ∃ f', f = f' + 1 := ⟨f - 1, by omega⟩
    obtain rfl : i = -2 := ht
    rw [dX6_areAlike_eq]
    unfold dX6_areAlike
    simp only [m2lt, if_true, jX6_areAlike_8_eq, jX6_areAlike_8_4_eq, m2ge, if_false]
    cases u with
    | leaf =>
      obtain rfl : i' = -2 := hu
      simp only [m2ge, if_false, ic_and1]
      rfl
    | inner n k v x y =>
      obtain ⟨j, _, h3, rfl, _⟩ := hu
      rw [if_pos (nI_pos' (by omega)), ic_and0]
      rfl
  | inner n k v x y ihx ihy =>
    intro u s lo hi lo' hi' i i' f ht hu h1 h2 hw hw' hsz hsz' hf
    obtain ⟨f, rfl⟩ : ∃ f', f = f' + 1 := ⟨f - 1, by omega⟩
    obtain ⟨j, _, hj, rfl, ek, ev, es, ed, hx, hy⟩ := ht
    rw [dX6_areAlike_eq]
    unfold dX6_areAlike
    have hj9 : j < 450 := by omega
    simp only [nI_lt0 (show j < 2 ^ 31 by omega), if_false]
    cases u with
    | leaf =>
      obtain rfl : i' = -2 := hu
      simp only [m2ge, if_false, jX6_areAlike_8_eq, nI_ge0 (show j < 2 ^ 31 by omega), if_true, ic_and0]
      rfl
    | inner n' k' v' x' y' =>
      obtain ⟨j', _, hj', rfl, ek', ev', es', ed', hx', hy'⟩ := hu
      have hj9' : j' < 450 := by omega
      have hwv := tr_wf_v hw
      have hwv' := tr_wf_v hw'
      simp only [nI_ge0 (show j' < 2 ^ 31 by omega), if_true, am_ix_nI hj9 (by omega), am_ix_nI hj9' (by omega), ek, ev, es, ek', ev', es']
      have hd1 : tr_dp x < f := by simp only [tr_dp] at hf; omega
      have hd2 : tr_dp y < f := by simp only [tr_dp] at hf; omega
      simp only [tr_sz] at hsz hsz'
      by_cases hk : k = k'
      · subst hk
        rw [if_pos rfl]
        have hve := tr_vI_eq hwv.2.1 hwv'.2.1 hwv.2.2 hwv'.2.2
        by_cases hv : v = v'
        · subst hv
          rw [if_pos rfl]
          have hse := nI_inj (a := tr_sz (.inner n k v x y)) (b := tr_sz (.inner n' k v x' y')) (by simp only [tr_sz]; omega) (by simp only [tr_sz]; omega)
          by_cases hs : tr_sz (.inner n k v x y) = tr_sz (.inner n' k v x' y')
          · rw [if_pos (hse.mpr hs), ihx x' s lo hi lo' hi' _ _ f hx hx' h1 h2 hw.1 hw'.1 (by omega) (by omega) hd1, am_ci_ok]
            cases hlx : tr_like x x' with
            | false =>
              simp only [b2, ic_and0, tr_like, hlx]
              simp
            | true =>
              simp only [b2, if_true]
              rw [if_neg (by decide), ihy y' s lo hi lo' hi' _ _ f hy hy' h1 h2 hw.2.1 hw'.2.1 (by omega) (by omega) hd2, am_ci_ok]
              cases hly : tr_like y y' with
              | false => simp [b2, ic_and0, tr_like, hlx, hly]
              | true => simp [b2, ic_and1, tr_like, hlx, hly]
          · rw [if_neg (fun q => hs (hse.mp q)), ic_and0]
            have : tr_like (.inner n k v x y) (.inner n' k v x' y') = false := by
              cases h : tr_like (.inner n k v x y) (.inner n' k v x' y') with
              | false => rfl
              | true => exact absurd (tr_like_sz _ _ h) hs
            rw [this]
            rfl
        · rw [if_neg (fun q => hv (hve.mp q)), ic_and0]
          simp [tr_like, hv, b2]
      · rw [if_neg (fun q => hk ((nI_eq (by omega) (by omega)).mp q)), ic_and0]
        simp [tr_like, hk, b2]
