set_option maxRecDepth 100000
/-! A TREE's PLACE, candidate by candidate: kept or not, and of two parts x's words. -/
def Rw (V : EV) : Tr → Nat → Nat → Nat → Nat → Prop
  | .leaf, _, _, _, _ => False
  | .inner _ kk v x y, a, b, w, o =>
    (kk = 0 ∧ v = V.1 a ∧ o = 0) ∨ (kk = 1 ∧ v = numV V.1 a (b - a) 0 ∧ o = 0) ∨
    (2 ≤ kk ∧ kk ≤ 6 ∧ ∃ kx ky, Rd V x a (a + w) kx ∧ Rd V y (a + w + 1) b ky ∧ o = kx * ct V (a + w + 1) b + ky) ∨
    (kk = 7 ∧ Rd V x (a + 1) b o) ∨ (kk = 8 ∧ Rd V x (a + 1) (b - 1) o) ∨ (kk = 9 ∧ v = V.1 a ∧ Rd V x (a + 2) b o)
section
variable {V : EV}
theorem hv_two {kk i j w : Nat} {b : Bool} (h : 2 ≤ kk ∧ kk ≤ 6) (hw : 1 ≤ w) : hv V kk b i j w = if gK V kk b i j then tm V (ct V) kk (i + bN b) (j - bN b) w else 0 := by
  unfold hv kw_ pw
  rw [if_pos h, if_neg (show ¬ w = 0 by omega)]
theorem hv_one {kk i j : Nat} {b : Bool} (h : ¬ (2 ≤ kk ∧ kk ≤ 6)) : hv V kk b i j 1 = cK V (ct V) kk b i j := by
  unfold hv
  rw [if_neg h, if_pos rfl, kw_0]
theorem hv_no {kk i j w : Nat} {b : Bool} (h : ¬ (2 ≤ kk ∧ kk ≤ 6)) (hw : w ≠ 1) : hv V kk b i j w = 0 := by
  unfold hv
  rw [if_neg h, if_neg hw]
theorem cK_pos {kk i j : Nat} {b : Bool} (h : 0 < cK V (ct V) kk b i j) : gK V kk b i j = true ∧ 0 < cP V (ct V) kk (i + bN b) (j - bN b) := by
  unfold cK at h
  cases q : gK V kk b i j with
  | false => rw [q] at h; exact absurd h (by simp)
  | true => rw [q, if_pos rfl] at h; exact ⟨rfl, h⟩
/-- a reading is a candidate's -/
theorem Rd_to {n kk v : Nat} {x y : Tr} {i j k : Nat} (h : Rd V (.inner n kk v x y) i j k) : ∃ b w o, 1 ≤ w ∧ w ≤ j - i ∧ 0 < hv V kk b i j w ∧ Rw V (.inner n kk v x y) (i + bN b) (j - bN b) w o ∧ k = sm (cc20 V (ct V) i j) 0 (2 * kk + bN b) + (sm (hv V kk b i j) 1 (w - 1) + o) := by
  obtain ⟨b, r, hij, hk9, hg, hk, hr, hc⟩ := h
  have hbN : bN b ≤ 1 := by cases b <;> simp [bN]
  have hone : ¬ (2 ≤ kk ∧ kk ≤ 6) → 0 < hv V kk b i j 1 := fun q => by
    rw [hv_one q, cK_g hg]
    omega
  rcases hc with ⟨rfl, hv1, -⟩ | ⟨rfl, hv1, -⟩ | ⟨h2, h6, -, w, kx, ky, h1w, hw2, hop, hrr, hx, hy⟩ | ⟨rfl, -, -, h25, hx⟩ | ⟨rfl, -, -, h26, h27, hx⟩ | ⟨rfl, hv1, -, h10, h28, hx⟩
  · refine ⟨b, 1, 0, by omega, by omega, hone (by omega), .inl ⟨rfl, hv1, rfl⟩, ?_⟩
    have := (cP_0 hr).2.2.2
    rw [hk, this]
    simp [sm]
  · refine ⟨b, 1, 0, by omega, by omega, hone (by omega), .inr (.inl ⟨rfl, hv1, rfl⟩), ?_⟩
    have := (cP_1 hr).2
    rw [hk, this]
    simp [sm]
  · have hlx := Rd_lt hx
    have hly := Rd_lt hy
    have htm := tm_w (V := V) (C := ct V) h1w hw2 hop
    have hpos : 0 < ct V (i + bN b) (i + bN b + w) * ct V (i + bN b + w + 1) (j - bN b) := Nat.mul_pos (by omega) (by omega)
    refine ⟨b, w, kx * ct V (i + bN b + w + 1) (j - bN b) + ky, h1w, by omega, ?_, .inr (.inr (.inl ⟨h2, h6, kx, ky, hx, hy, rfl⟩)), ?_⟩
    · rw [hv_two ⟨h2, h6⟩ h1w, if_pos hg, htm]
      exact hpos
    · rw [hk, hrr, sm_ext (f := hv V kk b i j) (g := tm V (ct V) kk (i + bN b) (j - bN b)) (w - 1) 1 (fun m h1 _ => by rw [hv_two ⟨h2, h6⟩ h1, if_pos hg])]
  · refine ⟨b, 1, r, by omega, by omega, hone (by omega), .inr (.inr (.inr (.inl ⟨rfl, hx⟩))), ?_⟩
    rw [hk]
    simp [sm]
  · refine ⟨b, 1, r, by omega, by omega, hone (by omega), .inr (.inr (.inr (.inr (.inl ⟨rfl, hx⟩)))), ?_⟩
    rw [hk]
    simp [sm]
  · refine ⟨b, 1, r, by omega, by omega, hone (by omega), .inr (.inr (.inr (.inr (.inr ⟨rfl, hv1, hx⟩)))), ?_⟩
    rw [hk]
    simp [sm]
/-- a candidate's is a reading -/
theorem Rd_of {n kk v : Nat} {x y : Tr} {i j w o : Nat} {b : Bool} (hij : i < j) (hwf : tr_wf (.inner n kk v x y)) (hw1 : 1 ≤ w) (hw2 : w ≤ j - i) (hp : 0 < hv V kk b i j w) (h : Rw V (.inner n kk v x y) (i + bN b) (j - bN b) w o) :
    Rd V (.inner n kk v x y) i j (sm (cc20 V (ct V) i j) 0 (2 * kk + bN b) + (sm (hv V kk b i j) 1 (w - 1) + o)) ∧ o < hv V kk b i j w := by
  have hwv := tr_wf_v hwf
  have hlf : ∀ {z : Tr}, tr_lf z = true → z = .leaf := fun {z} q => by
    cases z with
    | leaf => rfl
    | inner _ _ _ _ _ => cases q
  obtain ⟨-, -, h3⟩ := hwf
  by_cases h26 : 2 ≤ kk ∧ kk ≤ 6
  · rcases h with ⟨rfl, -⟩ | ⟨rfl, -⟩ | ⟨-, -, kx, ky, hx, hy, ho⟩ | ⟨rfl, -⟩ | ⟨rfl, -⟩ | ⟨rfl, -⟩
    · omega
    · omega
    · rw [hv_two h26 hw1] at hp ⊢
      cases hg : gK V kk b i j with
      | false => rw [hg] at hp; exact absurd hp (by simp)
      | true =>
        rw [hg, if_pos rfl] at hp
        rw [if_pos rfl]
        have htw : 1 ≤ w ∧ w + 2 ≤ j - bN b - (i + bN b) ∧ V.1 (i + bN b + w) = 18 + kk := by
          unfold tm at hp
          split at hp
          · assumption
          · omega
        have htm := tm_w (V := V) (C := ct V) htw.1 htw.2.1 htw.2.2
        have hlx := Rd_lt hx
        have hly := Rd_lt hy
        have ho2 : o < tm V (ct V) kk (i + bN b) (j - bN b) w := by
          rw [htm, ho]
          exact kxy_lt hlx.2 hly.2
        have hse : sm (hv V kk b i j) 1 (w - 1) = sm (tm V (ct V) kk (i + bN b) (j - bN b)) 1 (w - 1) := sm_ext _ _ fun m h1 _ => by rw [hv_two h26 h1, if_pos hg]
        refine ⟨⟨b, sm (hv V kk b i j) 1 (w - 1) + o, hij, hwv.1, hg, rfl, ?_, .inr (.inr (.inl ⟨h26.1, h26.2, ?_, w, kx, ky, htw.1, htw.2.1, htw.2.2, ?_, hx, hy⟩))⟩, ho2⟩
        · rw [hse, cP_two h26.1 h26.2]
          have e : sm (tm V (ct V) kk (i + bN b) (j - bN b)) 1 w = sm (tm V (ct V) kk (i + bN b) (j - bN b)) 1 (w - 1) + tm V (ct V) kk (i + bN b) (j - bN b) w := by
            rw [sm_last (by omega), show 1 + w - 1 = w by omega]
          have := sm_mono (f := tm V (ct V) kk (i + bN b) (j - bN b)) (n := w) (m := j - bN b - (i + bN b)) 1 (by omega)
          omega
        · exact hwv.2.2 (by omega)
        · rw [hse, ho]
    · omega
    · omega
    · omega
  · have hw : w = 1 := by
      by_cases q : w = 1
      · exact q
      · rw [hv_no h26 q] at hp
        omega
    subst hw
    rw [hv_one h26] at hp ⊢
    obtain ⟨hg, hcp⟩ := cK_pos hp
    rw [cK_g hg]
    have hs : sm (hv V kk b i j) 1 (1 - 1) = 0 := rfl
    rw [hs, Nat.zero_add]
    have hv0 : ¬ (kk = 0 ∨ kk = 1 ∨ kk = 9) → v = 0 := hwv.2.2
    rcases h with ⟨rfl, hv1, rfl⟩ | ⟨rfl, hv1, rfl⟩ | ⟨h2, h6, -⟩ | ⟨rfl, hx⟩ | ⟨rfl, hx⟩ | ⟨rfl, hv1, hx⟩
    · refine ⟨⟨b, 0, hij, hwv.1, hg, rfl, hcp, .inl ⟨rfl, hv1, ?_⟩⟩, hcp⟩
      rcases h3 with ⟨-, -, a, c⟩ | ⟨q, -⟩ | ⟨q, -⟩ | ⟨q, -⟩ | ⟨q, -⟩
      · exact ⟨hlf a, hlf c⟩
      all_goals omega
    · refine ⟨⟨b, 0, hij, hwv.1, hg, rfl, hcp, .inr (.inl ⟨rfl, hv1, ?_⟩)⟩, hcp⟩
      rcases h3 with ⟨q, -⟩ | ⟨-, -, a, c⟩ | ⟨q, -⟩ | ⟨q, -⟩ | ⟨q, -⟩
      · omega
      · exact ⟨hlf a, hlf c⟩
      all_goals omega
    · omega
    · have hl := Rd_lt hx
      have h7 := cP_7 hcp
      have ho : o < cP V (ct V) 7 (i + bN b) (j - bN b) := by
        show o < if i + bN b + 1 < j - bN b ∧ V.1 (i + bN b) = 25 then ct V (i + bN b + 1) (j - bN b) else 0
        rw [if_pos ⟨h7.1, h7.2.1⟩]
        exact hl.2
      refine ⟨⟨b, o, hij, hwv.1, hg, rfl, ho, .inr (.inr (.inr (.inl ⟨rfl, hv0 (by omega), ?_, h7.2.1, hx⟩)))⟩, ho⟩
      rcases h3 with ⟨q, -⟩ | ⟨q, -⟩ | ⟨q, q', -⟩ | ⟨-, -, -, c⟩ | ⟨q, -⟩
      · omega
      · omega
      · omega
      · exact hlf c
      · omega
    · have hl := Rd_lt hx
      have h8 := cP_8 hcp
      have ho : o < cP V (ct V) 8 (i + bN b) (j - bN b) := by
        show o < if i + bN b + 2 < j - bN b ∧ V.1 (i + bN b) = 26 ∧ V.1 (j - bN b - 1) = 27 then ct V (i + bN b + 1) (j - bN b - 1) else 0
        rw [if_pos ⟨h8.1, h8.2.1, h8.2.2.1⟩]
        exact hl.2
      refine ⟨⟨b, o, hij, hwv.1, hg, rfl, ho, .inr (.inr (.inr (.inr (.inl ⟨rfl, hv0 (by omega), ?_, h8.2.1, h8.2.2.1, hx⟩))))⟩, ho⟩
      rcases h3 with ⟨q, -⟩ | ⟨q, -⟩ | ⟨q, q', -⟩ | ⟨-, -, -, c⟩ | ⟨q, -⟩
      · omega
      · omega
      · omega
      · exact hlf c
      · omega
    · have hl := Rd_lt hx
      have h9 := cP_9 hcp
      have ho : o < cP V (ct V) 9 (i + bN b) (j - bN b) := by
        show o < if i + bN b + 2 < j - bN b ∧ V.1 (i + bN b) < 10 ∧ V.2.1 (V.1 (i + bN b)) = true ∧ V.1 (i + bN b + 1) = 28 then ct V (i + bN b + 2) (j - bN b) else 0
        rw [if_pos ⟨h9.1, h9.2.1, h9.2.2.1, h9.2.2.2.1⟩]
        exact hl.2
      refine ⟨⟨b, o, hij, hwv.1, hg, rfl, ho, .inr (.inr (.inr (.inr (.inr ⟨rfl, hv1, ?_, h9.2.1, h9.2.2.2.1, hx⟩))))⟩, ho⟩
      rcases h3 with ⟨q, -⟩ | ⟨q, -⟩ | ⟨q, q', -⟩ | ⟨q, -⟩ | ⟨-, -, -, c⟩
      · omega
      · omega
      · omega
      · omega
      · exact hlf c
/-- an answer: the place, or -1 -/
def plA (V : EV) (t : Tr) (i j : Nat) (x : Int64) : Prop := (∃ k, Rd V t i j k ∧ x = lN k) ∨ ((∀ k, ¬ Rd V t i j k) ∧ x = -1)
theorem tr_like_rf : ∀ t : Tr, tr_like t t = true
  | .leaf => rfl
  | .inner n k v x y => by simp [tr_like, tr_like_rf x, tr_like_rf y]
theorem plA_inj {t : Tr} {i j : Nat} {x x' : Int64} (h : plA V t i j x) (h' : plA V t i j x') : x = x' := by
  rcases h with ⟨k, h, rfl⟩ | ⟨h, rfl⟩
  · rcases h' with ⟨k', h', rfl⟩ | ⟨h', -⟩
    · rw [(Rd_inj h h' (tr_like_rf t)).2]
    · exact absurd h (h' k)
  · rcases h' with ⟨k', h', -⟩ | ⟨-, rfl⟩
    · exact absurd h' (h k')
    · rfl
theorem lN_m1 {n : Nat} (h : n < 2 ^ 62) : (lN n = -1) = False := eq_false fun q => by
  have h1 := pk_lT (n := n) (by omega)
  rw [q] at h1
  have : (-1 : Int64).toInt = -1 := by decide
  omega
theorem lN_ge0 {n : Nat} (h : n < 2 ^ 62) : ¬ lN n < lN 0 := by rw [pk_lLT (by omega) (by omega)]; omega
theorem m1_lt : (-1 : Int64) < lN 0 := by decide
end
