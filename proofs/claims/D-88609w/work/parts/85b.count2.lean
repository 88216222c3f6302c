section
variable {V : EV} {C : Nat → Nat → Nat} {i j n : Nat}
def cQ (V : EV) (C : Nat → Nat → Nat) (i j : Nat) : Nat := sm (fun k => cP V C k i j) 0 10
theorem sm_10 (f : Nat → Nat) : sm f 0 10 = f 0 + f 1 + (f 2 + f 3 + f 4 + f 5 + f 6) + f 7 + f 8 + f 9 := by
  show f 0 + (f 1 + (f 2 + (f 3 + (f 4 + (f 5 + (f 6 + (f 7 + (f 8 + (f 9 + (0)))))))))) = _
  omega
theorem sm_20 (f : Nat → Nat) : sm f 0 20 = sm (fun k => f (2 * k) + f (2 * k + 1)) 0 10 := by
  show f 0 + (f 1 + (f 2 + (f 3 + (f 4 + (f 5 + (f 6 + (f 7 + (f 8 + (f 9 + (f 10 + (f 11 + (f 12 + (f 13 + (f 14 + (f 15 + (f 16 + (f 17 + (f 18 + (f 19 + (0)))))))))))))))))))) = (f 0 + f 1) + ((f 2 + f 3) + ((f 4 + f 5) + ((f 6 + f 7) + ((f 8 + f 9) + ((f 10 + f 11) + ((f 12 + f 13) + ((f 14 + f 15) + ((f 16 + f 17) + ((f 18 + f 19) + (0))))))))))
  omega
theorem cc20_k (k : Nat) : cc20 V C i j (2 * k) = cK V C k false i j ∧ cc20 V C i j (2 * k + 1) = cK V C k true i j := by
  unfold cc20
  constructor
  · rw [show 2 * k / 2 = k by omega, show decide (2 * k % 2 = 1) = false from decide_eq_false (by omega)]
  · rw [show (2 * k + 1) / 2 = k by omega, show decide ((2 * k + 1) % 2 = 1) = true from decide_eq_true (by omega)]
theorem cS_k : cS V C i j = sm (fun k => cK V C k false i j + cK V C k true i j) 0 10 := by
  unfold cS
  rw [sm_20]
  exact sm_ext _ _ fun k _ _ => by rw [(cc20_k k).1, (cc20_k k).2]
theorem cK_f (k : Nat) : cK V C k false i j ≤ cP V C k i j := by
  unfold cK
  split
  · exact Nat.le_refl _
  · exact Nat.zero_le _
theorem cK_t (k : Nat) : cK V C k true i j ≤ if i + 2 < j ∧ V.1 i = 29 then cP V C k (i + 1) (j - 1) else 0 := by
  unfold cK
  split
  · rename_i h
    unfold gK at h
    simp only [Bool.and_eq_true, Bool.not_true, Bool.false_or, decide_eq_true_eq] at h
    rw [if_pos ⟨h.2.1.1, h.2.1.2⟩]
    exact Nat.le_refl _
  · exact Nat.zero_le _
/-- two parts, of any kind -/
theorem tm_sum (hC : ∀ a b, i ≤ a → b ≤ j → b - a < n → C a b ≤ mz (b - a)) (hn : j - i = n) (w : Nat) : tm V C 2 i j w + tm V C 3 i j w + tm V C 4 i j w + tm V C 5 i j w + tm V C 6 i j w ≤ if 1 ≤ w ∧ w + 2 ≤ n then mz w * mz (n - 1 - w) else 0 := by
  by_cases hw : 1 ≤ w ∧ w + 2 ≤ n
  · rw [if_pos hw]
    have h1 := hC i (i + w) (by omega) (by omega) (by omega)
    have h2 := hC (i + w + 1) j (by omega) (by omega) (by omega)
    rw [show i + w - i = w by omega] at h1
    rw [show j - (i + w + 1) = n - 1 - w by omega] at h2
    have h3 := Nat.mul_le_mul h1 h2
    have ht : ∀ k, tm V C k i j w = if V.1 (i + w) = 18 + k then C i (i + w) * C (i + w + 1) j else 0 := by
      intro k
      unfold tm
      by_cases e : V.1 (i + w) = 18 + k
      · rw [if_pos ⟨hw.1, by omega, e⟩, if_pos e]
      · rw [if_neg (fun z => e z.2.2), if_neg e]
    rw [ht, ht, ht, ht, ht]
    generalize C i (i + w) * C (i + w + 1) j = p at h3
    generalize mz w * mz (n - 1 - w) = q at h3
    generalize V.1 (i + w) = x
    by_cases e2 : x = 20
    · subst e2; simp; exact h3
    · by_cases e3 : x = 21
      · subst e3; simp; exact h3
      · by_cases e4 : x = 22
        · subst e4; simp; exact h3
        · by_cases e5 : x = 23
          · subst e5; simp; exact h3
          · by_cases e6 : x = 24
            · subst e6; simp; exact h3
            · simp [e2, e3, e4, e5, e6]
  · rw [if_neg hw]
    have ht : ∀ k, tm V C k i j w = 0 := by
      intro k
      unfold tm
      rw [if_neg]
      rintro ⟨h1, h2, -⟩
      exact hw ⟨h1, by omega⟩
    rw [ht, ht, ht, ht, ht]
    exact Nat.le_refl _
def cvl (n : Nat) : Nat := sm (fun a => mz a * mz (n - 1 - a)) 1 (n - 2)
theorem cP_two {k : Nat} (h2 : 2 ≤ k) (h6 : k ≤ 6) : cP V C k i j = sm (tm V C k i j) 1 (j - i) := by
  unfold cP
  rw [if_neg (by omega), if_neg (by omega), if_pos h6]
theorem twos (hC : ∀ a b, i ≤ a → b ≤ j → b - a < n → C a b ≤ mz (b - a)) (hn : j - i = n) : cP V C 2 i j + cP V C 3 i j + cP V C 4 i j + cP V C 5 i j + cP V C 6 i j ≤ cvl n := by
  rw [cP_two (by omega) (by omega), cP_two (by omega) (by omega), cP_two (by omega) (by omega), cP_two (by omega) (by omega), cP_two (by omega) (by omega), ← sm_add, ← sm_add, ← sm_add, ← sm_add, hn]
  have h1 : sm (fun w => if 1 ≤ w ∧ w + 2 ≤ n then mz w * mz (n - 1 - w) else 0) 1 n ≤ cvl n := by
    unfold cvl
    by_cases e : 2 ≤ n
    · obtain ⟨m, rfl⟩ : ∃ m, n = m + 2 := ⟨n - 2, by omega⟩
      rw [sm_app m 2 1, sm_zero 2 (1 + m) (fun w h1 h2 => by rw [if_neg (by omega)]), Nat.add_zero, show m + 2 - 2 = m by omega]
      exact sm_le _ _ _ fun w hw => by
        rw [if_pos (by omega)]
        exact Nat.le_refl _
    · rw [sm_zero n 1 (fun w h1 h2 => by rw [if_neg (by omega)])]
      exact Nat.zero_le _
  refine Nat.le_trans (sm_le _ _ _ fun w hw => ?_) h1
  exact tm_sum hC hn (1 + w)
/-- what stands first decides -/
theorem ones (hC : ∀ a b, i ≤ a → b ≤ j → b - a < n → C a b ≤ mz (b - a)) (hn : j - i = n) (h2 : 2 ≤ n) (h20 : n ≤ 20) : cP V C 0 i j + cP V C 1 i j + cP V C 7 i j + cP V C 8 i j + cP V C 9 i j ≤ if V.1 i = 29 then 0 else mz (n - 1) := by
  have m1 := mz_pos (n - 2) (by omega)
  rw [show n - 2 + 1 = n - 1 by omega] at m1
  have m2 := mz_up (n - 2) (by omega)
  rw [show n - 2 + 1 = n - 1 by omega] at m2
  have p0 : cP V C 0 i j = 0 := by
    unfold cP
    rw [if_pos rfl, if_neg (by omega)]
  have p1 : cP V C 1 i j ≤ if 10 ≤ V.1 i ∧ V.1 i ≤ 19 then 1 else 0 := by
    unfold cP
    rw [if_neg (by omega), if_pos rfl]
    by_cases e : isNum V.1 i j = true
    · rw [if_pos e]
      unfold isNum at e
      simp only [Bool.and_eq_true, List.all_eq_true, List.mem_range, decide_eq_true_eq] at e
      have := e.2 0 (by omega)
      rw [Nat.add_zero] at this
      rw [if_pos this]
      exact Nat.le_refl _
    · rw [if_neg e]
      exact Nat.zero_le _
  have p7 : cP V C 7 i j ≤ if V.1 i = 25 then mz (n - 1) else 0 := by
    unfold cP
    rw [if_neg (by omega), if_neg (by omega), if_neg (by omega), if_pos rfl]
    by_cases e : i + 1 < j ∧ V.1 i = 25
    · rw [if_pos e, if_pos e.2]
      have := hC (i + 1) j (by omega) (by omega) (by omega)
      rw [show j - (i + 1) = n - 1 by omega] at this
      exact this
    · rw [if_neg e]
      exact Nat.zero_le _
  have p8 : cP V C 8 i j ≤ if V.1 i = 26 then mz (n - 1) else 0 := by
    unfold cP
    rw [if_neg (by omega), if_neg (by omega), if_neg (by omega), if_neg (by omega), if_pos rfl]
    by_cases e : i + 2 < j ∧ V.1 i = 26 ∧ V.1 (j - 1) = 27
    · rw [if_pos e, if_pos e.2.1]
      have := hC (i + 1) (j - 1) (by omega) (by omega) (by omega)
      rw [show j - 1 - (i + 1) = n - 2 by omega] at this
      omega
    · rw [if_neg e]
      exact Nat.zero_le _
  have p9 : cP V C 9 i j ≤ if V.1 i < 10 then mz (n - 1) else 0 := by
    unfold cP
    rw [if_neg (by omega), if_neg (by omega), if_neg (by omega), if_neg (by omega), if_neg (by omega)]
    by_cases e : i + 2 < j ∧ V.1 i < 10 ∧ V.2.1 (V.1 i) = true ∧ V.1 (i + 1) = 28
    · rw [if_pos e, if_pos e.2.1]
      have := hC (i + 2) j (by omega) (by omega) (by omega)
      rw [show j - (i + 2) = n - 2 by omega] at this
      omega
    · rw [if_neg e]
      exact Nat.zero_le _
  generalize V.1 i = x at p1 p7 p8 p9
  by_cases c29 : x = 29
  · subst c29
    simp only [if_true]
    rw [if_neg (by omega)] at p1 p7 p8 p9
    omega
  · rw [if_neg c29]
    by_cases c1 : 10 ≤ x ∧ x ≤ 19
    · rw [if_pos c1] at p1
      rw [if_neg (by omega)] at p7 p8 p9
      omega
    · rw [if_neg c1] at p1
      by_cases c7 : x = 25
      · rw [if_pos c7] at p7
        rw [if_neg (by omega)] at p8 p9
        omega
      · rw [if_neg c7] at p7
        by_cases c8 : x = 26
        · rw [if_pos c8] at p8
          rw [if_neg (by omega)] at p9
          omega
        · rw [if_neg c8] at p8
          by_cases c9 : x < 10
          · rw [if_pos c9] at p9
            omega
          · rw [if_neg c9] at p9
            omega
theorem cQ_le (hC : ∀ a b, i ≤ a → b ≤ j → b - a < n → C a b ≤ mz (b - a)) (hn : j - i = n) (h1 : 1 ≤ n) (h20 : n ≤ 20) : cQ V C i j ≤ (if V.1 i = 29 then 0 else if n = 1 then 1 else mz (n - 1)) + cvl n := by
  unfold cQ
  rw [sm_10]
  have ht := twos (V := V) hC hn
  by_cases e : n = 1
  · subst e
    have hj : j = i + 1 := by omega
    subst hj
    have p7 : cP V C 7 i (i + 1) = 0 := by
      unfold cP
      rw [if_neg (by omega), if_neg (by omega), if_neg (by omega), if_pos rfl, if_neg (by omega)]
    have p8 : cP V C 8 i (i + 1) = 0 := by
      unfold cP
      rw [if_neg (by omega), if_neg (by omega), if_neg (by omega), if_neg (by omega), if_pos rfl, if_neg (by omega)]
    have p9 : cP V C 9 i (i + 1) = 0 := by
      unfold cP
      rw [if_neg (by omega), if_neg (by omega), if_neg (by omega), if_neg (by omega), if_neg (by omega), if_neg (by omega)]
    have p01 : cP V C 0 i (i + 1) + cP V C 1 i (i + 1) ≤ if V.1 i = 29 then 0 else 1 := by
      have p0 : cP V C 0 i (i + 1) ≤ if V.1 i < 10 then 1 else 0 := by
        unfold cP
        rw [if_pos rfl]
        by_cases e : i + 1 = i + 1 ∧ V.1 i < 10 ∧ V.2.1 (V.1 i) = false
        · rw [if_pos e, if_pos e.2.1]
          exact Nat.le_refl _
        · rw [if_neg e]
          exact Nat.zero_le _
      have p1 : cP V C 1 i (i + 1) ≤ if 10 ≤ V.1 i ∧ V.1 i ≤ 19 then 1 else 0 := by
        unfold cP
        rw [if_neg (by omega), if_pos rfl]
        by_cases e : isNum V.1 i (i + 1) = true
        · rw [if_pos e]
          unfold isNum at e
          simp only [Bool.and_eq_true, List.all_eq_true, List.mem_range, decide_eq_true_eq] at e
          have := e.2 0 (by omega)
          rw [Nat.add_zero] at this
          rw [if_pos this]
          exact Nat.le_refl _
        · rw [if_neg e]
          exact Nat.zero_le _
      generalize V.1 i = x at p0 p1
      by_cases c29 : x = 29
      · rw [if_pos c29]
        rw [if_neg (by omega)] at p0 p1
        omega
      · rw [if_neg c29]
        by_cases c0 : x < 10
        · rw [if_pos c0] at p0
          rw [if_neg (by omega)] at p1
          omega
        · rw [if_neg c0] at p0
          by_cases c1 : 10 ≤ x ∧ x ≤ 19
          · rw [if_pos c1] at p1
            omega
          · rw [if_neg c1] at p1
            omega
    rw [if_pos rfl, p7, p8, p9]
    omega
  · have ho := ones (V := V) hC hn (by omega) h20
    rw [if_neg e]
    omega
theorem mz_cvl (h1 : 2 ≤ n) (h20 : n ≤ 20) : mz (n - 1) + cvl n ≤ mz n := by
  have := mz_step (n - 1) (by omega)
  unfold cvl
  rw [show n - 1 + 1 = n by omega, show n - 1 - 1 = n - 2 by omega] at this
  exact this
theorem ct_le (V : EV) : ∀ (n i j : Nat), j - i ≤ n → n ≤ 20 → ct V i j ≤ mz (j - i) := by
  intro n
  induction n with
  | zero =>
    intro i j h _
    rw [ct_nil V (by omega)]
    exact Nat.zero_le _
  | succ n ih =>
    intro i j h h20
    by_cases hij : i < j
    · rw [ct_eq V hij, cS_k, sm_add]
      have hC : ∀ a b, i ≤ a → b ≤ j → b - a < j - i → ct V a b ≤ mz (b - a) := fun a b h1 h2 h3 => ih a b (by omega) (by omega)
      have hf : sm (fun k => cK V (ct V) k false i j) 0 10 ≤ cQ V (ct V) i j := sm_le _ _ _ fun k _ => cK_f _
      have ht : sm (fun k => cK V (ct V) k true i j) 0 10 ≤ if i + 2 < j ∧ V.1 i = 29 then cQ V (ct V) (i + 1) (j - 1) else 0 := by
        by_cases e : i + 2 < j ∧ V.1 i = 29
        · rw [if_pos e]
          refine sm_le _ _ _ fun k _ => ?_
          have := cK_t (V := V) (C := ct V) (i := i) (j := j) (0 + k)
          rw [if_pos e] at this
          exact this
        · rw [if_neg e, sm_zero]
          · exact Nat.le_refl _
          · intro k _ _
            have := cK_t (V := V) (C := ct V) (i := i) (j := j) k
            rw [if_neg e] at this
            omega
      have hq := cQ_le (V := V) hC rfl (by omega) (by omega)
      by_cases e29 : V.1 i = 29
      · rw [if_pos e29] at hq
        by_cases e : i + 2 < j
        · rw [if_pos ⟨e, e29⟩] at ht
          have hq2 := cQ_le (V := V) (C := ct V) (i := i + 1) (j := j - 1) (n := j - 1 - (i + 1)) (fun a b h1 h2 h3 => ih a b (by omega) (by omega)) rfl (by omega) (by omega)
          have hm := mz_cvl (n := j - i) (by omega) (by omega)
          have hm2 : cQ V (ct V) (i + 1) (j - 1) ≤ mz (j - i - 1) := by
            refine Nat.le_trans hq2 ?_
            rw [show j - 1 - (i + 1) = j - i - 2 by omega]
            have hu := mz_up (j - i - 2) (by omega)
            rw [show j - i - 2 + 1 = j - i - 1 by omega] at hu
            by_cases e1 : j - i - 2 = 1
            · rw [e1] at hu ⊢
              have : cvl 1 = 0 := rfl
              have h1 : mz 1 = 1 := mz_1
              split
              · omega
              · rw [if_pos rfl]
                omega
            · have hm3 := mz_cvl (n := j - i - 2) (by omega) (by omega)
              split
              · omega
              · omega
          omega
        · rw [if_neg (fun z => e z.1)] at ht
          have : mz (j - i) ≥ cvl (j - i) := by
            by_cases e2 : j - i = 1
            · rw [e2]
              exact Nat.zero_le _
            · have := mz_cvl (n := j - i) (by omega) (by omega)
              omega
          omega
      · rw [if_neg (fun z => e29 z.2)] at ht
        rw [if_neg e29] at hq
        by_cases e1 : j - i = 1
        · rw [if_pos e1] at hq
          rw [e1] at hq ⊢
          have : cvl 1 = 0 := rfl
          have h1 : mz 1 = 1 := mz_1
          omega
        · rw [if_neg e1] at hq
          have := mz_cvl (n := j - i) (by omega) (by omega)
          omega
    · rw [ct_nil V (by omega)]
      exact Nat.zero_le _
theorem ct_lt (V : EV) {i j : Nat} (h : j - i ≤ 20) : ct V i j ≤ 20000000 := Nat.le_trans (ct_le V (j - i) i j (Nat.le_refl _) h) (mz_top _ h)
end
