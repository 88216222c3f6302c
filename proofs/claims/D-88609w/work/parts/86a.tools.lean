set_option maxRecDepth 100000
/-! THE TOOLS OF THE SPECS: ints as numbers, helpers of both sides. -/
theorem ic_lit (n : Nat) : ic (no_index (OfNat.ofNat n)) = nI (OfNat.ofNat n) := Int32.ofInt_eq_ofNat (n := n)
theorem ic_m1 : ic (-1) = -1 := by decide
theorem ic_m2 : ic (-2) = -2 := by decide
theorem ic_m3 : ic (-3) = -3 := by decide
theorem m2eq {n : Nat} (h : n < 2 ^ 31) : (-2 = nI n) = False := eq_false fun q => nI_pos h (by rw [← q]; decide)
theorem eq_m2 {n : Nat} (h : n < 2 ^ 31) : (nI n = -2) = False := eq_false fun q => nI_pos h (by rw [q]; decide)
theorem nI_leI' {a b : Nat} (ha : a < 2 ^ 31) (hb : b < 2 ^ 31) : (nI a ≤ nI b) = (a ≤ b) := propext (nI_leI ha hb)
theorem nI_ltI' {a b : Nat} (ha : a < 2 ^ 31) (hb : b < 2 ^ 31) : (nI a < nI b) = (a < b) := propext (nI_ltI ha hb)
theorem nI_eq0 {n : Nat} (h : n < 2 ^ 31) : (nI n = 0) = (n = 0) := by rw [← nI_0]; exact nI_inj h (by omega)
theorem nI_le0 {n : Nat} (h : n < 2 ^ 31) : (nI n ≤ 0) = (n = 0) := by rw [← nI_0, nI_leI' h (by omega)]; exact propext (by omega)
theorem nI_gt0 {n : Nat} (h : n < 2 ^ 31) : (0 < nI n) = (0 < n) := by rw [← nI_0]; exact nI_ltI' (by omega) h
theorem nI_subI {a b : Nat} (h : b ≤ a) : nI a - nI b = nI (a - b) := pk_sub h
theorem nI_mulI (a b : Nat) : nI a * nI b = nI (a * b) := pk_mul a b
theorem am_dz_nI {α : Type} {n : Nat} {k : Option α} (h : 0 < n ∧ n < 2 ^ 31) : am_dz (nI n) k = k := by
  unfold am_dz
  rw [if_neg (nI_ne0 h.1 h.2)]
theorem b2_eq0 (b : Bool) : (b2 b = 0) = (b = false) := propext (by cases b <;> decide)
theorem b2_eq1 (b : Bool) : (b2 b = nI 1) = (b = true) := propext (by cases b <;> decide)
theorem b2_and1 (b : Bool) : b2 b &&& 1 = b2 b := by cases b <;> decide
theorem b2_inj (a b : Bool) : (b2 a = b2 b) = (a = b) := propext (by cases a <;> cases b <;> decide)
theorem band1 : nI 1 &&& 1 = b2 true := by decide
theorem band0 : nI 0 &&& 1 = b2 false := by decide
theorem b2_t : b2 true = nI 1 := by decide
theorem b2_f : b2 false = nI 0 := by decide
theorem am_ct_ok {S : Type} (x : Tr) (s : S) (kx : Nat → S → am_R S) (k : Tr → S → am_R S) : am_ct (some (.inl (some (.inr x)), s)) kx k = k x s := rfl
theorem i64_le (x y : Int32) : (x.toInt64 ≤ y.toInt64) = (x ≤ y) := propext (by rw [Int64.le_iff_toInt_le, Int32.le_iff_toInt_le, Int32.toInt_toInt64, Int32.toInt_toInt64])
theorem i64_lt (x y : Int32) : (x.toInt64 < y.toInt64) = (x < y) := propext (by rw [Int64.lt_iff_toInt_lt, Int32.lt_iff_toInt_lt, Int32.toInt_toInt64, Int32.toInt_toInt64])
theorem i32_nlt (x y : Int32) : (¬ x < y) ↔ y ≤ x := by rw [Int32.lt_iff_toInt_lt, Int32.le_iff_toInt_le]; omega
theorem i64_nlt (x y : Int64) : (¬ x < y) ↔ y ≤ x := by rw [Int64.lt_iff_toInt_lt, Int64.le_iff_toInt_le]; omega
theorem MOST_lN : (1000000000000000 : Int64) = lN 1000000000000000 := by decide
theorem lN_lt' {a b : Nat} (ha : a < 2 ^ 62) (hb : b < 2 ^ 62) : (lN a < lN b) = (a < b) := propext (pk_lLT (by omega) (by omega))
theorem lN_le' {a b : Nat} (ha : a < 2 ^ 62) (hb : b < 2 ^ 62) : (lN a ≤ lN b) = (a ≤ b) := propext (pk_lLE (by omega) (by omega))
theorem lN_inj {a b : Nat} (ha : a < 2 ^ 62) (hb : b < 2 ^ 62) : (lN a = lN b) = (a = b) := propext (pk_lEQ (by omega) (by omega))
theorem lN_00 : lN 0 = 0 := by decide
theorem lN_eq0 {n : Nat} (h : n < 2 ^ 62) : (lN n = 0) = (n = 0) := by rw [← lN_00]; exact lN_inj h (by omega)
theorem am_dzl_lN {α : Type} {n : Nat} {k : Option α} (h : 0 < n ∧ n < 2 ^ 62) : am_dzl (lN n) k = k := by
  unfold am_dzl
  rw [if_neg (fun q => by rw [lN_eq0 h.2] at q; omega)]
theorem lc_lt (x y : Int64) : (lg_cmp x y < 0) = (x < y) := propext (lg_cmp_lt x y)
theorem lc_gt (x y : Int64) : (0 < lg_cmp x y) = (y < x) := propext (lg_cmp_gt x y)
theorem lc_le (x y : Int64) : (lg_cmp x y ≤ 0) = (x ≤ y) := propext (lg_cmp_le x y)
theorem lc_ge (x y : Int64) : (0 ≤ lg_cmp x y) = (y ≤ x) := propext (lg_cmp_ge x y)
theorem lc_eq (x y : Int64) : (lg_cmp x y = 0) = (x = y) := propext (lg_cmp_eq x y)
/-- a place of a list of n -/
def isN (n : Nat) (k : Int32) : Bool := decide (0 ≤ k) && decide (k ≤ nI n - 1)
theorem isN_t {n : Nat} {k : Int32} (hn : n < 2 ^ 31) (h : isN n k = true) : ∃ j, j < n ∧ k = nI j := by
  simp only [isN, Bool.and_eq_true, decide_eq_true_eq] at h
  obtain ⟨h1, h2⟩ := h
  obtain ⟨j, hj, rfl⟩ := nI_of (x := k) (fun q => by rw [Int32.lt_iff_toInt_lt] at q; rw [Int32.le_iff_toInt_le] at h1; omega)
  rcases n with _ | n
  · exfalso
    have : nI 0 - 1 = -1 := by decide
    rw [this, Int32.le_iff_toInt_le, nI_toInt hj] at h2
    have : (-1 : Int32).toInt = -1 := by decide
    omega
  · rw [nI_pred, nI_leI hj (by omega)] at h2
    exact ⟨j, by omega, rfl⟩
theorem isN_nI {n j : Nat} (hn : n < 2 ^ 31) (h : j < n) : isN n (nI j) = true := by
  simp only [isN, Bool.and_eq_true, decide_eq_true_eq]
  refine ⟨nI_pos' (by omega), ?_⟩
  obtain ⟨m, rfl⟩ : ∃ m, n = m + 1 := ⟨n - 1, by omega⟩
  rw [nI_pred, nI_leI (by omega) (by omega)]
  omega
/-- from lo to hi -/
def inR (lo hi : Nat) (k : Int32) : Bool := decide (nI lo ≤ k) && decide (k ≤ nI hi)
theorem inR_t {lo hi : Nat} {k : Int32} (hlo : lo ≤ hi) (hh : hi < 2 ^ 31) (h : inR lo hi k = true) : ∃ j, lo ≤ j ∧ j ≤ hi ∧ k = nI j := by
  simp only [inR, Bool.and_eq_true, decide_eq_true_eq] at h
  obtain ⟨h1, h2⟩ := h
  obtain ⟨j, hj, rfl⟩ := nI_of (x := k) (fun q => by
    rw [Int32.lt_iff_toInt_lt] at q
    rw [Int32.le_iff_toInt_le, nI_toInt (by omega)] at h1
    have : (0 : Int32).toInt = 0 := by decide
    omega)
  rw [nI_leI (by omega) hj] at h1
  rw [nI_leI hj hh] at h2
  exact ⟨j, h1, h2, rfl⟩
theorem inR_nI {lo hi j : Nat} (hh : hi < 2 ^ 31) (h1 : lo ≤ j) (h2 : j ≤ hi) : inR lo hi (nI j) = true := by
  simp only [inR, Bool.and_eq_true, decide_eq_true_eq]
  exact ⟨nI_le h1 (by omega), nI_le h2 hh⟩
theorem inR_no {lo hi j : Nat} (hj : j < 2 ^ 31) (hl : lo < 2 ^ 31) (hh : hi < 2 ^ 31) (h : j < lo ∨ hi < j) : inR lo hi (nI j) = false := by
  cases q : inR lo hi (nI j) with
  | false => rfl
  | true =>
    simp only [inR, Bool.and_eq_true, decide_eq_true_eq] at q
    rw [nI_leI hl hj, nI_leI hj hh] at q
    omega
theorem lc_0 : lN 0 = (nI 0).toInt64 := by decide
theorem lc_n {n : Nat} (h : n < 2 ^ 31) : lN n = (nI n).toInt64 := (nI_l h).symm
theorem mm_pa_get (s : mm_S) (c i : Nat) (v : Int32) (c' j' : Nat) : (mm_pa s c i v).2.1 c' j' = if c' = c then (if j' = i then v else s.2.1 c j') else s.2.1 c' j' := by
  show va_up s.2.1 c (upd (s.2.1 c) i v) c' j' = _
  by_cases h : c' = c
  · subst h
    rw [va_up_self, if_pos rfl]
    rfl
  · rw [va_up_ne _ _ h, if_neg h]
theorem mm_pa_1 (s : mm_S) (c i : Nat) (v : Int32) : (mm_pa s c i v).1 = s.1 := rfl
theorem mm_pa_22 (s : mm_S) (c i : Nat) (v : Int32) : (mm_pa s c i v).2.2 = s.2.2 := rfl
theorem mm_p_2 (s : mm_S) (j : Nat) (v : Int32) : (mm_p s j v).2 = s.2 := rfl
theorem mm_p_get (s : mm_S) (j : Nat) (v : Int32) (j' : Nat) : (mm_p s j v).1 j' = if j' = j then v else s.1 j' := rfl
section
variable {N f : Nat}
theorem mm_in (a b c : Int64) (s : mm_S) : mm_call N (f + 1) 3 [.inl (.long (a)), .inl (.long (b)), .inl (.long (c))] (s) = some (.inl (some (.inl (.int (b2 (decide (b ≤ a) && decide (a ≤ c)))))), s) := by
  rw [dX6_in_eq]
  unfold dX6_in
  by_cases h1 : a < b
  · rw [if_pos ((lg_cmp_lt a b).mpr h1), decide_eq_false (fun q => (i64_nlt a b).mpr q h1)]
    rfl
  · rw [if_neg (fun q => h1 ((lg_cmp_lt a b).mp q)), decide_eq_true ((i64_nlt a b).mp h1)]
    by_cases h2 : c < a
    · rw [if_pos ((lg_cmp_gt a c).mpr h2), decide_eq_false (fun q => (i64_nlt c a).mpr q h2)]
      rfl
    · rw [if_neg (fun q => h2 ((lg_cmp_gt a c).mp q)), decide_eq_true ((i64_nlt c a).mp h2)]
      rfl
theorem cs_isIn (a b c : Int64) (s : cs_S) : cs_call N (f + 1) 2 [.inl (.long (a)), .inl (.long (b)), .inl (.long (c))] (s) = some (.inl (some (.inl (.int (b2 (decide (b ≤ a) && decide (a ≤ c)))))), s) := by
  rw [dX1_isIn_eq]
  unfold dX1_isIn
  by_cases h1 : a < b
  · rw [if_pos ((lg_cmp_lt a b).mpr h1), decide_eq_false (fun q => (i64_nlt a b).mpr q h1)]
    rfl
  · rw [if_neg (fun q => h1 ((lg_cmp_lt a b).mp q)), decide_eq_true ((i64_nlt a b).mp h1)]
    by_cases h2 : c < a
    · rw [if_pos ((lg_cmp_gt a c).mpr h2), decide_eq_false (fun q => (i64_nlt c a).mpr q h2)]
      rfl
    · rw [if_neg (fun q => h2 ((lg_cmp_gt a c).mp q)), decide_eq_true ((i64_nlt c a).mp h2)]
      rfl
/-- an int between two numbers -/
theorem mm_inR (lo hi : Nat) (k : Int32) {a b : Int64} (s : mm_S) (ha : a = (nI lo).toInt64) (hb : b = (nI hi).toInt64) : mm_call N (f + 1) 3 [.inl (.long (k.toInt64)), .inl (.long (a)), .inl (.long (b))] (s) = some (.inl (some (.inl (.int (b2 (inR lo hi k))))), s) := by
  rw [mm_in, ha, hb]
  simp only [i64_le, inR]
theorem cs_inR (lo hi : Nat) (k : Int32) {a b : Int64} (s : cs_S) (ha : a = (nI lo).toInt64) (hb : b = (nI hi).toInt64) : cs_call N (f + 1) 2 [.inl (.long (k.toInt64)), .inl (.long (a)), .inl (.long (b))] (s) = some (.inl (some (.inl (.int (b2 (inR lo hi k))))), s) := by
  rw [cs_isIn, ha, hb]
  simp only [i64_le, inR]
theorem mm_isNode {s : mm_S} {n : Nat} (k : Int32) (h : s.1 0 = nI n) : mm_call N (f + 2) 6 [.inl (.ref 0), .inl (.int (k))] (s) = some (.inl (some (.inl (.int (b2 (isN n k))))), s) := by
  rw [dX6_isNode_eq]
  unfold dX6_isNode
  rw [h, lc_0, mm_in]
  simp only [i64_le, isN, am_ci_ok, b2_and1]
  rfl
theorem cs_c200 {s : cs_S} {c : Nat} (h : cs_isL c = true) : cs_call N (f + 10) 200 [.inl (.ref c)] (s) = some (.inl (some (.inl (.int (nI (cs_t s c).length)))), s) := by
  show cs_prim (f + 9) 200 [.inl (.ref c)] s = _
  unfold cs_prim
  have : Nat.ble 9 (f + 9) = true := Nat.ble_eq_true_of_le (by omega)
  simp only [this, cond_true, cs_lid, h]
theorem cs_isNode {s : cs_S} (k : Int32) : cs_call N (f + 11) 5 [.inl (.ref 0), .inl (.int (k))] (s) = some (.inl (some (.inl (.int (b2 (isN (cs_t s 100).length k))))), s) := by
  rw [dX1_isNode_eq]
  unfold dX1_isNode
  rw [cs_c200 rfl, am_ci_ok, lc_0, cs_isIn]
  simp only [i64_le, isN, am_ci_ok, b2_and1]
  rfl
theorem mm_isTwo (k : Nat) (hk : k < 2 ^ 31) (s : mm_S) : mm_call N (f + 1) 7 [.inl (.int (nI k))] (s) = some (.inl (some (.inl (.int (b2 (decide (2 ≤ k ∧ k ≤ 6)))))), s) := by
  rw [dX6_isTwo_eq]
  unfold dX6_isTwo
  simp (disch := omega) only [ic_lit, ic_m1, ic_m2, ic_m3, am_ix_nI, am_ci_ok, am_cl_ok, am_cv_ok, am_ct_ok, am_dz_nI, nI_inj, nI_leI', nI_ltI', nI_lt0, nI_ge0, nI_eq0, nI_le0, nI_gt0, m2lt, m2ge, m2eq, eq_m2, nI_add, nI_subI, nI_mulI, b2_eq0, b2_eq1, b2_and1, band1, band0, if_true, if_false, ite_true, ite_false, cond_true, cond_false, ↓reduceIte, Nat.reduceAdd, Nat.reduceMul, Nat.reduceSub, Nat.reduceEqDiff, lN_lt', lN_le', lN_inj, lc_lt, lc_gt, lc_le, lc_ge, lc_eq, Nat.reduceLT, Nat.reduceLeDiff, reduceCtorEq, Nat.add_zero, Nat.zero_add]
  by_cases h1 : k < 2
  · rw [if_pos h1, decide_eq_false (by omega)]
  · rw [if_neg h1]
    by_cases h2 : 6 < k
    · rw [if_pos h2, decide_eq_false (by omega)]
    · rw [if_neg h2, decide_eq_true (by omega)]
/-- kinds that may be kept -/
def mk (k : Nat) : Bool := decide (2 ≤ k ∧ k ≤ 9 ∧ k ≠ 8)
theorem mm_mayKeep (k : Nat) (hk : k < 2 ^ 31) (s : mm_S) : mm_call N (f + 1) 18 [.inl (.int (nI k))] (s) = some (.inl (some (.inl (.int (b2 (mk k))))), s) := by
  rw [dX6_mayKeep_eq]
  unfold dX6_mayKeep mk
  simp (disch := omega) only [ic_lit, ic_m1, ic_m2, ic_m3, am_ix_nI, am_ci_ok, am_cl_ok, am_cv_ok, am_ct_ok, am_dz_nI, nI_inj, nI_leI', nI_ltI', nI_lt0, nI_ge0, nI_eq0, nI_le0, nI_gt0, m2lt, m2ge, m2eq, eq_m2, nI_add, nI_subI, nI_mulI, b2_eq0, b2_eq1, b2_and1, band1, band0, if_true, if_false, ite_true, ite_false, cond_true, cond_false, ↓reduceIte, Nat.reduceAdd, Nat.reduceMul, Nat.reduceSub, Nat.reduceEqDiff, lN_lt', lN_le', lN_inj, lc_lt, lc_gt, lc_le, lc_ge, lc_eq, Nat.reduceLT, Nat.reduceLeDiff, reduceCtorEq, Nat.add_zero, Nat.zero_add]
  by_cases h1 : k < 2
  · rw [if_pos h1, decide_eq_false (by omega)]
  · rw [if_neg h1]
    by_cases h2 : 9 < k
    · rw [if_pos h2, decide_eq_false (by omega)]
    · rw [if_neg h2]
      by_cases h3 : k = 8
      · rw [if_pos h3, decide_eq_false (by omega)]
      · rw [if_neg h3, decide_eq_true (by omega)]
/-- of any int -/
def mkI (k : Int32) : Bool := inR 2 7 k || decide (k = nI 9)
theorem mkI_nI {k : Nat} (hk : k < 2 ^ 31) : mkI (nI k) = mk k := by
  unfold mkI mk
  rw [decide_eq_decide.mpr (nI_eq hk (by omega))]
  by_cases h : 2 ≤ k ∧ k ≤ 7
  · rw [inR_nI (by omega) h.1 h.2, decide_eq_true (show 2 ≤ k ∧ k ≤ 9 ∧ k ≠ 8 by omega)]
    rfl
  · rw [inR_no hk (by omega) (by omega) (by omega)]
    by_cases h9 : k = 9
    · subst h9
      rfl
    · rw [decide_eq_false h9, decide_eq_false (show ¬ (2 ≤ k ∧ k ≤ 9 ∧ k ≠ 8) by omega)]
      rfl
theorem mkI_t {k : Int32} (h : mkI k = true) : ∃ j, j ≤ 9 ∧ mk j = true ∧ k = nI j := by
  unfold mkI at h
  cases h1 : inR 2 7 k with
  | true =>
    obtain ⟨j, h2, h3, rfl⟩ := inR_t (by omega) (by omega) h1
    exact ⟨j, by omega, by unfold mk; exact decide_eq_true (by omega), rfl⟩
  | false =>
    rw [h1, Bool.false_or, decide_eq_true_eq] at h
    exact ⟨9, by omega, rfl, h⟩
theorem mm_mayKeepI (k : Int32) (s : mm_S) : mm_call N (f + 1) 18 [.inl (.int (k))] (s) = some (.inl (some (.inl (.int (b2 (mkI k))))), s) := by
  by_cases h : k < 0
  · rw [dX6_mayKeep_eq]
    unfold dX6_mayKeep
    have h2 : k < ic 2 := by
      rw [Int32.lt_iff_toInt_lt] at h ⊢
      have : (ic 2).toInt = 2 := by decide
      have : (0 : Int32).toInt = 0 := by decide
      omega
    rw [if_pos h2]
    have : mkI k = false := by
      cases q : mkI k with
      | false => rfl
      | true =>
        obtain ⟨j, hj, -, rfl⟩ := mkI_t q
        exact absurd h (nI_pos (by omega))
    rw [this]
    rfl
  · obtain ⟨j, hj, rfl⟩ := nI_of h
    rw [mm_mayKeep j hj, mkI_nI hj]
theorem cs_isKeeper (k : Int32) (s : cs_S) : cs_call N (f + 2) 14 [.inl (.int (k))] (s) = some (.inl (some (.inl (.int (b2 (mkI k))))), s) := by
  rw [dX1_isKeeper_eq]
  unfold dX1_isKeeper
  rw [cs_inR 2 7 k s (by decide) (by decide), am_ci_ok]
  unfold mkI
  cases h : inR 2 7 k with
  | true =>
    simp (disch := omega) only [ic_lit, ic_m1, ic_m2, ic_m3, am_ix_nI, am_ci_ok, am_cl_ok, am_cv_ok, am_ct_ok, am_dz_nI, nI_inj, nI_leI', nI_ltI', nI_lt0, nI_ge0, nI_eq0, nI_le0, nI_gt0, m2lt, m2ge, m2eq, eq_m2, nI_add, nI_subI, nI_mulI, b2_eq0, b2_eq1, b2_and1, band1, band0, if_true, if_false, ite_true, ite_false, cond_true, cond_false, ↓reduceIte, Nat.reduceAdd, Nat.reduceMul, Nat.reduceSub, Nat.reduceEqDiff, lN_lt', lN_le', lN_inj, lc_lt, lc_gt, lc_le, lc_ge, lc_eq, Nat.reduceLT, Nat.reduceLeDiff, reduceCtorEq, Nat.add_zero, Nat.zero_add, Bool.true_or, Bool.true_eq_false]
  | false =>
    simp (disch := omega) only [ic_lit, ic_m1, ic_m2, ic_m3, am_ix_nI, am_ci_ok, am_cl_ok, am_cv_ok, am_ct_ok, am_dz_nI, nI_inj, nI_leI', nI_ltI', nI_lt0, nI_ge0, nI_eq0, nI_le0, nI_gt0, m2lt, m2ge, m2eq, eq_m2, nI_add, nI_subI, nI_mulI, b2_eq0, b2_eq1, b2_and1, band1, band0, if_true, if_false, ite_true, ite_false, cond_true, cond_false, ↓reduceIte, Nat.reduceAdd, Nat.reduceMul, Nat.reduceSub, Nat.reduceEqDiff, lN_lt', lN_le', lN_inj, lc_lt, lc_gt, lc_le, lc_ge, lc_eq, Nat.reduceLT, Nat.reduceLeDiff, reduceCtorEq, Nat.add_zero, Nat.zero_add, Bool.false_or]
    by_cases h9 : k = nI 9
    · rw [if_pos h9, decide_eq_true h9]
    · rw [if_neg h9, decide_eq_false h9]
theorem mm_isStyle (k : Int32) (s : mm_S) : mm_call N (f + 2) 17 [.inl (.int (k))] (s) = some (.inl (some (.inl (.int (b2 (inR 0 7 k))))), s) := by
  rw [dX6_isStyle_eq]
  unfold dX6_isStyle
  rw [mm_inR 0 7 k s (by decide) (by decide), am_ci_ok, b2_and1]
theorem mm_isShelf (k : Int32) (s : mm_S) : mm_call N (f + 2) 75 [.inl (.int (k))] (s) = some (.inl (some (.inl (.int (b2 (inR 0 7 k))))), s) := by
  rw [dX6_isShelf_eq]
  unfold dX6_isShelf
  rw [mm_inR 0 7 k s (by decide) (by decide), am_ci_ok, b2_and1]
theorem cs_isStyle (k : Int32) (s : cs_S) : cs_call N (f + 2) 13 [.inl (.int (k))] (s) = some (.inl (some (.inl (.int (b2 (inR 0 7 k))))), s) := by
  rw [dX1_isStyle_eq]
  unfold dX1_isStyle
  rw [cs_inR 0 7 k s (by decide) (by decide), am_ci_ok, b2_and1]
theorem cs_isShelf (k : Int32) (s : cs_S) : cs_call N (f + 2) 60 [.inl (.int (k))] (s) = some (.inl (some (.inl (.int (b2 (inR 0 7 k))))), s) := by
  rw [dX1_isShelf_eq]
  unfold dX1_isShelf
  rw [cs_inR 0 7 k s (by decide) (by decide), am_ci_ok, b2_and1]
theorem cs_isEar (k : Int32) (s : cs_S) : cs_call N (f + 2) 29 [.inl (.int (k))] (s) = some (.inl (some (.inl (.int (b2 (inR 0 8 k))))), s) := by
  rw [dX1_isEar_eq]
  unfold dX1_isEar
  rw [cs_inR 0 8 k s (by decide) (by decide), am_ci_ok, b2_and1]
theorem cs_isWord (k : Int32) (s : cs_S) : cs_call N (f + 2) 23 [.inl (.int (k))] (s) = some (.inl (some (.inl (.int (b2 (inR 0 30 k))))), s) := by
  rw [dX1_isWord_eq]
  unfold dX1_isWord
  rw [cs_inR 0 30 k s (by decide) (by decide), am_ci_ok, b2_and1]
theorem tr_ki (n k v : Nat) (x y : Tr) : tr_k (.inner n k v x y) = k := rfl
theorem tr_vi (n k v : Nat) (x y : Tr) : tr_v (.inner n k v x y) = v := rfl
theorem tr_xi (n k v : Nat) (x y : Tr) : tr_x (.inner n k v x y) = x := rfl
theorem tr_yi (n k v : Nat) (x y : Tr) : tr_y (.inner n k v x y) = y := rfl
/-! a node's members -/
theorem tr_nd_wf {t : Tr} (h : tr_wf t) (hn : tr_lf t = false) : tr_nd t = true := by
  cases t with
  | leaf => cases hn
  | inner n k v x y => exact Nat.ble_eq_true_of_le (tr_wf_v h).1
theorem cs_vx {t : Tr} (h : tr_wf t) (hn : tr_lf t = false) (s : cs_S) : cs_call N (f + 1) (cs_sel [68, 68, 80, 80, 80, 80, 80, 83, 83, 83] (tr_k t)) [.inr (t)] (s) = some (.inl (some (.inr (tr_x t))), s) := by
  cases t with
  | leaf => cases hn
  | inner n k v x y =>
    obtain ⟨-, -, h⟩ := h
    rcases h with ⟨rfl, -, hx, -⟩ | ⟨rfl, -, hx, -⟩ | ⟨h2, h6, -⟩ | ⟨rfl | rfl, -⟩ | ⟨rfl, -⟩
    · cases x with
      | leaf => exact dX7_x_eq N f s _
      | inner _ _ _ _ _ => cases hx
    · cases x with
      | leaf => exact dX7_x_eq N f s _
      | inner _ _ _ _ _ => cases hx
    · obtain rfl | rfl | rfl | rfl | rfl : k = 2 ∨ k = 3 ∨ k = 4 ∨ k = 5 ∨ k = 6 := by omega
      all_goals exact dX10_x_eq N f s _
    · exact dX12_x_eq N f s _
    · exact dX12_x_eq N f s _
    · exact dX12_x_eq N f s _
theorem cs_vy {t : Tr} (h : tr_wf t) (hn : tr_lf t = false) (s : cs_S) : cs_call N (f + 1) (cs_sel [69, 69, 81, 81, 81, 81, 81, 69, 69, 69] (tr_k t)) [.inr (t)] (s) = some (.inl (some (.inr (tr_y t))), s) := by
  cases t with
  | leaf => cases hn
  | inner n k v x y =>
    obtain ⟨-, -, h⟩ := h
    have hl : ∀ {y : Tr}, tr_lf y = true → y = .leaf := fun {y} q => by cases y with
      | leaf => rfl
      | inner _ _ _ _ _ => cases q
    rcases h with ⟨rfl, -, -, hy⟩ | ⟨rfl, -, -, hy⟩ | ⟨h2, h6, -⟩ | ⟨rfl | rfl, -, -, hy⟩ | ⟨rfl, -, -, hy⟩
    · rw [hl hy]; exact dX7_y_eq N f s _
    · rw [hl hy]; exact dX7_y_eq N f s _
    · obtain rfl | rfl | rfl | rfl | rfl : k = 2 ∨ k = 3 ∨ k = 4 ∨ k = 5 ∨ k = 6 := by omega
      all_goals exact dX10_y_eq N f s _
    · rw [hl hy]; exact dX7_y_eq N f s _
    · rw [hl hy]; exact dX7_y_eq N f s _
    · rw [hl hy]; exact dX7_y_eq N f s _
theorem cs_vv {t : Tr} (h : tr_wf t) (hn : tr_lf t = false) (s : cs_S) : cs_call N (f + 1) (cs_sel [74, 74, 67, 67, 67, 67, 67, 67, 67, 87] (tr_k t)) [.inr (t)] (s) = some (.inl (some (.inl (.int (tr_vI (tr_k t) (tr_v t))))), s) := by
  cases t with
  | leaf => cases hn
  | inner n k v x y =>
    obtain ⟨-, -, h⟩ := h
    rcases h with ⟨rfl, -⟩ | ⟨rfl, -⟩ | ⟨h2, h6, -⟩ | ⟨rfl | rfl, -⟩ | ⟨rfl, -⟩
    · exact dX8_v_eq N f s _
    · exact dX8_v_eq N f s _
    · obtain rfl | rfl | rfl | rfl | rfl : k = 2 ∨ k = 3 ∨ k = 4 ∨ k = 5 ∨ k = 6 := by omega
      all_goals exact dX7_v_eq N f s _
    · exact dX7_v_eq N f s _
    · exact dX7_v_eq N f s _
    · exact dX14_v_eq N f s _
end
