set_option maxRecDepth 100000
/-! THE MODEL SAYS A TREE. -/
def mw_ (μ : mm_S) (l : List Nat) : Prop := μ.1 18 = nI l.length ∧ l.length ≤ 256 ∧ ∀ j, j < l.length → μ.2.1 17 j = nI (l.getD j 0)
def mm_kw (μ μ' : mm_S) : Prop := (∀ j, j ≠ 18 → j ≠ 20 → μ'.1 j = μ.1 j) ∧ (∀ c, c ≠ 17 → μ'.2.1 c = μ.2.1 c) ∧ μ'.2.2 = μ.2.2
theorem mm_kw.rf (μ : mm_S) : mm_kw μ μ := ⟨fun _ _ _ => rfl, fun _ _ => rfl, rfl⟩
theorem mm_kw.tr {μ μ' μ'' : mm_S} (h : mm_kw μ μ') (h' : mm_kw μ' μ'') : mm_kw μ μ'' := ⟨fun j q q' => (h'.1 j q q').trans (h.1 j q q'), fun c q => (h'.2.1 c q).trans (h.2.1 c q), h'.2.2.trans h.2.2⟩
/-- a tree stands where it stood -/
theorem mr_of {μ μ' : mm_S} {lo hi : Nat} (h : ∀ c, 1 ≤ c → c ≤ 6 → ∀ j, lo ≤ j → j < hi → μ'.2.1 c j = μ.2.1 c j) : ∀ (t : Tr) (i : Int32), mr μ lo hi t i → mr μ' lo hi t i
  | .leaf, _, q => q
  | .inner n k v x y, i, ⟨j, h1, h2, h3, h4, h5, h6, h7, hx, hy⟩ =>
    ⟨j, h1, h2, h3, (h 1 (by omega) (by omega) j h1 h2).trans h4, (h 2 (by omega) (by omega) j h1 h2).trans h5, (h 5 (by omega) (by omega) j h1 h2).trans h6, (h 6 (by omega) (by omega) j h1 h2).trans h7,
      by rw [h 3 (by omega) (by omega) j h1 h2]; exact mr_of h x _ hx, by rw [h 4 (by omega) (by omega) j h1 h2]; exact mr_of h y _ hy⟩
theorem mm_kw.mr {μ μ' : mm_S} (h : mm_kw μ μ') {lo hi : Nat} {t : Tr} {i : Int32} (q : mr μ lo hi t i) : mr μ' lo hi t i := mr_of (fun c h1 h2 j _ _ => by rw [h.2.1 c (by omega)]) t i q
/-- by what is kept: a style (mask -1), or a choice's bits -/
def mmd (g : Nat → Nat → Bool) (st n : Nat) (μ : mm_S) (m : Nat) : Prop := (∀ k, k < 10 → mk k = false → μ.2.1 8 (10 * st + k) = b2 false) ∧
  ((μ.1 19 = -1 ∧ ∀ k m', k < 10 → mk k = true → μ.2.1 8 (10 * st + k) = b2 (g m' k)) ∨ (∃ way, way < 2 ^ 31 ∧ μ.1 19 = nI way ∧ μ.1 21 = nI n ∧ n ≤ 30 ∧ μ.1 20 = nI m ∧ ∀ k m', m' < n → g m' k = way.testBit (n - 1 - m')))
def mm_sy (g : Nat → Nat → Bool) (st n m' : Nat) (l a : List Nat) (μ : mm_S) (r : am_R mm_S) : Prop :=
  (l ++ a).length ≤ 256 → ∃ μ', r = some (.inl none, μ') ∧ mw_ μ' (l ++ a) ∧ mm_kw μ μ' ∧ mmd g st n μ' m'
section
variable {N : Nat} {g : Nat → Nat → Bool} {st n : Nat}
theorem mm_sy.nil {m : Nat} {l : List Nat} {μ : mm_S} (h : mw_ μ l) (hd : mmd g st n μ m) : mm_sy g st n m l [] μ (some (.inl none, μ)) :=
  fun _ => ⟨μ, rfl, by rw [List.append_nil]; exact h, mm_kw.rf μ, hd⟩
theorem mm_sy.seq {m m' : Nat} {l a b : List Nat} {μ : mm_S} {r : am_R mm_S} {k : mm_S → am_R mm_S} (h : mm_sy g st n m l a μ r) (hk : ∀ μ', mw_ μ' (l ++ a) → mm_kw μ μ' → mmd g st n μ' m → mm_sy g st n m' (l ++ a) b μ' (k μ')) : mm_sy g st n m' l (a ++ b) μ (am_cv r am_tx k) := by
  intro q
  obtain ⟨μ1, rfl, hw, hk1, hd1⟩ := h (by rw [← List.append_assoc, List.length_append] at q; omega)
  obtain ⟨μ2, e, hw2, hk2, hd2⟩ := hk μ1 hw hk1 hd1 (by rw [List.append_assoc]; exact q)
  exact ⟨μ2, by rw [am_cv_ok]; exact e, by rw [← List.append_assoc]; exact hw2, hk1.tr hk2, hd2⟩
theorem mm_sy.ret {m : Nat} {l a : List Nat} {μ : mm_S} {r : am_R mm_S} (h : mm_sy g st n m l a μ r) : mm_sy g st n m l a μ (am_cv r am_tx fun s => some (.inl none, s)) := by
  have := h.seq (b := []) (k := fun s => some (.inl none, s)) (fun μ' hw _ hd => mm_sy.nil hw hd)
  rw [List.append_nil] at this
  exact this
theorem mm_says_ {f a m : Nat} {l : List Nat} {μ : mm_S} (h : mw_ μ l) (hd : mmd g st n μ m) : mm_sy g st n m l [a] μ (mm_call N (f + 1) 27 [.inl (.ref 0), .inl (.int (nI a))] (μ)) := by
  obtain ⟨h1, h2, h3⟩ := h
  intro q
  simp only [List.length_append, List.length_singleton] at q
  rw [dX6_says_eq]
  unfold dX6_says
  rw [h1, am_ix_nI (by omega) (by omega)]
  refine ⟨_, rfl, ⟨?_, by simp; omega, ?_⟩, ⟨?_, ?_, rfl⟩, ?_⟩
  · rw [mm_p_get, if_pos rfl, mm_pa_1, h1, ic_lit, nI_add, List.length_append]
    rfl
  · intro j hj
    simp only [List.length_append, List.length_singleton] at hj
    rw [mm_p_2, mm_pa_get, if_pos rfl]
    by_cases e : j = l.length
    · subst e
      rw [if_pos rfl]
      simp
    · rw [if_neg e, gd_left (by omega)]
      exact h3 j (by omega)
  · intro j hj _
    exact va_up_ne _ _ hj
  · intro c hc
    exact va_up_ne _ _ hc
  · exact hd
theorem mm_keepsIt {f m : Nat} {μ : mm_S} {lo hi nn k v : Nat} {x y : Tr} {i : Int32} (ht : mr μ lo hi (.inner nn k v x y) i) (h1 : hi ≤ 450) (hw : tr_wf (.inner nn k v x y)) (hst : st < 8) (hd : mmd g st n μ m) (hq : μ.1 19 = -1 ∨ (mk k = true → m < n)) :
    ∃ μ', mm_call N (f + 2) 26 [.inl (.ref 0), .inl (.int (nI st)), .inl (.int (i))] (μ) = some (.inl (some (.inl (.int (b2 (mk k && g m k))))), μ') ∧ (μ'.1 18 = μ.1 18 ∧ μ'.2.1 17 = μ.2.1 17) ∧ mm_kw μ μ' ∧ mmd g st n μ' (m + if mk k then 1 else 0) := by
  obtain ⟨j, _, hj, rfl, ek, ev, es, ed, hx, hy⟩ := ht
  have hj9 : j < 450 := by omega
  have hwv := tr_wf_v hw
  obtain ⟨hd0, hd1⟩ := hd
  have h19 : ∀ (back : mm_bt) (b : Bool), μ.2.1 8 (10 * st + k) = b2 b → jX6_keepsIt_19 back (mm_call N (f + 1)) μ (nI st) (nI j) = some (.inl (some (.inl (.int (b2 b)))), μ) := by
    intro back b hb
    rw [jX6_keepsIt_19_eq]
    simp (disch := omega) only [ic_lit, ic_m1, ic_m2, ic_m3, am_ix_nI, am_ci_ok, am_cl_ok, am_cv_ok, am_ct_ok, am_dz_nI, nI_inj, nI_leI', nI_ltI', nI_lt0, nI_ge0, nI_eq0, nI_le0, nI_gt0, m2lt, m2ge, m2eq, eq_m2, nI_add, nI_subI, nI_mulI, b2_eq0, b2_eq1, b2_and1, band1, band0, if_true, if_false, ite_true, ite_false, cond_true, cond_false, ↓reduceIte, Nat.reduceAdd, Nat.reduceMul, Nat.reduceSub, Nat.reduceEqDiff, lN_lt', lN_le', lN_inj, lc_lt, lc_gt, lc_le, lc_ge, lc_eq, Nat.reduceLT, Nat.reduceLeDiff, reduceCtorEq, Nat.add_zero, Nat.zero_add, ek, hb]
  rw [dX6_keepsIt_eq]
  unfold dX6_keepsIt
  rcases hd1 with ⟨hm1, hK⟩ | ⟨way, hway, hm1, h21, hn, h20, hg⟩
  · rw [hm1, if_pos (by decide), jX6_keepsIt_19_7_eq, h19 _ (mk k && g m k)]
    · refine ⟨μ, rfl, ⟨rfl, rfl⟩, mm_kw.rf μ, hd0, .inl ⟨hm1, hK⟩⟩
    · cases q : mk k with
      | false => exact hd0 k (by omega) q
      | true => rw [hK k m (by omega) q]; rfl
  · have hq : mk k = true → m < n := by
      rcases hq with q | q
      · rw [hm1, show (-1 : Int32) = -1 from rfl] at q
        exact absurd (show nI way < 0 by rw [q]; decide) (nI_pos hway)
      · exact q
    rw [hm1, if_neg (nI_pos hway)]
    simp (disch := omega) only [ic_lit, ic_m1, ic_m2, ic_m3, am_ix_nI, am_ci_ok, am_cl_ok, am_cv_ok, am_ct_ok, am_dz_nI, nI_inj, nI_leI', nI_ltI', nI_lt0, nI_ge0, nI_eq0, nI_le0, nI_gt0, m2lt, m2ge, m2eq, eq_m2, nI_add, nI_subI, nI_mulI, b2_eq0, b2_eq1, b2_and1, band1, band0, if_true, if_false, ite_true, ite_false, cond_true, cond_false, ↓reduceIte, Nat.reduceAdd, Nat.reduceMul, Nat.reduceSub, Nat.reduceEqDiff, lN_lt', lN_le', lN_inj, lc_lt, lc_gt, lc_le, lc_ge, lc_eq, Nat.reduceLT, Nat.reduceLeDiff, reduceCtorEq, Nat.add_zero, Nat.zero_add, ek, mm_mayKeep k (by omega)]
    cases qk : mk k with
    | false =>
      rw [if_pos rfl, h19 _ false (hd0 k (by omega) qk)]
      exact ⟨μ, rfl, ⟨rfl, rfl⟩, mm_kw.rf μ, hd0, .inr ⟨way, hway, hm1, h21, hn, h20, hg⟩⟩
    | true =>
      have hmn := hq qk
      rw [if_neg (by decide)]
      have e19 : (mm_p μ 20 (μ.1 20 + nI 1)).1 19 = nI way := hm1
      have e21 : (mm_p μ 20 (μ.1 20 + nI 1)).1 21 = nI n := h21
      have e20 : (mm_p μ 20 (μ.1 20 + nI 1)).1 20 = nI (m + 1) := by
        rw [mm_p_get, if_pos rfl, h20, nI_add]
      have hbit := bit_nI (m := way) (l := n - (m + 1)) hway (by omega)
      rw [e19, e21, e20, nI_subI (by omega), hbit]
      simp only [b2_eq1]
      have hgm : g m k = way.testBit (n - (m + 1)) := by rw [hg k m hmn, Nat.sub_sub, Nat.add_comm 1 m]
      refine ⟨mm_p μ 20 (μ.1 20 + nI 1), ?_, ⟨rfl, rfl⟩, ⟨fun j _ h => va_up_ne _ _ h, fun _ _ => rfl, rfl⟩, hd0, .inr ⟨way, hway, e19, e21, hn, e20, hg⟩⟩
      rw [hgm]
      cases way.testBit (n - (m + 1)) <;> rfl
theorem mm_num {lo hi nn v : Nat} {x y : Tr} {i : Int32} (hw : tr_wf (.inner nn 1 v x y)) (h1 : hi ≤ 450) (sti : Int32) (b : Bool) (f m : Nat) (hend : ∀ (back : mm_bt) (μ : mm_S) (l : List Nat) (o1 o2 : Option am_V), mw_ μ l → mmd g st n μ m → mm_sy g st n m l (if b then [30] else []) μ (jX6_say_270 back (mm_call N (f + 1)) μ sti i (b2 b) o1 o2)) :
    ∀ (e k : Nat) (l : List Nat) (μ : mm_S), e ≤ 3 → e < k → mr μ lo hi (.inner nn 1 v x y) i → mw_ μ l → mmd g st n μ m → mm_sy g st n m l (dgl v e ++ if b then [30] else []) μ (jX6_say_121 (am_bk (mm_hop (mm_call N (f + 1))) am_no none kX6_say k) (mm_call N (f + 1)) μ sti i (b2 b) (nI (10 ^ e)) (nI (e + 1))) := by
  have hwv := tr_wf_v hw
  intro e
  induction e with
  | zero =>
    intro k l μ _ hk ht hl hd
    obtain ⟨k, rfl⟩ : ∃ q, k = q + 1 := ⟨k - 1, by omega⟩
    have ht' := ht
    obtain ⟨j, _, hj, rfl, ek, ev, es, ed, hx, hy⟩ := ht'
    have hj9 : j < 450 := by omega
    rw [tr_vI_1] at ev
    rw [jX6_say_121_eq]
    have e1 : nI 10 + (nI v / nI 1 - nI v / nI 1 / nI 10 * nI 10) = nI (10 + v % 10) := by
      rw [pk_div (by omega) (by omega) (by omega), pk_rem (by omega) (by omega) (by omega), nI_add, Nat.div_one]
    simp (disch := omega) only [ic_lit, ic_m1, ic_m2, ic_m3, am_ix_nI, am_ci_ok, am_cl_ok, am_cv_ok, am_ct_ok, am_dz_nI, nI_inj, nI_leI', nI_ltI', nI_lt0, nI_ge0, nI_eq0, nI_le0, nI_gt0, m2lt, m2ge, m2eq, eq_m2, nI_add, nI_subI, nI_mulI, b2_eq0, b2_eq1, b2_and1, band1, band0, if_true, if_false, ite_true, ite_false, cond_true, cond_false, ↓reduceIte, Nat.reduceAdd, Nat.reduceMul, Nat.reduceSub, Nat.reduceEqDiff, lN_lt', lN_le', lN_inj, lc_lt, lc_gt, lc_le, lc_ge, lc_eq, Nat.reduceLT, Nat.reduceLeDiff, reduceCtorEq, Nat.add_zero, Nat.zero_add, ev, Nat.pow_zero, e1]
    refine (mm_says_ hl hd).seq fun μ1 hl1 q1 hd1 => ?_
    rw [jX6_say_121_bk, jX6_say_121_eq, if_pos (show nI 1 + -1 ≤ 0 by decide), jX6_say_270_161_eq]
    exact hend _ μ1 _ _ _ hl1 hd1
  | succ e ih =>
    intro k l μ he hk ht hl hd
    obtain ⟨k, rfl⟩ : ∃ q, k = q + 1 := ⟨k - 1, by omega⟩
    have ht' := ht
    obtain ⟨j, _, hj, rfl, ek, ev, es, ed, hx, hy⟩ := ht'
    have hj9 : j < 450 := by omega
    rw [tr_vI_1] at ev
    have hp : 0 < 10 ^ (e + 1) ∧ 10 ^ (e + 1) ≤ 1000 ∧ 10 ^ (e + 1) / 10 = 10 ^ e := by
      rcases e with _ | _ | _ | e
      · decide
      · decide
      · decide
      · omega
    have hq : v / 10 ^ (e + 1) ≤ v := Nat.div_le_self _ _
    rw [jX6_say_121_eq]
    have e1 : nI 10 + (nI v / nI (10 ^ (e + 1)) - nI v / nI (10 ^ (e + 1)) / nI 10 * nI 10) = nI (10 + v / 10 ^ (e + 1) % 10) := by
      rw [pk_div (by omega) (by omega) (by omega), pk_rem (by omega) (by omega) (by omega), nI_add]
    simp (disch := omega) only [ic_lit, ic_m1, ic_m2, ic_m3, am_ix_nI, am_ci_ok, am_cl_ok, am_cv_ok, am_ct_ok, am_dz_nI, nI_inj, nI_leI', nI_ltI', nI_lt0, nI_ge0, nI_eq0, nI_le0, nI_gt0, m2lt, m2ge, m2eq, eq_m2, nI_add, nI_subI, nI_mulI, b2_eq0, b2_eq1, b2_and1, band1, band0, if_true, if_false, ite_true, ite_false, cond_true, cond_false, ↓reduceIte, Nat.reduceAdd, Nat.reduceMul, Nat.reduceSub, Nat.reduceEqDiff, lN_lt', lN_le', lN_inj, lc_lt, lc_gt, lc_le, lc_ge, lc_eq, Nat.reduceLT, Nat.reduceLeDiff, reduceCtorEq, Nat.add_zero, Nat.zero_add, ev, e1]
    rw [show dgl v (e + 1) = [10 + v / 10 ^ (e + 1) % 10] ++ dgl v e from rfl, List.append_assoc]
    refine (mm_says_ hl hd).seq fun μ1 hl1 q1 hd1 => ?_
    rw [pk_div (by omega) (by omega) (by omega), hp.2.2, show nI (e + 1 + 1) + -1 = nI (e + 1) from pk_m1 (e + 1), jX6_say_121_bk]
    exact ih k _ μ1 (by omega) (by omega) (q1.mr ht) hl1 hd1
theorem mm_num0 {lo hi nn v : Nat} {x y : Tr} {i : Int32} {μ : mm_S} (hw : tr_wf (.inner nn 1 v x y)) (h1 : hi ≤ 450) (ht : mr μ lo hi (.inner nn 1 v x y) i) (sti bi : Int32) (f k0 : Nat) (P : am_R mm_S → Prop) (hk0 : 10 ≤ k0) (hP : ∀ k, 4 ≤ k → P (jX6_say_121 (am_bk (mm_hop (mm_call N (f + 1))) am_no none kX6_say k) (mm_call N (f + 1)) μ sti i bi (nI (10 ^ (dg v - 1))) (nI (dg v)))) :
    ∀ (q c k : Nat), c + q = dg v → 1 ≤ c → 4 + q ≤ k → P (jX6_say_83 (am_bk (mm_hop (mm_call N (f + 1))) am_no none kX6_say k) (mm_call N (f + 1)) μ sti i bi (nI (10 ^ (c - 1))) (nI c)) := by
  have hwv := tr_wf_v hw
  have hdg := dg_le v
  obtain ⟨j, _, hj, rfl, ek, ev, es, ed, hx, hy⟩ := ht
  have hj9 : j < 450 := by omega
  rw [tr_vI_1] at ev
  intro q
  induction q with
  | zero =>
    intro c k hc hc1 hk
    obtain rfl : c = dg v := by omega
    rw [jX6_say_83_eq]
    simp (disch := omega) only [ic_lit, ic_m1, ic_m2, ic_m3, am_ix_nI, am_ci_ok, am_cl_ok, am_cv_ok, am_ct_ok, am_dz_nI, nI_inj, nI_leI', nI_ltI', nI_lt0, nI_ge0, nI_eq0, nI_le0, nI_gt0, m2lt, m2ge, m2eq, eq_m2, nI_add, nI_subI, nI_mulI, b2_eq0, b2_eq1, b2_and1, band1, band0, if_true, if_false, ite_true, ite_false, cond_true, cond_false, ↓reduceIte, Nat.reduceAdd, Nat.reduceMul, Nat.reduceSub, Nat.reduceEqDiff, lN_lt', lN_le', lN_inj, lc_lt, lc_gt, lc_le, lc_ge, lc_eq, Nat.reduceLT, Nat.reduceLeDiff, reduceCtorEq, Nat.add_zero, Nat.zero_add, ev, mm_digits v hwv.2.1, Nat.le_refl]
    exact hP k (by omega)
  | succ q ih =>
    intro c k hc hc1 hk
    obtain ⟨k, rfl⟩ : ∃ q, k = q + 1 := ⟨k - 1, by omega⟩
    rw [jX6_say_83_eq]
    simp (disch := omega) only [ic_lit, ic_m1, ic_m2, ic_m3, am_ix_nI, am_ci_ok, am_cl_ok, am_cv_ok, am_ct_ok, am_dz_nI, nI_inj, nI_leI', nI_ltI', nI_lt0, nI_ge0, nI_eq0, nI_le0, nI_gt0, m2lt, m2ge, m2eq, eq_m2, nI_add, nI_subI, nI_mulI, b2_eq0, b2_eq1, b2_and1, band1, band0, if_true, if_false, ite_true, ite_false, cond_true, cond_false, ↓reduceIte, Nat.reduceAdd, Nat.reduceMul, Nat.reduceSub, Nat.reduceEqDiff, lN_lt', lN_le', lN_inj, lc_lt, lc_gt, lc_le, lc_ge, lc_eq, Nat.reduceLT, Nat.reduceLeDiff, reduceCtorEq, Nat.add_zero, Nat.zero_add, ev, mm_digits v hwv.2.1]
    rw [if_neg (by omega), jX6_say_83_bk]
    have := ih (c + 1) k (by omega) (by omega) (by omega)
    rw [show 10 ^ (c - 1) * 10 = 10 ^ (c + 1 - 1) by rw [← Nat.pow_succ]; congr 1; omega]
    exact this
theorem mm_say {lo hi : Nat} (h1 : hi ≤ 450) (hst : st < 8) (hN : 10 ≤ N) : ∀ (t : Tr) (m b : Nat) (l : List Nat) (μ : mm_S) (i : Int32) (f : Nat), mr μ lo hi t i → tr_wf t → tr_lf t = false → mw_ μ l → mmd g st n μ m → (μ.1 19 = -1 ∨ m + kc t ≤ n) → tr_dp t ≤ b → tr_dp t + 2 < f →
    mm_sy g st n (m + kc t) l (wsd g t m b) μ (mm_call N (f) 25 [.inl (.ref 0), .inl (.int (nI st)), .inl (.int (i))] (μ)) := by
  intro t
  induction t with
  | leaf => intro m b l μ i f _ _ h; cases h
  | inner nn k v x y ihx ihy =>
    intro m b l μ i f ht hw ht0 hl hd hq hb hf
    obtain ⟨f, rfl⟩ : ∃ f', f = f' + 3 := ⟨f - 3, by omega⟩
    obtain ⟨b, rfl⟩ : ∃ b', b = b' + 1 := ⟨b - 1, by simp only [tr_dp] at hb; omega⟩
    have hwv := tr_wf_v hw
    have hq0 : μ.1 19 = -1 ∨ (mk k = true → m < n) := by
      rcases hq with q | q
      · exact .inl q
      · exact .inr (fun h => by simp only [kc, h, if_true] at q; omega)
    obtain ⟨μ0, hkp, ⟨h18, h17⟩, hk0, hd0⟩ := mm_keepsIt (N := N) (f := f) ht h1 hw hst hd hq0
    have ht := hk0.mr ht
    have hl : mw_ μ0 l := ⟨h18.trans hl.1, hl.2.1, fun j hj => by rw [h17]; exact hl.2.2 j hj⟩
    have hq : μ0.1 19 = -1 ∨ (m + if mk k then 1 else 0) + kc x + kc y ≤ n := by
      rcases hq with q | q
      · exact .inl ((hk0.1 19 (by omega) (by omega)).trans q)
      · exact .inr (by simp only [kc] at q; omega)
    simp only [tr_dp] at hb hf
    rw [dX6_say_eq]
    unfold dX6_say
    rw [hkp, am_ci_ok]
    suffices hs : mm_sy g st n (m + kc (.inner nn k v x y)) l (wsd g (.inner nn k v x y) m (b + 1)) μ0 (if b2 (mk k && g m k) = 0 then jX6_say_17_11 (am_bk (mm_hop (mm_call N (f + 2))) am_no none kX6_say N) (mm_call N (f + 2)) μ0 (nI st) i (b2 (mk k && g m k)) else am_cv (mm_call N (f + 2) 27 [.inl (.ref 0), .inl (.int (ic 29))] (μ0)) am_tx fun s70 => jX6_say_17 (am_bk (mm_hop (mm_call N (f + 2))) am_no none kX6_say N) (mm_call N (f + 2)) s70 (nI st) i (b2 (mk k && g m k))) by
      intro q
      obtain ⟨μ', e, a1, a2, a3⟩ := hs q
      exact ⟨μ', e, a1, hk0.tr a2, a3⟩
    generalize hB : (mk k && g m k) = B
    have hend : ∀ (back : mm_bt) (μ : mm_S) (l : List Nat) (o1 o2 : Option am_V) (m' : Nat), mw_ μ l → mmd g st n μ m' → mm_sy g st n m' l (if B then [30] else []) μ (jX6_say_270 back (mm_call N (f + 2)) μ (nI st) i (b2 B) o1 o2) := by
      intro back μ l o1 o2 m' hl hd
      rw [jX6_say_270_eq]
      cases B with
      | false => exact mm_sy.nil hl hd
      | true =>
        simp (disch := omega) only [ic_lit, ic_m1, ic_m2, ic_m3, am_ix_nI, am_ci_ok, am_cl_ok, am_cv_ok, am_ct_ok, am_dz_nI, nI_inj, nI_leI', nI_ltI', nI_lt0, nI_ge0, nI_eq0, nI_le0, nI_gt0, m2lt, m2ge, m2eq, eq_m2, nI_add, nI_subI, nI_mulI, b2_eq0, b2_eq1, b2_and1, band1, band0, if_true, if_false, ite_true, ite_false, cond_true, cond_false, ↓reduceIte, Nat.reduceAdd, Nat.reduceMul, Nat.reduceSub, Nat.reduceEqDiff, lN_lt', lN_le', lN_inj, lc_lt, lc_gt, lc_le, lc_ge, lc_eq, Nat.reduceLT, Nat.reduceLeDiff, reduceCtorEq, Nat.add_zero, Nat.zero_add, Bool.true_eq_false]
        exact (mm_says_ hl hd).ret
    have hbody : ∀ (l : List Nat) (μ : mm_S), mr μ lo hi (.inner nn k v x y) i → mw_ μ l → mmd g st n μ (m + if mk k then 1 else 0) → (μ.1 19 = -1 ∨ (m + if mk k then 1 else 0) + kc x + kc y ≤ n) → mm_sy g st n (m + kc (.inner nn k v x y)) l ((if k = 0 then [v] else if k = 1 then dgl v (dg v - 1)
        else if k ≤ 6 then wsd g x (m + if mk k then 1 else 0) b ++ ([18 + k] ++ wsd g y ((m + if mk k then 1 else 0) + kc x) b)
        else if k = 7 then [25] ++ wsd g x (m + if mk k then 1 else 0) b
        else if k = 8 then [26] ++ (wsd g x (m + if mk k then 1 else 0) b ++ [27])
        else [v] ++ ([28] ++ wsd g x (m + if mk k then 1 else 0) b)) ++ (if B then [30] else [])) μ
        (jX6_say_17 (am_bk (mm_hop (mm_call N (f + 2))) am_no none kX6_say N) (mm_call N (f + 2)) μ (nI st) i (b2 B)) := by
      intro l μ ht hl hd hq
      have hkc : m + kc (.inner nn k v x y) = (m + if mk k then 1 else 0) + kc x + kc y := by simp only [kc]; omega
      have ht' := ht
      obtain ⟨j, _, hj, rfl, ek, ev, es, ed, hx, hy⟩ := ht'
      have hj9 : j < 450 := by omega
      obtain ⟨hwx, hwy, h3⟩ := id hw
      have hlf : ∀ {z : Tr}, tr_lf z = true → kc z = 0 := fun {z} q => by
        cases z with
        | leaf => rfl
        | inner _ _ _ _ _ => cases q
      rw [hkc, jX6_say_17_eq]
      simp (disch := omega) only [ic_lit, ic_m1, ic_m2, ic_m3, am_ix_nI, am_ci_ok, am_cl_ok, am_cv_ok, am_ct_ok, am_dz_nI, nI_inj, nI_leI', nI_ltI', nI_lt0, nI_ge0, nI_eq0, nI_le0, nI_gt0, m2lt, m2ge, m2eq, eq_m2, nI_add, nI_subI, nI_mulI, b2_eq0, b2_eq1, b2_and1, band1, band0, if_true, if_false, ite_true, ite_false, cond_true, cond_false, ↓reduceIte, Nat.reduceAdd, Nat.reduceMul, Nat.reduceSub, Nat.reduceEqDiff, lN_lt', lN_le', lN_inj, lc_lt, lc_gt, lc_le, lc_ge, lc_eq, Nat.reduceLT, Nat.reduceLeDiff, reduceCtorEq, Nat.add_zero, Nat.zero_add, ek, mm_isTwo k (by omega)]
      rcases h3 with ⟨rfl, hv, qx, qy⟩ | ⟨rfl, hv, qx, qy⟩ | ⟨h2, h6, -, qx, qy⟩ | ⟨h78, -, qx, qy⟩ | ⟨rfl, hv, qx, qy⟩
      · rw [hlf qx, hlf qy] 
        rw [tr_vI_0] at ev
        simp (disch := omega) only [ic_lit, ic_m1, ic_m2, ic_m3, am_ix_nI, am_ci_ok, am_cl_ok, am_cv_ok, am_ct_ok, am_dz_nI, nI_inj, nI_leI', nI_ltI', nI_lt0, nI_ge0, nI_eq0, nI_le0, nI_gt0, m2lt, m2ge, m2eq, eq_m2, nI_add, nI_subI, nI_mulI, b2_eq0, b2_eq1, b2_and1, band1, band0, if_true, if_false, ite_true, ite_false, cond_true, cond_false, ↓reduceIte, Nat.reduceAdd, Nat.reduceMul, Nat.reduceSub, Nat.reduceEqDiff, lN_lt', lN_le', lN_inj, lc_lt, lc_gt, lc_le, lc_ge, lc_eq, Nat.reduceLT, Nat.reduceLeDiff, reduceCtorEq, Nat.add_zero, Nat.zero_add, ev, decide_eq_false (show ¬ (2 ≤ 0 ∧ 0 ≤ 6) by omega)]
        refine (mm_says_ hl hd).seq fun μ1 hl1 q1 hd1 => ?_
        rw [jX6_say_270_183_eq]
        exact hend _ μ1 _ _ _ _ hl1 hd1
      · rw [hlf qx, hlf qy]
        simp (disch := omega) only [ic_lit, ic_m1, ic_m2, ic_m3, am_ix_nI, am_ci_ok, am_cl_ok, am_cv_ok, am_ct_ok, am_dz_nI, nI_inj, nI_leI', nI_ltI', nI_lt0, nI_ge0, nI_eq0, nI_le0, nI_gt0, m2lt, m2ge, m2eq, eq_m2, nI_add, nI_subI, nI_mulI, b2_eq0, b2_eq1, b2_and1, band1, band0, if_true, if_false, ite_true, ite_false, cond_true, cond_false, ↓reduceIte, Nat.reduceAdd, Nat.reduceMul, Nat.reduceSub, Nat.reduceEqDiff, lN_lt', lN_le', lN_inj, lc_lt, lc_gt, lc_le, lc_ge, lc_eq, Nat.reduceLT, Nat.reduceLeDiff, reduceCtorEq, Nat.add_zero, Nat.zero_add, decide_eq_false (show ¬ (2 ≤ 1 ∧ 1 ≤ 6) by omega)]
        refine mm_num0 (N := N) hw h1 ht (nI st) (b2 B) (f + 1) N (fun r => mm_sy g st n m l (dgl v (dg v - 1) ++ if B then [30] else []) μ r) hN (fun k hk => ?_) (dg v - 1) 1 N (by have := dg_le v; omega) (by omega) (by have := dg_le v; omega)
        have := mm_num (N := N) (st := st) (g := g) (n := n) hw h1 (nI st) B (f + 1) m (fun back μ l o1 o2 a b => hend back μ l o1 o2 m a b) (dg v - 1) k l μ (by have := dg_le v; omega) (by have := dg_le v; omega) ht hl hd
        rw [show dg v - 1 + 1 = dg v by have := dg_le v; omega] at this
        exact this
      · simp only [eq_false (show ¬ (k = 0) by omega), eq_false (show ¬ (k = 1) by omega), eq_true (show 2 ≤ k by omega), eq_true (show k ≤ 6 by omega), and_self, decide_true, Bool.true_eq_false, if_true, if_false, List.append_assoc]
        refine (ihx (m + if mk k then 1 else 0) b l μ _ (f + 2) hx hwx qx hl hd (hq.imp id (fun q => by omega)) (by omega) (by omega)).seq fun μ1 hl1 q1 hd1 => ?_
        have ht1 := q1.mr ht
        have hx1 := q1.mr hx
        have e1 : μ1.2.1 = fun c => μ1.2.1 c := rfl
        rw [q1.2.1 1 (by omega), ek, nI_add]
        refine (mm_says_ hl1 hd1).seq fun μ2 hl2 q2 hd2 => ?_
        have hy2 := q2.mr (q1.mr hy)
        rw [q2.2.1 4 (by omega), q1.2.1 4 (by omega)]
        have h19 := (q2.1 19 (by omega) (by omega)).trans (q1.1 19 (by omega) (by omega))
        refine (ihy ((m + if mk k then 1 else 0) + kc x) b _ μ2 _ (f + 2) hy2 hwy qy hl2 hd2 (by rw [h19]; exact hq) (by omega) (by omega)).seq fun μ3 hl3 q3 hd3 => ?_
        rw [jX6_say_270_67_eq]
        exact hend _ μ3 _ _ _ _ hl3 hd3
      · rw [hlf qy]
        simp only [eq_false (show ¬ (k = 0) by omega), eq_false (show ¬ (k = 1) by omega), eq_false (show ¬ (k ≤ 6) by omega), and_false, decide_false, if_true, if_false]
        rcases h78 with rfl | rfl
        · simp only [if_true, jX6_say_222_200_eq, jX6_say_222_eq, List.append_assoc]
          refine (mm_says_ hl hd).seq fun μ1 hl1 q1 hd1 => ?_
          simp (disch := omega) only [ic_lit, ic_m1, ic_m2, ic_m3, am_ix_nI, am_ci_ok, am_cl_ok, am_cv_ok, am_ct_ok, am_dz_nI, nI_inj, nI_leI', nI_ltI', nI_lt0, nI_ge0, nI_eq0, nI_le0, nI_gt0, m2lt, m2ge, m2eq, eq_m2, nI_add, nI_subI, nI_mulI, b2_eq0, b2_eq1, b2_and1, band1, band0, if_true, if_false, ite_true, ite_false, cond_true, cond_false, ↓reduceIte, Nat.reduceAdd, Nat.reduceMul, Nat.reduceSub, Nat.reduceEqDiff, lN_lt', lN_le', lN_inj, lc_lt, lc_gt, lc_le, lc_ge, lc_eq, Nat.reduceLT, Nat.reduceLeDiff, reduceCtorEq, Nat.add_zero, Nat.zero_add, q1.2.1 1, q1.2.1 3, ek, jX6_say_242_236_eq, jX6_say_242_eq]
          have h19 := q1.1 19 (by omega) (by omega)
          refine (ihx _ b _ μ1 _ (f + 2) (q1.mr hx) hwx qx hl1 hd1 (by rw [h19]; rw [hlf qy] at hq; exact hq) (by omega) (by omega)).seq fun μ2 hl2 q2 hd2 => ?_
          simp (disch := omega) only [ic_lit, ic_m1, ic_m2, ic_m3, am_ix_nI, am_ci_ok, am_cl_ok, am_cv_ok, am_ct_ok, am_dz_nI, nI_inj, nI_leI', nI_ltI', nI_lt0, nI_ge0, nI_eq0, nI_le0, nI_gt0, m2lt, m2ge, m2eq, eq_m2, nI_add, nI_subI, nI_mulI, b2_eq0, b2_eq1, b2_and1, band1, band0, if_true, if_false, ite_true, ite_false, cond_true, cond_false, ↓reduceIte, Nat.reduceAdd, Nat.reduceMul, Nat.reduceSub, Nat.reduceEqDiff, lN_lt', lN_le', lN_inj, lc_lt, lc_gt, lc_le, lc_ge, lc_eq, Nat.reduceLT, Nat.reduceLeDiff, reduceCtorEq, Nat.add_zero, Nat.zero_add, q2.2.1 1, q1.2.1 1, ek, jX6_say_270_264_eq]
          exact hend _ μ2 _ _ _ _ hl2 hd2
        · simp only [eq_false (show ¬ (8 = 7) by omega), if_true, if_false, jX6_say_222_216_eq, jX6_say_222_eq, List.append_assoc]
          refine (mm_says_ hl hd).seq fun μ1 hl1 q1 hd1 => ?_
          simp (disch := omega) only [ic_lit, ic_m1, ic_m2, ic_m3, am_ix_nI, am_ci_ok, am_cl_ok, am_cv_ok, am_ct_ok, am_dz_nI, nI_inj, nI_leI', nI_ltI', nI_lt0, nI_ge0, nI_eq0, nI_le0, nI_gt0, m2lt, m2ge, m2eq, eq_m2, nI_add, nI_subI, nI_mulI, b2_eq0, b2_eq1, b2_and1, band1, band0, if_true, if_false, ite_true, ite_false, cond_true, cond_false, ↓reduceIte, Nat.reduceAdd, Nat.reduceMul, Nat.reduceSub, Nat.reduceEqDiff, lN_lt', lN_le', lN_inj, lc_lt, lc_gt, lc_le, lc_ge, lc_eq, Nat.reduceLT, Nat.reduceLeDiff, reduceCtorEq, Nat.add_zero, Nat.zero_add, q1.2.1 1, q1.2.1 3, ek, jX6_say_242_236_eq, jX6_say_242_eq]
          have h19 := q1.1 19 (by omega) (by omega)
          refine (ihx _ b _ μ1 _ (f + 2) (q1.mr hx) hwx qx hl1 hd1 (by rw [h19]; rw [hlf qy] at hq; exact hq) (by omega) (by omega)).seq fun μ2 hl2 q2 hd2 => ?_
          simp (disch := omega) only [ic_lit, ic_m1, ic_m2, ic_m3, am_ix_nI, am_ci_ok, am_cl_ok, am_cv_ok, am_ct_ok, am_dz_nI, nI_inj, nI_leI', nI_ltI', nI_lt0, nI_ge0, nI_eq0, nI_le0, nI_gt0, m2lt, m2ge, m2eq, eq_m2, nI_add, nI_subI, nI_mulI, b2_eq0, b2_eq1, b2_and1, band1, band0, if_true, if_false, ite_true, ite_false, cond_true, cond_false, ↓reduceIte, Nat.reduceAdd, Nat.reduceMul, Nat.reduceSub, Nat.reduceEqDiff, lN_lt', lN_le', lN_inj, lc_lt, lc_gt, lc_le, lc_ge, lc_eq, Nat.reduceLT, Nat.reduceLeDiff, reduceCtorEq, Nat.add_zero, Nat.zero_add, q2.2.1 1, q1.2.1 1, ek]
          refine (mm_says_ hl2 hd2).seq fun μ3 hl3 q3 hd3 => ?_
          exact hend _ μ3 _ _ _ _ hl3 hd3
      · rw [hlf qy]
        rw [tr_vI_9] at ev
        simp (disch := omega) only [ic_lit, ic_m1, ic_m2, ic_m3, am_ix_nI, am_ci_ok, am_cl_ok, am_cv_ok, am_ct_ok, am_dz_nI, nI_inj, nI_leI', nI_ltI', nI_lt0, nI_ge0, nI_eq0, nI_le0, nI_gt0, m2lt, m2ge, m2eq, eq_m2, nI_add, nI_subI, nI_mulI, b2_eq0, b2_eq1, b2_and1, band1, band0, if_true, if_false, ite_true, ite_false, cond_true, cond_false, ↓reduceIte, Nat.reduceAdd, Nat.reduceMul, Nat.reduceSub, Nat.reduceEqDiff, lN_lt', lN_le', lN_inj, lc_lt, lc_gt, lc_le, lc_ge, lc_eq, Nat.reduceLT, Nat.reduceLeDiff, reduceCtorEq, Nat.add_zero, Nat.zero_add, ev, decide_eq_false (show ¬ (2 ≤ 9 ∧ 9 ≤ 6) by omega), jX6_say_222_eq]
        rw [List.append_assoc, List.append_assoc]
        refine (mm_says_ hl hd).seq fun μ1 hl1 q1 hd1 => ?_
        simp (disch := omega) only [ic_lit, ic_m1, ic_m2, ic_m3, am_ix_nI, am_ci_ok, am_cl_ok, am_cv_ok, am_ct_ok, am_dz_nI, nI_inj, nI_leI', nI_ltI', nI_lt0, nI_ge0, nI_eq0, nI_le0, nI_gt0, m2lt, m2ge, m2eq, eq_m2, nI_add, nI_subI, nI_mulI, b2_eq0, b2_eq1, b2_and1, band1, band0, if_true, if_false, ite_true, ite_false, cond_true, cond_false, ↓reduceIte, Nat.reduceAdd, Nat.reduceMul, Nat.reduceSub, Nat.reduceEqDiff, lN_lt', lN_le', lN_inj, lc_lt, lc_gt, lc_le, lc_ge, lc_eq, Nat.reduceLT, Nat.reduceLeDiff, reduceCtorEq, Nat.add_zero, Nat.zero_add, q1.2.1 1, ek]
        refine (mm_says_ hl1 hd1).seq fun μ2 hl2 q2 hd2 => ?_
        simp (disch := omega) only [ic_lit, ic_m1, ic_m2, ic_m3, am_ix_nI, am_ci_ok, am_cl_ok, am_cv_ok, am_ct_ok, am_dz_nI, nI_inj, nI_leI', nI_ltI', nI_lt0, nI_ge0, nI_eq0, nI_le0, nI_gt0, m2lt, m2ge, m2eq, eq_m2, nI_add, nI_subI, nI_mulI, b2_eq0, b2_eq1, b2_and1, band1, band0, if_true, if_false, ite_true, ite_false, cond_true, cond_false, ↓reduceIte, Nat.reduceAdd, Nat.reduceMul, Nat.reduceSub, Nat.reduceEqDiff, lN_lt', lN_le', lN_inj, lc_lt, lc_gt, lc_le, lc_ge, lc_eq, Nat.reduceLT, Nat.reduceLeDiff, reduceCtorEq, Nat.add_zero, Nat.zero_add, q2.2.1 3, q1.2.1 3, jX6_say_242_eq]
        have h19 := (q2.1 19 (by omega) (by omega)).trans (q1.1 19 (by omega) (by omega))
        refine (ihx _ b _ μ2 _ (f + 2) (q2.mr (q1.mr hx)) hwx qx hl2 hd2 (by rw [h19]; rw [hlf qy] at hq; exact hq) (by omega) (by omega)).seq fun μ3 hl3 q3 hd3 => ?_
        simp (disch := omega) only [ic_lit, ic_m1, ic_m2, ic_m3, am_ix_nI, am_ci_ok, am_cl_ok, am_cv_ok, am_ct_ok, am_dz_nI, nI_inj, nI_leI', nI_ltI', nI_lt0, nI_ge0, nI_eq0, nI_le0, nI_gt0, m2lt, m2ge, m2eq, eq_m2, nI_add, nI_subI, nI_mulI, b2_eq0, b2_eq1, b2_and1, band1, band0, if_true, if_false, ite_true, ite_false, cond_true, cond_false, ↓reduceIte, Nat.reduceAdd, Nat.reduceMul, Nat.reduceSub, Nat.reduceEqDiff, lN_lt', lN_le', lN_inj, lc_lt, lc_gt, lc_le, lc_ge, lc_eq, Nat.reduceLT, Nat.reduceLeDiff, reduceCtorEq, Nat.add_zero, Nat.zero_add, q3.2.1 1, q2.2.1 1, q1.2.1 1, ek, jX6_say_270_264_eq]
        exact hend _ μ3 _ _ _ _ hl3 hd3
    simp only [wsd, hB]
    cases B with
    | false =>
      have hb' := hbody l μ0 ht hl hd0 hq
      simp only [Bool.false_eq_true, if_false, b2_eq0, if_true, List.nil_append, jX6_say_17_11_eq] at hb' ⊢
      exact hb'
    | true =>
      simp only [b2_eq0, Bool.true_eq_false, if_true, if_false, ic_lit]
      refine (mm_says_ hl hd0).seq fun μ1 hl1 q1 hd1 => ?_
      have h19 := q1.1 19 (by omega) (by omega)
      have hb' := hbody _ μ1 (q1.mr ht) hl1 hd1 (by rw [h19]; exact hq)
      simp only [if_true] at hb'
      exact hb'
/-- all of it, by a style -/
theorem mm_sayAll {K : Nat → Bool} {lo hi : Nat} {t : Tr} {i : Int32} {μ : mm_S} {f b : Nat} (h1 : hi ≤ 450) (hst : st < 8) (hN : 10 ≤ N) (ht : mr μ lo hi t i) (hw : tr_wf t) (ht0 : tr_lf t = false) (hK : ∀ k, k < 10 → μ.2.1 8 (10 * st + k) = b2 (K k)) (hKm : ∀ k, K k = true → mk k = true) (hb : tr_dp t ≤ b) (hl : (wsd (fun _ k => K k) t 0 b).length ≤ 256) (hf : tr_dp t + 3 < f) :
    ∃ μ', mm_call N (f) 24 [.inl (.ref 0), .inl (.int (nI st)), .inl (.int (i))] (μ) = some (.inl none, μ') ∧ mw_ μ' (wsd (fun _ k => K k) t 0 b) ∧ (∀ j, j ≠ 18 → j ≠ 19 → j ≠ 20 → μ'.1 j = μ.1 j) ∧ (∀ c, c ≠ 17 → μ'.2.1 c = μ.2.1 c) ∧ μ'.2.2 = μ.2.2 := by
  obtain ⟨f, rfl⟩ : ∃ f', f = f' + 1 := ⟨f - 1, by omega⟩
  rw [dX6_sayAll_eq]
  unfold dX6_sayAll
  have hK0 : ∀ k, k < 10 → mk k = false → K k = false := fun k _ q => by
    cases h : K k with
    | false => rfl
    | true => rw [hKm k h] at q; cases q
  obtain ⟨μ', e, a1, a2, -⟩ := mm_say (N := N) (g := fun _ k => K k) (st := st) (n := 0) h1 hst hN t 0 b [] (mm_p (mm_p μ 18 (ic 0)) 19 (ic (-1))) i f (mr_of (μ := μ) (μ' := mm_p (mm_p μ 18 (ic 0)) 19 (ic (-1))) (lo := lo) (hi := hi) (fun _ _ _ _ _ _ => rfl) t i ht) hw ht0 ⟨rfl, by simp, fun j hj => by simp at hj⟩ ⟨fun k hk q => by rw [show (mm_p (mm_p μ 18 (ic 0)) 19 (ic (-1))).2.1 8 (10 * st + k) = μ.2.1 8 (10 * st + k) from rfl, hK k hk, hK0 k hk q], .inl ⟨by rw [mm_p_get, if_pos rfl, ic_m1], fun k m' hk _ => hK k hk⟩⟩ (.inl (by rw [mm_p_get, if_pos rfl, ic_m1])) hb (by omega) (by simpa using hl)
  rw [e, am_cv_ok]
  refine ⟨μ', rfl, by simpa using a1, fun j h1 h2 h3 => ?_, a2.2.1, a2.2.2⟩
  rw [a2.1 j h1 h3]
  show va_up (va_up μ.1 18 _) 19 _ j = _
  rw [va_up_ne _ _ h2, va_up_ne _ _ h1]
end
