set_option maxRecDepth 100000
/-! THE COMPONENT MAKES A READING BY ITS PLACE. -/
theorem find_sm (f : Nat → Nat) : ∀ (n a k : Nat), k < sm f a n → ∃ c r, c < n ∧ k = sm f a c + r ∧ r < f (a + c)
  | 0, a, k, h => by simp [sm] at h
  | n + 1, a, k, h => by
    simp only [sm] at h
    by_cases e : k < f a
    · exact ⟨0, k, by omega, by simp [sm], e⟩
    · obtain ⟨c, r, h1, h2, h3⟩ := find_sm f n (a + 1) (k - f a) (by omega)
      refine ⟨c + 1, r, by omega, ?_, ?_⟩
      · simp only [sm]
        omega
      · rw [show a + (c + 1) = a + 1 + c by omega]
        exact h3
/-- numbered part by part from b on -/
def tr_num : Tr → Nat → Prop
  | .leaf, _ => True
  | .inner n _ _ x y, b => n = b + tr_sz x + tr_sz y ∧ tr_num x b ∧ tr_num y (b + tr_sz x)
/-- its parts, each ahead of what it is a part of -/
def tr_post : Tr → List Tr
  | .leaf => []
  | .inner n k v x y => tr_post x ++ (tr_post y ++ [.inner n k v x y])
theorem tr_post_len : ∀ t : Tr, (tr_post t).length = tr_sz t
  | .leaf => rfl
  | .inner n k v x y => by
    simp only [tr_post, List.length_append, List.length_singleton, tr_post_len x, tr_post_len y, tr_sz]
    omega
/-- what a place's value is: of two parts by x's words -/
def hv (V : EV) (kk : Nat) (b : Bool) (i j w : Nat) : Nat := if 2 ≤ kk ∧ kk ≤ 6 then kw_ V kk b i j w else if w = 1 then kw_ V kk b i j 0 else 0
theorem hv_sum (V : EV) {kk i j : Nat} {b : Bool} (hij : i < j) : sm (hv V kk b i j) 1 (j - i) = cK V (ct V) kk b i j := by
  by_cases h2 : 2 ≤ kk ∧ kk ≤ 6
  · have e : ∀ w, 1 ≤ w → hv V kk b i j w = if gK V kk b i j then tm V (ct V) kk (i + bN b) (j - bN b) w else 0 := fun w hw => by
      unfold hv kw_ pw
      rw [if_pos h2, if_neg (show ¬ w = 0 by omega)]
    rw [sm_ext (g := fun w => if gK V kk b i j then tm V (ct V) kk (i + bN b) (j - bN b) w else 0) _ _ (fun m h1 _ => e m h1)]
    unfold cK
    cases hg : gK V kk b i j with
    | false => exact sm_zero _ _ fun _ _ _ => rfl
    | true =>
      rw [if_pos rfl, cP_two h2.1 h2.2]
      have hd : j - i = (j - bN b - (i + bN b)) + (j - i - (j - bN b - (i + bN b))) := by omega
      have h1 : sm (fun w => if true = true then tm V (ct V) kk (i + bN b) (j - bN b) w else 0) 1 (j - i) = sm (tm V (ct V) kk (i + bN b) (j - bN b)) 1 (j - i) := sm_ext _ _ fun m _ _ => if_pos rfl
      have h0 : sm (tm V (ct V) kk (i + bN b) (j - bN b)) (1 + (j - bN b - (i + bN b))) (j - i - (j - bN b - (i + bN b))) = 0 := sm_zero _ _ fun m h1 _ => by
        unfold tm
        rw [if_neg (by omega)]
      rw [h1, hd, sm_app, h0, Nat.add_zero]
  · rw [sm_one 1 (j - i) 1 (Nat.le_refl _) (by omega) (fun m _ _ h3 => by unfold hv; rw [if_neg h2, if_neg h3])]
    unfold hv
    rw [if_neg h2, if_pos rfl, kw_0]
theorem hv_lt (V : EV) {kk i j w : Nat} {b : Bool} (hk : kk ≤ 9) (h : j - i ≤ 20) : hv V kk b i j w ≤ 20000000 := by
  have h1 := cP_lt V (k := kk) (i := i + bN b) (j := j - bN b) hk (by omega)
  unfold hv kw_ pw
  by_cases h2 : 2 ≤ kk ∧ kk ≤ 6
  · have h3 := tm_le V (C := ct V) (i := i + bN b) (j := j - bN b) (w := w) h2.1 h2.2
    rw [if_pos h2]
    split
    · split <;> omega
    · omega
  · rw [if_neg h2]
    split
    · split
      · rw [if_pos rfl]
        exact h1
      · omega
    · omega
section
variable {N : Nat} {V : EV} {h : Nat} {σ : cs_S}
theorem cs_rdStep {f i j kk w L : Nat} {b : Bool} (hE : cE σ V h) (hij : i < j) (hj : j ≤ h) (hT : cT σ V h (j - i)) (hN : 30 ≤ N) (hk : kk ≤ 9) (hw : 1 ≤ w ∧ w ≤ j - i) (hL : L < 2 ^ 62) (back : cs_bt) (k0 : Int64) (t5 : Tr) (o11 o12 : Option am_V) :
    ∃ o11' o12' : Option am_V, jX1_reading_25 back (cs_call N (f + 4)) σ (nI i) (nI j) k0 t5 (lN L) (nI kk) (nI (bN b)) (nI w) o11 o12 =
      if L < hv V kk b i j w then am_ct (cs_call N (f + 4) 39 [.inl (.ref 0), .inl (.int (nI kk)), .inl (.int (nI (i + bN b))), .inl (.int (nI (j - bN b))), .inl (.int (nI w)), .inl (.long (lN L)), .inr (t5)] (σ)) am_tx (fun r8 s7 => some (.inl (some (.inr (r8))), s7))
      else back 25 [some (.inl (.ref 0)), some (.inl (.int (nI i))), some (.inl (.int (nI j))), some (.inl (.long k0)), none, some (.inr t5), some (.inl (.long (lN (L - hv V kk b i j w)))), none, some (.inl (.int (nI kk))), some (.inl (.int (nI (bN b)))), some (.inl (.int (nI (w + 1)))), o11', o12', none] [] σ := by
  have h20 := hE.1
  have hlt := hv_lt V (kk := kk) (i := i) (j := j) (w := w) (b := b) hk (by omega)
  have hbN : bN b ≤ 1 := by cases b <;> simp [bN]
  have h98 : ∀ (v11 : Int32) (o12 : Option am_V), jX1_reading_98 back (cs_call N (f + 4)) σ (nI i) (nI j) k0 t5 (lN L) (nI kk) (nI (bN b)) (nI w) v11 o12 (lN (hv V kk b i j w)) =
      if L < hv V kk b i j w then am_ct (cs_call N (f + 4) 39 [.inl (.ref 0), .inl (.int (nI kk)), .inl (.int (nI (i + bN b))), .inl (.int (nI (j - bN b))), .inl (.int (nI w)), .inl (.long (lN L)), .inr (t5)] (σ)) am_tx (fun r8 s7 => some (.inl (some (.inr (r8))), s7))
      else back 25 [some (.inl (.ref 0)), some (.inl (.int (nI i))), some (.inl (.int (nI j))), some (.inl (.long k0)), none, some (.inr t5), some (.inl (.long (lN (L - hv V kk b i j w)))), none, some (.inl (.int (nI kk))), some (.inl (.int (nI (bN b)))), some (.inl (.int (nI (w + 1)))), some (.inl (.int v11)), some (.inl (.long (lN (hv V kk b i j w)))), none] [] σ := by
    intro v11 o12
    rw [jX1_reading_98_eq]
    simp only [lc_ge, lN_le' (show hv V kk b i j w < 2 ^ 62 by omega) hL]
    by_cases hc : L < hv V kk b i j w
    · rw [if_pos hc, if_neg (by omega), nI_add, nI_subI (by omega)]
    · rw [if_neg hc, if_pos (by omega), lN_sub (by omega), ic_lit, nI_add]
  have hof := fun wd hwd hw0 => cs_ofKind (N := N) (f := f) (b := b) (wd := wd) hE hk hij hj hT hwd hw0 hN
  have h68 : ∀ (v11 : Int32) (o12 : Option am_V) (wd : Nat), wd ≤ 20 → (¬ (2 ≤ kk ∧ kk ≤ 6) → wd = 0) → v11 = b2 (decide (wd ≠ 0)) → (wd ≠ 0 → wd = w) → jX1_reading_68 back (cs_call N (f + 4)) σ (nI i) (nI j) k0 t5 (lN L) (nI kk) (nI (bN b)) (nI w) v11 o12 = jX1_reading_98 back (cs_call N (f + 4)) σ (nI i) (nI j) k0 t5 (lN L) (nI kk) (nI (bN b)) (nI w) v11 o12 (lN (kw_ V kk b i j wd)) := by
    intro v11 o12 wd hwd hw0 hv11 hwd'
    have h82 : jX1_reading_82 back (cs_call N (f + 4)) σ (nI i) (nI j) k0 t5 (lN L) (nI kk) (nI (bN b)) (nI w) v11 o12 (b2 b) (nI kk) = jX1_reading_98 back (cs_call N (f + 4)) σ (nI i) (nI j) k0 t5 (lN L) (nI kk) (nI (bN b)) (nI w) v11 o12 (lN (kw_ V kk b i j wd)) := by
      rw [jX1_reading_82_eq, hv11]
      simp only [b2_eq0]
      by_cases h0 : wd = 0
      · rw [if_pos (by simp [h0]), jX1_reading_95_eq, ic_lit]
        have := hof 0 (by omega) (fun _ => rfl)
        rw [this, am_cl_ok, h0]
      · rw [if_neg (by simp [h0]), jX1_reading_95_94_eq, jX1_reading_95_eq]
        have := hof wd hwd hw0
        rw [← hwd' h0, this, am_cl_ok]
    rw [jX1_reading_68_eq, ic_lit]
    cases b with
    | false =>
      rw [if_neg (by decide), ← h82]
      rfl
    | true =>
      rw [if_pos (show nI (bN true) = nI 1 from rfl), jX1_reading_82_81_eq, ← h82]
      rfl
  rw [jX1_reading_25_eq]
  simp (disch := omega) only [ic_lit, ic_m1, ic_m2, ic_m3, am_ix_nI, am_ci_ok, am_cl_ok, am_cv_ok, am_ct_ok, am_dz_nI, nI_inj, nI_leI', nI_ltI', nI_lt0, nI_ge0, nI_eq0, nI_le0, nI_gt0, m2lt, m2ge, m2eq, eq_m2, nI_add, nI_subI, nI_mulI, b2_eq0, b2_eq1, b2_and1, band1, band0, if_true, if_false, ite_true, ite_false, cond_true, cond_false, ↓reduceIte, Nat.reduceAdd, Nat.reduceMul, Nat.reduceSub, Nat.reduceEqDiff, lN_lt', lN_le', lN_inj, lc_lt, lc_gt, lc_le, lc_ge, lc_eq, Nat.reduceLT, Nat.reduceLeDiff, reduceCtorEq, Nat.add_zero, Nat.zero_add]
  rw [if_neg (by omega)]
  by_cases h2 : 2 ≤ kk ∧ kk ≤ 6
  · rw [if_neg (by omega), if_neg (by omega), jX1_reading_51_50_eq, jX1_reading_51_eq]
    have e : hv V kk b i j w = kw_ V kk b i j w := by
      unfold hv
      rw [if_pos h2]
    have h1 := h68 (nI 1) o12 w (by omega) (fun q => absurd h2 q) (by rw [decide_eq_true (by omega), b2_t]) (fun _ => rfl)
    simp only [jX1_reading_68_59_eq, jX1_reading_68_64_eq]
    rw [h1, ← e, h98]
    refine ⟨some (.inl (.int (nI 1))), some (.inl (.long (lN (hv V kk b i j w)))), ?_⟩
    rw [ic_lit]
    by_cases hw1 : w ≤ 1
    · rw [if_pos ((nI_leI (by omega) (by omega)).mpr hw1)]
    · rw [if_neg (fun q => hw1 ((nI_leI (by omega) (by omega)).mp q)), if_neg (by decide)]
  · have e : jX1_reading_50 back (cs_call N (f + 4)) σ (nI i) (nI j) k0 t5 (lN L) (nI kk) (nI (bN b)) (nI w) o11 o12 = jX1_reading_98 back (cs_call N (f + 4)) σ (nI i) (nI j) k0 t5 (lN L) (nI kk) (nI (bN b)) (nI w) (nI 0) o12 (lN (hv V kk b i j w)) := by
      have h1 := h68 (nI 0) o12 0 (by omega) (fun _ => rfl) (by rw [decide_eq_false (by omega), b2_f]) (fun q => absurd rfl q)
      rw [jX1_reading_50_eq, jX1_reading_51_eq, ic_lit, ic_lit, jX1_reading_68_59_eq, jX1_reading_68_64_eq, jX1_reading_98_68_eq, h1]
      by_cases hw1 : w ≤ 1
      · rw [if_pos ((nI_leI (by omega) (by omega)).mpr hw1)]
        unfold hv
        rw [if_neg h2, if_pos (by omega)]
      · rw [if_neg (fun q => hw1 ((nI_leI (by omega) (by omega)).mp q)), if_pos (by decide)]
        unfold hv
        rw [if_neg h2, if_neg (by omega)]
    refine ⟨some (.inl (.int (nI 0))), some (.inl (.long (lN (hv V kk b i j w)))), ?_⟩
    by_cases hk2 : kk < 2
    · rw [if_pos hk2, jX1_reading_50_39_eq, e, h98]
    · rw [if_neg hk2, if_pos (by omega), jX1_reading_50_46_eq, e, h98]
/-- a place is found -/
theorem cs_rdIn {f i j kk : Nat} {b : Bool} (hE : cE σ V h) (hij : i < j) (hj : j ≤ h) (hT : cT σ V h (j - i)) (hN : 30 ≤ N) (hk : kk ≤ 9) (k0 : Int64) (t5 : Tr) (P : am_R cs_S → Prop) (n0 : Nat) : ∀ (q w n L : Nat) (o11 o12 : Option am_V), 1 ≤ w → w + q = j - i + 1 → n0 + q ≤ n → L < 2 ^ 62 →
    (∀ w' r, w' < q → L = sm (hv V kk b i j) w w' + r → r < hv V kk b i j (w + w') → P (am_ct (cs_call N (f + 4) 39 [.inl (.ref 0), .inl (.int (nI kk)), .inl (.int (nI (i + bN b))), .inl (.int (nI (j - bN b))), .inl (.int (nI (w + w'))), .inl (.long (lN r)), .inr (t5)] (σ)) am_tx (fun r8 s7 => some (.inl (some (.inr (r8))), s7)))) →
    (∀ n' r o10 o11 o12, n0 ≤ n' → L = sm (hv V kk b i j) w q + r → P (am_bk (cs_hop 1 (cs_call N (f + 4))) am_no (some (.object "FormulaVoice$Node")) kX1_reading n' 16 [some (.inl (.ref 0)), some (.inl (.int (nI i))), some (.inl (.int (nI j))), some (.inl (.long k0)), none, some (.inr t5), some (.inl (.long (lN r))), none, some (.inl (.int (nI kk))), some (.inl (.int (nI (bN b + 1)))), o10, o11, o12, none] [] σ)) →
    P (jX1_reading_25 (am_bk (cs_hop 1 (cs_call N (f + 4))) am_no (some (.object "FormulaVoice$Node")) kX1_reading n) (cs_call N (f + 4)) σ (nI i) (nI j) k0 t5 (lN L) (nI kk) (nI (bN b)) (nI w) o11 o12) := by
  have h20 := hE.1
  intro q
  induction q with
  | zero =>
    intro w n L o11 o12 hw hq hn hL _ hrest
    rw [jX1_reading_25_eq]
    simp (disch := omega) only [ic_lit, ic_m1, ic_m2, ic_m3, am_ix_nI, am_ci_ok, am_cl_ok, am_cv_ok, am_ct_ok, am_dz_nI, nI_inj, nI_leI', nI_ltI', nI_lt0, nI_ge0, nI_eq0, nI_le0, nI_gt0, m2lt, m2ge, m2eq, eq_m2, nI_add, nI_subI, nI_mulI, b2_eq0, b2_eq1, b2_and1, band1, band0, if_true, if_false, ite_true, ite_false, cond_true, cond_false, ↓reduceIte, Nat.reduceAdd, Nat.reduceMul, Nat.reduceSub, Nat.reduceEqDiff, lN_lt', lN_le', lN_inj, lc_lt, lc_gt, lc_le, lc_ge, lc_eq, Nat.reduceLT, Nat.reduceLeDiff, reduceCtorEq, Nat.add_zero, Nat.zero_add]
    rw [if_pos (by omega)]
    exact hrest n L _ _ _ (by omega) (by simp [sm])
  | succ q ih =>
    intro w n L o11 o12 hw hq hn hL hfound hrest
    obtain ⟨n, rfl⟩ : ∃ n', n = n' + 1 := ⟨n - 1, by omega⟩
    obtain ⟨o11', o12', e⟩ := cs_rdStep (N := N) (f := f) (b := b) (L := L) hE hij hj hT hN hk ⟨hw, by omega⟩ hL (am_bk (cs_hop 1 (cs_call N (f + 4))) am_no (some (.object "FormulaVoice$Node")) kX1_reading (n + 1)) k0 t5 o11 o12
    rw [e]
    by_cases hc : L < hv V kk b i j w
    · rw [if_pos hc]
      exact hfound 0 L (by omega) (by simp [sm]) hc
    · rw [if_neg hc, jX1_reading_25_bk]
      refine ih (w + 1) n (L - hv V kk b i j w) _ _ (by omega) (by omega) (by omega) (by omega) (fun w' r h1 h2 h3 => ?_) (fun n' r o10 o11 o12 h1 h2 => ?_)
      · have := hfound (w' + 1) r (by omega) (by simp only [sm]; omega) (by rw [show w + (w' + 1) = w + 1 + w' by omega]; exact h3)
        rw [show w + (w' + 1) = w + 1 + w' by omega] at this
        exact this
      · exact hrest n' r o10 o11 o12 h1 (by simp only [sm]; omega)
theorem cs_rdKinds {f i j : Nat} (hE : cE σ V h) (hij : i < j) (hj : j ≤ h) (hT : cT σ V h (j - i)) (hN : 30 ≤ N) (k0 : Int64) (t5 : Tr) (P : am_R cs_S → Prop)
    (hfound : ∀ kk b w r, kk ≤ 9 → 1 ≤ w → w ≤ j - i → r < hv V kk b i j w → k0 = lN (sm (cc20 V (ct V) i j) 0 (2 * kk + bN b) + (sm (hv V kk b i j) 1 (w - 1) + r)) → P (am_ct (cs_call N (f + 4) 39 [.inl (.ref 0), .inl (.int (nI kk)), .inl (.int (nI (i + bN b))), .inl (.int (nI (j - bN b))), .inl (.int (nI w)), .inl (.long (lN r)), .inr (t5)] (σ)) am_tx (fun r8 s7 => some (.inl (some (.inr (r8))), s7)))) :
    ∀ (q kk n L : Nat) (o9 o10 o11 o12 : Option am_V), kk + q = 10 → 60 * q < n → L < 2 ^ 62 → k0 = lN (sm (cc20 V (ct V) i j) 0 (2 * kk) + L) → L < sm (cc20 V (ct V) i j) (2 * kk) (20 - 2 * kk) →
    P (jX1_reading_6 (am_bk (cs_hop 1 (cs_call N (f + 4))) am_no (some (.object "FormulaVoice$Node")) kX1_reading n) (cs_call N (f + 4)) σ (nI i) (nI j) k0 t5 (lN L) (nI kk) o9 o10 o11 o12) := by
  have h20 := hE.1
  intro q
  induction q with
  | zero =>
    intro kk n L o9 o10 o11 o12 hq hn hL hk0 hlt
    exfalso
    rw [show 20 - 2 * kk = 0 by omega] at hlt
    simp [sm] at hlt
  | succ q ih =>
    intro kk n L o9 o10 o11 o12 hq hn hL hk0 hlt
    have c0 : cc20 V (ct V) i j (2 * kk) = cK V (ct V) kk false i j := (cc20_k kk).1
    have c1 : cc20 V (ct V) i j (2 * kk + 1) = cK V (ct V) kk true i j := (cc20_k kk).2
    have hsum : sm (cc20 V (ct V) i j) (2 * kk) (20 - 2 * kk) = cK V (ct V) kk false i j + (cK V (ct V) kk true i j + sm (cc20 V (ct V) i j) (2 * (kk + 1)) (20 - 2 * (kk + 1))) := by
      rw [show 20 - 2 * kk = (20 - 2 * (kk + 1)) + 1 + 1 by omega]
      simp only [sm]
      rw [c0, c1, show 2 * (kk + 1) = 2 * kk + 1 + 1 by omega]
    have h1s : sm (cc20 V (ct V) i j) 0 (2 * kk + 1) = sm (cc20 V (ct V) i j) 0 (2 * kk) + cK V (ct V) kk false i j := by
      rw [sm_app]
      simp [sm, c0]
    have h2s : sm (cc20 V (ct V) i j) 0 (2 * (kk + 1)) = sm (cc20 V (ct V) i j) 0 (2 * kk) + cK V (ct V) kk false i j + cK V (ct V) kk true i j := by
      rw [show 2 * (kk + 1) = 2 * kk + 1 + 1 by omega, sm_app, h1s]
      simp [sm, c1]
    rw [jX1_reading_6_eq]
    simp (disch := omega) only [ic_lit, ic_m1, ic_m2, ic_m3, am_ix_nI, am_ci_ok, am_cl_ok, am_cv_ok, am_ct_ok, am_dz_nI, nI_inj, nI_leI', nI_ltI', nI_lt0, nI_ge0, nI_eq0, nI_le0, nI_gt0, m2lt, m2ge, m2eq, eq_m2, nI_add, nI_subI, nI_mulI, b2_eq0, b2_eq1, b2_and1, band1, band0, if_true, if_false, ite_true, ite_false, cond_true, cond_false, ↓reduceIte, Nat.reduceAdd, Nat.reduceMul, Nat.reduceSub, Nat.reduceEqDiff, lN_lt', lN_le', lN_inj, lc_lt, lc_gt, lc_le, lc_ge, lc_eq, Nat.reduceLT, Nat.reduceLeDiff, reduceCtorEq, Nat.add_zero, Nat.zero_add]
    rw [if_neg (by omega), jX1_reading_16_eq]
    simp (disch := omega) only [ic_lit, ic_m1, ic_m2, ic_m3, am_ix_nI, am_ci_ok, am_cl_ok, am_cv_ok, am_ct_ok, am_dz_nI, nI_inj, nI_leI', nI_ltI', nI_lt0, nI_ge0, nI_eq0, nI_le0, nI_gt0, m2lt, m2ge, m2eq, eq_m2, nI_add, nI_subI, nI_mulI, b2_eq0, b2_eq1, b2_and1, band1, band0, if_true, if_false, ite_true, ite_false, cond_true, cond_false, ↓reduceIte, Nat.reduceAdd, Nat.reduceMul, Nat.reduceSub, Nat.reduceEqDiff, lN_lt', lN_le', lN_inj, lc_lt, lc_gt, lc_le, lc_ge, lc_eq, Nat.reduceLT, Nat.reduceLeDiff, reduceCtorEq, Nat.add_zero, Nat.zero_add]
    have hs0 := hv_sum V (kk := kk) (b := false) hij
    have hs1 := hv_sum V (kk := kk) (b := true) hij
    refine cs_rdIn (N := N) (f := f) (b := false) hE hij hj hT hN (by omega) k0 t5 P (60 * q + 30) (j - i) 1 n L o11 o12 (by omega) (by omega) (by omega) hL (fun w' r h1 h2 h3 => ?_) (fun n' r o10 o11 o12 h1 h2 => ?_)
    · have := hfound kk false (1 + w') r (by omega) (by omega) (by omega) h3 (by rw [hk0, show 1 + w' - 1 = w' by omega, h2]; rfl)
      exact this
    · rw [hs0] at h2
      obtain ⟨n', rfl⟩ : ∃ m, n' = m + 1 := ⟨n' - 1, by omega⟩
      rw [jX1_reading_16_bk, jX1_reading_16_eq]
      simp only [bN, if_false, Bool.false_eq_true]
      simp (disch := omega) only [ic_lit, ic_m1, ic_m2, ic_m3, am_ix_nI, am_ci_ok, am_cl_ok, am_cv_ok, am_ct_ok, am_dz_nI, nI_inj, nI_leI', nI_ltI', nI_lt0, nI_ge0, nI_eq0, nI_le0, nI_gt0, m2lt, m2ge, m2eq, eq_m2, nI_add, nI_subI, nI_mulI, b2_eq0, b2_eq1, b2_and1, band1, band0, if_true, if_false, ite_true, ite_false, cond_true, cond_false, ↓reduceIte, Nat.reduceAdd, Nat.reduceMul, Nat.reduceSub, Nat.reduceEqDiff, lN_lt', lN_le', lN_inj, lc_lt, lc_gt, lc_le, lc_ge, lc_eq, Nat.reduceLT, Nat.reduceLeDiff, reduceCtorEq, Nat.add_zero, Nat.zero_add]
      refine cs_rdIn (N := N) (f := f) (b := true) hE hij hj hT hN (by omega) k0 t5 P (60 * q + 3) (j - i) 1 n' r o11 o12 (by omega) (by omega) (by omega) (by omega) (fun w' r' h3 h4 h5 => ?_) (fun n'' r' o10 o11 o12 h3 h4 => ?_)
      · exact hfound kk true (1 + w') r' (by omega) (by omega) (by omega) h5 (by
          rw [hk0, show 1 + w' - 1 = w' by omega, show 2 * kk + bN true = 2 * kk + 1 from rfl, h1s, h2, h4]
          congr 1
          omega)
      · rw [hs1] at h4
        obtain ⟨n'', rfl⟩ : ∃ m, n'' = m + 1 := ⟨n'' - 1, by omega⟩
        rw [jX1_reading_16_bk, jX1_reading_16_eq]
        simp only [bN, if_true]
        simp (disch := omega) only [ic_lit, ic_m1, ic_m2, ic_m3, am_ix_nI, am_ci_ok, am_cl_ok, am_cv_ok, am_ct_ok, am_dz_nI, nI_inj, nI_leI', nI_ltI', nI_lt0, nI_ge0, nI_eq0, nI_le0, nI_gt0, m2lt, m2ge, m2eq, eq_m2, nI_add, nI_subI, nI_mulI, b2_eq0, b2_eq1, b2_and1, band1, band0, if_true, if_false, ite_true, ite_false, cond_true, cond_false, ↓reduceIte, Nat.reduceAdd, Nat.reduceMul, Nat.reduceSub, Nat.reduceEqDiff, lN_lt', lN_le', lN_inj, lc_lt, lc_gt, lc_le, lc_ge, lc_eq, Nat.reduceLT, Nat.reduceLeDiff, reduceCtorEq, Nat.add_zero, Nat.zero_add, Nat.le_refl]
        obtain ⟨n'', rfl⟩ : ∃ m, n'' = m + 1 := ⟨n'' - 1, by omega⟩
        rw [jX1_reading_6_bk]
        refine ih (kk + 1) n'' r' _ _ _ _ (by omega) (by omega) (by omega) ?_ (by rw [hsum] at hlt; omega)
        rw [hk0, h2s, h2, h4]
        congr 1
        omega
end
