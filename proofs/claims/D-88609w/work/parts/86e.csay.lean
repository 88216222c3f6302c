set_option maxRecDepth 100000
/-! THE COMPONENT SAYS A TREE. -/
section
variable {N : Nat}
theorem cs_isW_or {w : Nat} (h : cs_isW w = true) : w = 103 ∨ w = 104 := by
  unfold cs_isW at h
  simp only [Bool.or_eq_true] at h
  rcases h with h | h
  · exact .inl (Nat.eq_of_beq_eq_true h)
  · exact .inr (Nat.eq_of_beq_eq_true h)
theorem nI_i8 {a : Nat} (h : a < 128) : (nI a).toInt8.toInt32 = nI a := by
  have : ∀ a, a < 128 → (nI a).toInt8.toInt32 = nI a := by decide
  exact this a h
theorem cs_say_ {f w a : Nat} {l : List Nat} {σ : cs_S} (hw : w = 103 ∨ w = 104) (h : cw_ σ w l) (ha : a < 128) : cs_sy w l [a] σ (cs_call N (f + 1) 64 [.inl (.ref w), .inl (.int (nI a))] (σ)) := by
  obtain ⟨h1, h2, h3⟩ := h
  have hW : cs_isW w = true := by rcases hw with rfl | rfl <;> rfl
  have hX : cs_isX (w + 40) = true := by rcases hw with rfl | rfl <;> rfl
  have hN : ∀ v, cs_nar (w + 20) v = v.toInt8.toInt32 := by rcases hw with rfl | rfl <;> exact fun _ => rfl
  have hI : ∀ (i : Int32) (k : Nat → am_R cs_S), cs_ix (w + 20) true i k = am_ix i 80 k := by rcases hw with rfl | rfl <;> exact fun _ _ => rfl
  rw [dX2_say_eq]
  unfold dX2_say
  simp only [hW, hX, hI, hN, cond_true, nI_i8 ha, h1, ic_lit]
  by_cases hl : l.length = 80
  · rw [hl, if_pos rfl]
    refine ⟨fun q => ?_, fun _ => ⟨σ, l, rfl, ⟨h1, h2, h3⟩, cs_kw.rf w σ⟩⟩
    simp at q
    omega
  · rw [if_neg (fun q => hl ((nI_eq (by omega) (by omega)).mp q)), am_ix_nI (by omega) (by omega)]
    refine ⟨fun _ => ⟨_, rfl, ⟨?_, ?_, ?_⟩, ?_, ?_, rfl⟩, fun q => ?_⟩
    · show va_up σ.1 w _ w = _
      rw [va_up_self]
      show σ.1 w + nI 1 = _
      have : σ.1 w = nI l.length := h1
      rw [this, List.length_append]
      exact nI_add l.length 1
    · simp; omega
    · intro j hj
      show va_up σ.2.1 (w + 20) _ (w + 20) j = _
      rw [va_up_self]
      simp only [List.length_append, List.length_singleton] at hj
      by_cases e : j = l.length
      · subst e
        rw [pk_us]
        simp
      · rw [pk_un e]
        have := h3 j (by omega)
        rw [gd_left (by omega)]
        exact this
    · intro j hj
      exact va_up_ne _ _ hj
    · intro c hc
      exact va_up_ne _ _ hc
    · simp at q
      omega
theorem cs_digits {t : Tr} {v w : Nat} (hw : w = 103 ∨ w = 104) (ht : tr_in 0 1 t = true) (hv : tr_v t = v) (hv9 : v ≤ 9999) (f : Nat) (dp : Int32) :
    ∀ (e n : Nat) (l : List Nat) (σ : cs_S), e ≤ 3 → e < n → cw_ σ w l → cs_sy w l (dgl v e) σ (jX9_tells_47 (am_bk (cs_hop 9 (cs_call N (f + 1))) am_no none kX9_tells n) (cs_call N (f + 1)) σ t w 105 dp (nI (10 ^ e))) := by
  have hW : cs_isW w = true := by rcases hw with rfl | rfl <;> rfl
  intro e
  induction e with
  | zero =>
    intro n l σ _ hn h
    obtain ⟨n, rfl⟩ : ∃ m, n = m + 1 := ⟨n - 1, by omega⟩
    rw [jX9_tells_47_eq]
    have e1 : ∀ u, u ≤ 9999 → nI 10 + (nI u / nI 1 - nI u / nI 1 / nI 10 * nI 10) = nI (10 + u % 10) := fun u hu => by
      rw [pk_div (by omega) (by omega) (by omega), pk_rem (by omega) (by omega) (by omega), nI_add, Nat.div_one]
    simp (disch := omega) only [ic_lit, ic_m1, ic_m2, ic_m3, am_ix_nI, am_ci_ok, am_cl_ok, am_cv_ok, am_ct_ok, am_dz_nI, nI_inj, nI_leI', nI_ltI', nI_lt0, nI_ge0, nI_eq0, nI_le0, nI_gt0, m2lt, m2ge, m2eq, eq_m2, nI_add, nI_subI, nI_mulI, b2_eq0, b2_eq1, b2_and1, band1, band0, if_true, if_false, ite_true, ite_false, cond_true, cond_false, ↓reduceIte, Nat.reduceAdd, Nat.reduceMul, Nat.reduceSub, Nat.reduceEqDiff, lN_lt', lN_le', lN_inj, lc_lt, lc_gt, lc_le, lc_ge, lc_eq, Nat.reduceLT, Nat.reduceLeDiff, reduceCtorEq, Nat.add_zero, Nat.zero_add, ht, hW, hv, Nat.pow_zero]
    rw [e1 v hv9]
    have := (cs_say_ (N := N) (f := f) hw h (a := 10 + v % 10) (by omega)).seq (b := []) (k := fun s2 => am_bk (cs_hop 9 (cs_call N (f + 1))) am_no none kX9_tells (n + 1) 47 [some (.inr t), some (.inl (.ref w)), some (.inl (.ref 105)), some (.inl (.int dp)), some (.inl (.int (nI 1 / nI 10)))] [] s2) (fun σ' hw' _ => by
      rw [jX9_tells_47_bk, jX9_tells_47_eq, if_pos (by decide)]
      exact cs_sy.nil hw')
    rw [List.append_nil] at this
    exact this
  | succ e ih =>
    intro n l σ he hn h
    obtain ⟨n, rfl⟩ : ∃ m, n = m + 1 := ⟨n - 1, by omega⟩
    have hp : 0 < 10 ^ (e + 1) ∧ 10 ^ (e + 1) ≤ 1000 ∧ 10 ^ (e + 1) / 10 = 10 ^ e := by
      rcases e with _ | _ | _ | e
      · decide
      · decide
      · decide
      · omega
    have hq : v / 10 ^ (e + 1) ≤ v := Nat.div_le_self _ _
    rw [jX9_tells_47_eq]
    have e1 : ∀ u, u ≤ 9999 → nI 10 + (nI u / nI (10 ^ (e + 1)) - nI u / nI (10 ^ (e + 1)) / nI 10 * nI 10) = nI (10 + u / 10 ^ (e + 1) % 10) := fun u hu => by
      have : u / 10 ^ (e + 1) ≤ u := Nat.div_le_self _ _
      rw [pk_div (by omega) (by omega) (by omega), pk_rem (by omega) (by omega) (by omega), nI_add]
    simp (disch := omega) only [ic_lit, ic_m1, ic_m2, ic_m3, am_ix_nI, am_ci_ok, am_cl_ok, am_cv_ok, am_ct_ok, am_dz_nI, nI_inj, nI_leI', nI_ltI', nI_lt0, nI_ge0, nI_eq0, nI_le0, nI_gt0, m2lt, m2ge, m2eq, eq_m2, nI_add, nI_subI, nI_mulI, b2_eq0, b2_eq1, b2_and1, band1, band0, if_true, if_false, ite_true, ite_false, cond_true, cond_false, ↓reduceIte, Nat.reduceAdd, Nat.reduceMul, Nat.reduceSub, Nat.reduceEqDiff, lN_lt', lN_le', lN_inj, lc_lt, lc_gt, lc_le, lc_ge, lc_eq, Nat.reduceLT, Nat.reduceLeDiff, reduceCtorEq, Nat.add_zero, Nat.zero_add, ht, hW, hv]
    rw [if_neg (by omega), e1 v hv9, show dgl v (e + 1) = [10 + v / 10 ^ (e + 1) % 10] ++ dgl v e from rfl]
    refine (cs_say_ (N := N) (f := f) hw h (by omega)).seq (fun σ' hw' _ => ?_)
    rw [pk_div (by omega) (by omega) (by omega), hp.2.2, jX9_tells_47_bk]
    exact ih n _ σ' (by omega) (by omega) hw'
theorem cs_s72 : ∀ k, k ≤ 9 → cs_sel [72, 72, 72, 72, 72, 72, 72, 72, 72, 72] k = 72 := by
  have h : ∀ k, k < 10 → cs_sel [72, 72, 72, 72, 72, 72, 72, 72, 72, 72] k = 72 := by decide
  exact fun k q => h k (by omega)
theorem tr_k9 {t : Tr} (h : tr_wf t) (h0 : tr_lf t = false) : tr_k t ≤ 9 := by
  cases t with
  | leaf => cases h0
  | inner _ _ _ _ _ => exact (tr_wf_v h).1
theorem cs_vk {f : Nat} {t : Tr} (h : tr_wf t) (hn : tr_lf t = false) (s : cs_S) : cs_call N (f + 1) (cs_sel [76, 76, 73, 73, 73, 73, 73, 73, 85, 73] (tr_k t)) [.inr (t)] (s) = some (.inl (some (.inl (.int (b2 (mk (tr_k t)))))), s) := by
  cases t with
  | leaf => cases hn
  | inner n k v x y =>
    obtain ⟨-, -, h⟩ := h
    rcases h with ⟨rfl, -⟩ | ⟨rfl, -⟩ | ⟨h2, h6, -⟩ | ⟨rfl | rfl, -⟩ | ⟨rfl, -⟩
    · exact dX8_mayKeep_eq N f s _
    · exact dX8_mayKeep_eq N f s _
    · obtain rfl | rfl | rfl | rfl | rfl : k = 2 ∨ k = 3 ∨ k = 4 ∨ k = 5 ∨ k = 6 := by omega
      all_goals exact dX7_mayKeep_eq N f s _
    · exact dX7_mayKeep_eq N f s _
    · exact dX13_mayKeep_eq N f s _
    · exact dX7_mayKeep_eq N f s _
theorem cs_keeps_ {f : Nat} {σ : cs_S} {mask k : Nat} (hm : mask < 1024) (hk : k < 10) (h : cs_i σ 105 = nI mask) : cs_call N (f + 1) 66 [.inl (.ref 105), .inl (.int (nI k))] (σ) = some (.inl (some (.inl (.int (b2 (mask.testBit k))))), σ) := by
  rw [dX4_keeps_eq]
  unfold dX4_keeps
  rw [show Nat.beq 105 105 = true from rfl, cond_true, h]
  simp (disch := omega) only [ic_lit, ic_m1, ic_m2, ic_m3, am_ix_nI, am_ci_ok, am_cl_ok, am_cv_ok, am_ct_ok, am_dz_nI, nI_inj, nI_leI', nI_ltI', nI_lt0, nI_ge0, nI_eq0, nI_le0, nI_gt0, m2lt, m2ge, m2eq, eq_m2, nI_add, nI_subI, nI_mulI, b2_eq0, b2_eq1, b2_and1, band1, band0, if_true, if_false, ite_true, ite_false, cond_true, cond_false, ↓reduceIte, Nat.reduceAdd, Nat.reduceMul, Nat.reduceSub, Nat.reduceEqDiff, lN_lt', lN_le', lN_inj, lc_lt, lc_gt, lc_le, lc_ge, lc_eq, Nat.reduceLT, Nat.reduceLeDiff, reduceCtorEq, Nat.add_zero, Nat.zero_add, bit_nI (m := mask) (l := k) (by omega) (by omega)]
  cases mask.testBit k <;> rfl
theorem cs_says_ {K : Nat → Bool} {mask D w : Nat} (hm : mask < 1024) (hK : ∀ k, k < 10 → mask.testBit k = K k) (hD : D ≤ 1000) (hw : w = 103 ∨ w = 104) (hN : 5 ≤ N) : ∀ (t : Tr) (m b d : Nat) (l : List Nat) (σ : cs_S) (f : Nat), tr_wf t → tr_lf t = false → cw_ σ w l → cs_i σ 105 = nI mask → cs_i σ 125 = nI D → d + b = D + 1 → 2 * tr_dp t + 1 < f →
    cs_sy w l (wsd (fun _ k => K k) t m b) σ (cs_call N (f) 72 [.inr (t), .inl (.ref w), .inl (.ref 105), .inl (.int (nI d))] (σ)) := by
  have hW : cs_isW w = true := by rcases hw with rfl | rfl <;> rfl
  have h105 : ∀ {σ σ' : cs_S}, cs_kw w σ σ' → cs_i σ 105 = nI mask → cs_i σ' 105 = nI mask := fun q h => (q.1 105 (by omega)).trans h
  have h125 : ∀ {σ σ' : cs_S}, cs_kw w σ σ' → cs_i σ 125 = nI D → cs_i σ' 125 = nI D := fun q h => (q.1 125 (by omega)).trans h
  intro t
  induction t with
  | leaf => intro m b d l σ f _ h; cases h
  | inner n k v x y ihx ihy =>
    intro m b d l σ f hwf ht0 hl hk1 hk2 hdb hf
    obtain ⟨f, rfl⟩ : ∃ f', f = f' + 3 := ⟨f - 3, by simp only [tr_dp] at hf; omega⟩
    have hwv := tr_wf_v hwf
    simp only [tr_dp] at hf
    rw [dX7_says_eq]
    unfold dX7_says
    rw [show Nat.beq 105 105 = true from rfl, cond_true, hk2]
    cases b with
    | zero =>
      simp (disch := omega) only [ic_lit, ic_m1, ic_m2, ic_m3, am_ix_nI, am_ci_ok, am_cl_ok, am_cv_ok, am_ct_ok, am_dz_nI, nI_inj, nI_leI', nI_ltI', nI_lt0, nI_ge0, nI_eq0, nI_le0, nI_gt0, m2lt, m2ge, m2eq, eq_m2, nI_add, nI_subI, nI_mulI, b2_eq0, b2_eq1, b2_and1, band1, band0, if_true, if_false, ite_true, ite_false, cond_true, cond_false, ↓reduceIte, Nat.reduceAdd, Nat.reduceMul, Nat.reduceSub, Nat.reduceEqDiff, lN_lt', lN_le', lN_inj, lc_lt, lc_gt, lc_le, lc_ge, lc_eq, Nat.reduceLT, Nat.reduceLeDiff, reduceCtorEq, Nat.add_zero, Nat.zero_add, hW]
      rw [if_neg (by omega)]
      exact (cs_say_ hw hl (by omega)).ret
    | succ b =>
      have htell : ∀ (l : List Nat) (σ : cs_S), cw_ σ w l → cs_i σ 105 = nI mask → cs_i σ 125 = nI D → cs_sy w l (if k = 0 then [v] else if k = 1 then dgl v (dg v - 1)
          else if k ≤ 6 then wsd (fun _ k => K k) x (m + if mk k then 1 else 0) b ++ ([18 + k] ++ wsd (fun _ k => K k) y ((m + if mk k then 1 else 0) + kc x) b)
          else if k = 7 then [25] ++ wsd (fun _ k => K k) x (m + if mk k then 1 else 0) b
          else if k = 8 then [26] ++ (wsd (fun _ k => K k) x (m + if mk k then 1 else 0) b ++ [27])
          else [v] ++ ([28] ++ wsd (fun _ k => K k) x (m + if mk k then 1 else 0) b)) σ
          (cs_call N (f + 2) (cs_sel [77, 79, 82, 82, 82, 82, 82, 84, 86, 89] k) [.inr (.inner n k v x y), .inl (.ref w), .inl (.ref 105), .inl (.int (nI d))] (σ)) := by
        intro l σ hl hk1 hk2
        have hX := fun (q : tr_lf x = false) (l : List Nat) (σ : cs_S) (hl : cw_ σ w l) (h1 : cs_i σ 105 = nI mask) (h2 : cs_i σ 125 = nI D) => ihx (m + if mk k then 1 else 0) b (d + 1) l σ (f + 1) hwf.1 q hl h1 h2 (by omega) (by omega)
        have hY := fun (q : tr_lf y = false) (l : List Nat) (σ : cs_S) (hl : cw_ σ w l) (h1 : cs_i σ 105 = nI mask) (h2 : cs_i σ 125 = nI D) => ihy ((m + if mk k then 1 else 0) + kc x) b (d + 1) l σ (f + 1) hwf.2.1 q hl h1 h2 (by omega) (by omega)
        obtain ⟨hwx, hwy, h3⟩ := hwf
        rcases h3 with ⟨rfl, hv, -, -⟩ | ⟨rfl, hv, -, -⟩ | ⟨h2, h6, -, qx, qy⟩ | ⟨h78, -, qx, -⟩ | ⟨rfl, hv, qx, -⟩
        · show cs_sy w l [v] σ (cs_call N (f + 1 + 1) 77 [.inr (.inner n 0 v x y), .inl (.ref w), .inl (.ref 105), .inl (.int (nI d))] (σ))
          rw [dX8_tells_eq]
          unfold dX8_tells
          simp (disch := omega) only [ic_lit, ic_m1, ic_m2, ic_m3, am_ix_nI, am_ci_ok, am_cl_ok, am_cv_ok, am_ct_ok, am_dz_nI, nI_inj, nI_leI', nI_ltI', nI_lt0, nI_ge0, nI_eq0, nI_le0, nI_gt0, m2lt, m2ge, m2eq, eq_m2, nI_add, nI_subI, nI_mulI, b2_eq0, b2_eq1, b2_and1, band1, band0, if_true, if_false, ite_true, ite_false, cond_true, cond_false, ↓reduceIte, Nat.reduceAdd, Nat.reduceMul, Nat.reduceSub, Nat.reduceEqDiff, lN_lt', lN_le', lN_inj, lc_lt, lc_gt, lc_le, lc_ge, lc_eq, Nat.reduceLT, Nat.reduceLeDiff, reduceCtorEq, Nat.add_zero, Nat.zero_add, show tr_in 0 1 (.inner n 0 v x y) = true from rfl, hW, tr_vi]
          exact (cs_say_ hw hl (by omega)).ret
        · show cs_sy w l (dgl v (dg v - 1)) σ (cs_call N (f + 1 + 1) 79 [.inr (.inner n 1 v x y), .inl (.ref w), .inl (.ref 105), .inl (.int (nI d))] (σ))
          rw [dX9_tells_eq]
          unfold dX9_tells
          have hdg := fun e he => cs_digits (N := N) (t := .inner n 1 v x y) (v := v) hw rfl rfl hv f (nI d) e N l σ he (by omega) hl
          simp (disch := omega) only [ic_lit, ic_m1, ic_m2, ic_m3, am_ix_nI, am_ci_ok, am_cl_ok, am_cv_ok, am_ct_ok, am_dz_nI, nI_inj, nI_leI', nI_ltI', nI_lt0, nI_ge0, nI_eq0, nI_le0, nI_gt0, m2lt, m2ge, m2eq, eq_m2, nI_add, nI_subI, nI_mulI, b2_eq0, b2_eq1, b2_and1, band1, band0, if_true, if_false, ite_true, ite_false, cond_true, cond_false, ↓reduceIte, Nat.reduceAdd, Nat.reduceMul, Nat.reduceSub, Nat.reduceEqDiff, lN_lt', lN_le', lN_inj, lc_lt, lc_gt, lc_le, lc_ge, lc_eq, Nat.reduceLT, Nat.reduceLeDiff, reduceCtorEq, Nat.add_zero, Nat.zero_add, show tr_in 0 1 (.inner n 1 v x y) = true from rfl, tr_vi, jX9_tells_45_44_eq, jX9_tells_45_30_eq, jX9_tells_45_16_eq, jX9_tells_45_eq]
          by_cases c1 : v < 10
          · have e : dg v = 1 := by unfold dg; rw [if_pos c1]
            rw [if_pos (show v ≤ 999 by omega), if_pos (show v ≤ 99 by omega), if_pos (show v ≤ 9 by omega), e]
            exact hdg 0 (by omega)
          · by_cases c2 : v < 100
            · have e : dg v = 2 := by unfold dg; rw [if_neg c1, if_pos c2]
              rw [if_pos (show v ≤ 999 by omega), if_pos (show v ≤ 99 by omega), if_neg (show ¬ v ≤ 9 by omega), e]
              exact hdg 1 (by omega)
            · by_cases c3 : v < 1000
              · have e : dg v = 3 := by unfold dg; rw [if_neg c1, if_neg c2, if_pos c3]
                rw [if_pos (show v ≤ 999 by omega), if_neg (show ¬ v ≤ 99 by omega), e]
                exact hdg 2 (by omega)
              · have e : dg v = 4 := by unfold dg; rw [if_neg c1, if_neg c2, if_neg c3]
                rw [if_neg (show ¬ v ≤ 999 by omega), e]
                exact hdg 3 (by omega)
        · rw [if_neg (by omega), if_neg (by omega), if_pos h6]
          have : cs_sel [77, 79, 82, 82, 82, 82, 82, 84, 86, 89] k = 82 := by
            have h : ∀ k, k < 7 → 2 ≤ k → cs_sel [77, 79, 82, 82, 82, 82, 82, 84, 86, 89] k = 82 := by decide
            exact h k (by omega) h2
          rw [this, dX10_tells_eq]
          unfold dX10_tells
          have hin : tr_in 2 6 (.inner n k v x y) = true := by
            simp only [tr_in, Bool.and_eq_true]
            exact ⟨Nat.ble_eq_true_of_le h2, Nat.ble_eq_true_of_le h6⟩
          have hnd : tr_nd (.inner n k v x y) = true := Nat.ble_eq_true_of_le hwv.1
          simp (disch := omega) only [ic_lit, ic_m1, ic_m2, ic_m3, am_ix_nI, am_ci_ok, am_cl_ok, am_cv_ok, am_ct_ok, am_dz_nI, nI_inj, nI_leI', nI_ltI', nI_lt0, nI_ge0, nI_eq0, nI_le0, nI_gt0, m2lt, m2ge, m2eq, eq_m2, nI_add, nI_subI, nI_mulI, b2_eq0, b2_eq1, b2_and1, band1, band0, if_true, if_false, ite_true, ite_false, cond_true, cond_false, ↓reduceIte, Nat.reduceAdd, Nat.reduceMul, Nat.reduceSub, Nat.reduceEqDiff, lN_lt', lN_le', lN_inj, lc_lt, lc_gt, lc_le, lc_ge, lc_eq, Nat.reduceLT, Nat.reduceLeDiff, reduceCtorEq, Nat.add_zero, Nat.zero_add, hin, hnd, hW, tr_xi, tr_yi, tr_ki, tr_nd_wf hwx qx, tr_nd_wf hwy qy, cs_s72 _ (tr_k9 hwx qx), cs_s72 _ (tr_k9 hwy qy)]
          refine (hX qx l σ hl hk1 hk2).seq fun σ1 hl1 q1 => ?_
          rw [show 20 + k - 2 = 18 + k by omega]
          refine (cs_say_ hw hl1 (by omega)).seq fun σ2 hl2 q2 => ?_
          exact (hY qy _ σ2 hl2 (h105 q2 (h105 q1 hk1)) (h125 q2 (h125 q1 hk2))).ret
        · rcases h78 with rfl | rfl
          · show cs_sy w l ([25] ++ wsd (fun _ k => K k) x (m + 1) b) σ (cs_call N (f + 1 + 1) 84 [.inr (.inner n 7 v x y), .inl (.ref w), .inl (.ref 105), .inl (.int (nI d))] (σ))
            rw [dX12_tells_eq]
            unfold dX12_tells
            simp (disch := omega) only [ic_lit, ic_m1, ic_m2, ic_m3, am_ix_nI, am_ci_ok, am_cl_ok, am_cv_ok, am_ct_ok, am_dz_nI, nI_inj, nI_leI', nI_ltI', nI_lt0, nI_ge0, nI_eq0, nI_le0, nI_gt0, m2lt, m2ge, m2eq, eq_m2, nI_add, nI_subI, nI_mulI, b2_eq0, b2_eq1, b2_and1, band1, band0, if_true, if_false, ite_true, ite_false, cond_true, cond_false, ↓reduceIte, Nat.reduceAdd, Nat.reduceMul, Nat.reduceSub, Nat.reduceEqDiff, lN_lt', lN_le', lN_inj, lc_lt, lc_gt, lc_le, lc_ge, lc_eq, Nat.reduceLT, Nat.reduceLeDiff, reduceCtorEq, Nat.add_zero, Nat.zero_add, show tr_in 7 9 (.inner n 7 v x y) = true from rfl, hW, tr_xi, tr_nd_wf hwx qx, cs_s72 _ (tr_k9 hwx qx)]
            refine (cs_say_ hw hl (by omega)).seq fun σ1 hl1 q1 => ?_
            exact (hX qx _ σ1 hl1 (h105 q1 hk1) (h125 q1 hk2)).ret
          · show cs_sy w l ([26] ++ (wsd (fun _ k => K k) x (m + 0) b ++ [27])) σ (cs_call N (f + 1 + 1) 86 [.inr (.inner n 8 v x y), .inl (.ref w), .inl (.ref 105), .inl (.int (nI d))] (σ))
            rw [dX13_tells_eq]
            unfold dX13_tells
            have hx83 : ∀ s, cs_call N (f + 1) 83 [.inr (.inner n 8 v x y)] (s) = some (.inl (some (.inr (x))), s) := fun s => dX12_x_eq N f s _
            simp (disch := omega) only [ic_lit, ic_m1, ic_m2, ic_m3, am_ix_nI, am_ci_ok, am_cl_ok, am_cv_ok, am_ct_ok, am_dz_nI, nI_inj, nI_leI', nI_ltI', nI_lt0, nI_ge0, nI_eq0, nI_le0, nI_gt0, m2lt, m2ge, m2eq, eq_m2, nI_add, nI_subI, nI_mulI, b2_eq0, b2_eq1, b2_and1, band1, band0, if_true, if_false, ite_true, ite_false, cond_true, cond_false, ↓reduceIte, Nat.reduceAdd, Nat.reduceMul, Nat.reduceSub, Nat.reduceEqDiff, lN_lt', lN_le', lN_inj, lc_lt, lc_gt, lc_le, lc_ge, lc_eq, Nat.reduceLT, Nat.reduceLeDiff, reduceCtorEq, Nat.add_zero, Nat.zero_add, show tr_in 8 8 (.inner n 8 v x y) = true from rfl, hW, hx83, tr_nd_wf hwx qx, cs_s72 _ (tr_k9 hwx qx)]
            refine (cs_say_ hw hl (by omega)).seq fun σ1 hl1 q1 => ?_
            refine (hX qx _ σ1 hl1 (h105 q1 hk1) (h125 q1 hk2)).seq fun σ2 hl2 q2 => ?_
            exact (cs_say_ hw hl2 (by omega)).ret
        · show cs_sy w l ([v] ++ ([28] ++ wsd (fun _ k => K k) x (m + 1) b)) σ (cs_call N (f + 1 + 1) 89 [.inr (.inner n 9 v x y), .inl (.ref w), .inl (.ref 105), .inl (.int (nI d))] (σ))
          rw [dX14_tells_eq]
          unfold dX14_tells
          have hx83 : ∀ s, cs_call N (f + 1) 83 [.inr (.inner n 9 v x y)] (s) = some (.inl (some (.inr (x))), s) := fun s => dX12_x_eq N f s _
          simp (disch := omega) only [ic_lit, ic_m1, ic_m2, ic_m3, am_ix_nI, am_ci_ok, am_cl_ok, am_cv_ok, am_ct_ok, am_dz_nI, nI_inj, nI_leI', nI_ltI', nI_lt0, nI_ge0, nI_eq0, nI_le0, nI_gt0, m2lt, m2ge, m2eq, eq_m2, nI_add, nI_subI, nI_mulI, b2_eq0, b2_eq1, b2_and1, band1, band0, if_true, if_false, ite_true, ite_false, cond_true, cond_false, ↓reduceIte, Nat.reduceAdd, Nat.reduceMul, Nat.reduceSub, Nat.reduceEqDiff, lN_lt', lN_le', lN_inj, lc_lt, lc_gt, lc_le, lc_ge, lc_eq, Nat.reduceLT, Nat.reduceLeDiff, reduceCtorEq, Nat.add_zero, Nat.zero_add, show tr_in 9 9 (.inner n 9 v x y) = true from rfl, hW, tr_vi, hx83, tr_nd_wf hwx qx, cs_s72 _ (tr_k9 hwx qx)]
          refine (cs_say_ hw hl (by omega)).seq fun σ1 hl1 q1 => ?_
          refine (cs_say_ hw hl1 (by omega)).seq fun σ2 hl2 q2 => ?_
          exact (hX qx _ σ2 hl2 (h105 q2 (h105 q1 hk1)) (h125 q2 (h125 q1 hk2))).ret
      have hnd := tr_nd_wf hwf ht0
      have hmk := cs_vk (N := N) (f := f + 1) hwf ht0 σ
      have hkp := cs_keeps_ (N := N) (f := f + 1) hm (by omega : k < 10) hk1
      rw [hK k (by omega)] at hkp
      simp only [tr_ki] at hmk
      have hsel : tr_k (.inner n k v x y) = k := rfl
      have hno : ∀ (back : cs_bt), cs_sy w l ([] ++ ((if k = 0 then [v] else if k = 1 then dgl v (dg v - 1)
          else if k ≤ 6 then wsd (fun _ k => K k) x (m + if mk k then 1 else 0) b ++ ([18 + k] ++ wsd (fun _ k => K k) y ((m + if mk k then 1 else 0) + kc x) b)
          else if k = 7 then [25] ++ wsd (fun _ k => K k) x (m + if mk k then 1 else 0) b
          else if k = 8 then [26] ++ (wsd (fun _ k => K k) x (m + if mk k then 1 else 0) b ++ [27])
          else [v] ++ ([28] ++ wsd (fun _ k => K k) x (m + if mk k then 1 else 0) b)) ++ [])) σ (jX7_says_36 back (cs_call N (f + 2)) σ (.inner n k v x y) w 105 (nI d)) := by
        intro back
        rw [List.nil_append, List.append_nil, jX7_says_36_eq, jX7_says_37_eq]
        simp (disch := omega) only [ic_lit, ic_m1, ic_m2, ic_m3, am_ix_nI, am_ci_ok, am_cl_ok, am_cv_ok, am_ct_ok, am_dz_nI, nI_inj, nI_leI', nI_ltI', nI_lt0, nI_ge0, nI_eq0, nI_le0, nI_gt0, m2lt, m2ge, m2eq, eq_m2, nI_add, nI_subI, nI_mulI, b2_eq0, b2_eq1, b2_and1, band1, band0, if_true, if_false, ite_true, ite_false, cond_true, cond_false, ↓reduceIte, Nat.reduceAdd, Nat.reduceMul, Nat.reduceSub, Nat.reduceEqDiff, lN_lt', lN_le', lN_inj, lc_lt, lc_gt, lc_le, lc_ge, lc_eq, Nat.reduceLT, Nat.reduceLeDiff, reduceCtorEq, Nat.add_zero, Nat.zero_add, jX7_says_50_44_eq, jX7_says_50_eq, hnd, hsel]
        exact (htell l σ hl hk1 hk2).ret
      simp only [wsd]
      simp (disch := omega) only [ic_lit, ic_m1, ic_m2, ic_m3, am_ix_nI, am_ci_ok, am_cl_ok, am_cv_ok, am_ct_ok, am_dz_nI, nI_inj, nI_leI', nI_ltI', nI_lt0, nI_ge0, nI_eq0, nI_le0, nI_gt0, m2lt, m2ge, m2eq, eq_m2, nI_add, nI_subI, nI_mulI, b2_eq0, b2_eq1, b2_and1, band1, band0, if_true, if_false, ite_true, ite_false, cond_true, cond_false, ↓reduceIte, Nat.reduceAdd, Nat.reduceMul, Nat.reduceSub, Nat.reduceEqDiff, lN_lt', lN_le', lN_inj, lc_lt, lc_gt, lc_le, lc_ge, lc_eq, Nat.reduceLT, Nat.reduceLeDiff, reduceCtorEq, Nat.add_zero, Nat.zero_add, hnd, hmk, hsel, hkp, jX7_says_36_21_eq, jX7_says_36_32_eq, jX7_says_37_36_eq]
      rw [if_pos (show d ≤ D by omega)]
      have hno := hno (am_bk (cs_hop 7 (cs_call N (f + 2))) am_no none kX7_says N)
      rcases Bool.eq_false_or_eq_true (mk k) with qm | qm
      · rcases Bool.eq_false_or_eq_true (K k) with qk | qk
        · simp only [qm, qk, Bool.and_self, if_true, Bool.true_eq_false, if_false] at hno htell ⊢
          rw [jX7_says_37_eq]
          simp (disch := omega) only [ic_lit, ic_m1, ic_m2, ic_m3, am_ix_nI, am_ci_ok, am_cl_ok, am_cv_ok, am_ct_ok, am_dz_nI, nI_inj, nI_leI', nI_ltI', nI_lt0, nI_ge0, nI_eq0, nI_le0, nI_gt0, m2lt, m2ge, m2eq, eq_m2, nI_add, nI_subI, nI_mulI, b2_eq0, b2_eq1, b2_and1, band1, band0, if_true, if_false, ite_true, ite_false, cond_true, cond_false, ↓reduceIte, Nat.reduceAdd, Nat.reduceMul, Nat.reduceSub, Nat.reduceEqDiff, lN_lt', lN_le', lN_inj, lc_lt, lc_gt, lc_le, lc_ge, lc_eq, Nat.reduceLT, Nat.reduceLeDiff, reduceCtorEq, Nat.add_zero, Nat.zero_add, hW, jX7_says_50_eq, hnd, hsel]
          refine (cs_say_ hw hl (by omega)).seq fun σ1 hl1 q1 => ?_
          refine (htell _ σ1 hl1 (h105 q1 hk1) (h125 q1 hk2)).seq fun σ2 hl2 q2 => ?_
          exact (cs_say_ hw hl2 (by omega)).ret
        · simp only [qm, qk, Bool.and_false, if_true, Bool.true_eq_false, Bool.false_eq_true, if_false] at hno ⊢
          exact hno
      · simp only [qm, Bool.false_and, if_true, Bool.false_eq_true, if_false] at hno ⊢
        exact hno
end
