set_option maxRecDepth 100000
/-! THE COMPONENT's SMALL TREES. -/
def gq (σ0 : cs_S) (R : Nat → Int32) (L : List Tr) (σ : cs_S) : Prop := σ.1 = σ0.1 ∧ (∀ c, c ≠ 107 → σ.2.1 c = σ0.2.1 c) ∧ σ.2.1 107 = R ∧ (∀ c', c' ≠ 106 → cs_t σ c' = cs_t σ0 c' ∧ cs_c σ c' = cs_c σ0 c') ∧ cs_p σ = cs_p σ0 ∧ cs_y σ = cs_y σ0 ∧ cs_t σ 106 = L ∧ ((cs_c σ 106).1 ≤ 600 ∧ ((cs_c σ 106).1 = 0 ∨ 10 ≤ (cs_c σ 106).1)) ∧ cs_n1 σ ≤ cs_n1 σ0 + 2 * L.length ∧ cs_n2 σ ≤ cs_n2 σ0 + 6 * L.length + 4 * (cs_c σ 106).1
theorem gq_cap {n : Nat} (h : n = 0 ∨ 10 ≤ n) : cs_cap n ≤ 4 * (cs_cap n - n) ∧ n ≤ cs_cap n := by
  unfold cs_cap
  split <;> omega
theorem gq.add {σ0 σ : cs_S} {R : Nat → Int32} {L : List Tr} {t : Tr} (h : gq σ0 R L σ) (hl : L.length < 280) : gq σ0 R (L ++ [t]) (cs_add (cs_mk σ 1 (cs_nf (tr_k t))) 106 t) := by
  obtain ⟨h1, h2, h3, h4, h5, h6, h7, ⟨h8, h8'⟩, h9, h0⟩ := h
  have hnf : cs_nf (tr_k t) ≤ 6 := by unfold cs_nf; split <;> omega
  obtain ⟨f1, f2, f3, f4, f5, f6, -, -⟩ := cs_add_fr (cs_mk σ 1 (cs_nf (tr_k t))) 106 t
  have ht : cs_t (cs_mk σ 1 (cs_nf (tr_k t))) 106 = L := h7
  refine ⟨by rw [f1]; exact h1, fun c hc => by rw [f2]; exact h2 c hc, by rw [f2]; exact h3, fun c' hc => ⟨(f4 c' hc).1.trans (h4 c' hc).1, (f4 c' hc).2.trans (h4 c' hc).2⟩, by rw [f5]; exact h5, by rw [f6]; exact h6, by rw [cs_add_t, ht], ⟨cs_add_c h8 ?_ (by omega), ?_⟩, ?_⟩
  · rw [ht]
    unfold cs_cap
    split <;> omega
  · unfold cs_add
    split
    · show (va_up (cs_mk σ 1 (cs_nf (tr_k t))).2.2.2.2.1 106 _ 106).1 = 0 ∨ 10 ≤ (va_up (cs_mk σ 1 (cs_nf (tr_k t))).2.2.2.2.1 106 _ 106).1
      rw [va_up_self]
      exact h8'
    · show (va_up (cs_mk σ 1 (cs_nf (tr_k t))).2.2.2.2.1 106 _ 106).1 = 0 ∨ 10 ≤ (va_up (cs_mk σ 1 (cs_nf (tr_k t))).2.2.2.2.1 106 _ 106).1
      rw [va_up_self]
      show cs_cap (cs_c σ 106).1 = 0 ∨ 10 ≤ cs_cap (cs_c σ 106).1
      unfold cs_cap
      split <;> omega
  · simp only [List.length_append, List.length_singleton]
    unfold cs_add
    split
    · rename_i hq
      have e1 : cs_n1 (cs_pt (cs_mk σ 1 (cs_nf (tr_k t))) 106 (cs_t (cs_mk σ 1 (cs_nf (tr_k t))) 106 ++ [t]) ((cs_c (cs_mk σ 1 (cs_nf (tr_k t))) 106).1, (cs_c (cs_mk σ 1 (cs_nf (tr_k t))) 106).2 + 1)) = cs_n1 σ + 1 := rfl
      have e2 : cs_n2 (cs_pt (cs_mk σ 1 (cs_nf (tr_k t))) 106 (cs_t (cs_mk σ 1 (cs_nf (tr_k t))) 106 ++ [t]) ((cs_c (cs_mk σ 1 (cs_nf (tr_k t))) 106).1, (cs_c (cs_mk σ 1 (cs_nf (tr_k t))) 106).2 + 1)) = cs_n2 σ + cs_nf (tr_k t) := rfl
      have e3 : (cs_c (cs_pt (cs_mk σ 1 (cs_nf (tr_k t))) 106 (cs_t (cs_mk σ 1 (cs_nf (tr_k t))) 106 ++ [t]) ((cs_c (cs_mk σ 1 (cs_nf (tr_k t))) 106).1, (cs_c (cs_mk σ 1 (cs_nf (tr_k t))) 106).2 + 1)) 106).1 = (cs_c σ 106).1 := by
        show (va_up (cs_mk σ 1 (cs_nf (tr_k t))).2.2.2.2.1 106 _ 106).1 = _
        rw [va_up_self]
        rfl
      rw [e1, e2, e3]
      omega
    · rename_i hq
      generalize hZ : cs_pt (cs_mk σ 1 (cs_nf (tr_k t))) 106 (cs_t (cs_mk σ 1 (cs_nf (tr_k t))) 106 ++ [t]) (cs_cap (cs_c (cs_mk σ 1 (cs_nf (tr_k t))) 106).1, (cs_c (cs_mk σ 1 (cs_nf (tr_k t))) 106).2 + 1) = Z
      have e1 : cs_n1 (cs_mk Z 1 (cs_cap (cs_c (cs_mk σ 1 (cs_nf (tr_k t))) 106).1)) = cs_n1 σ + 1 + 1 := by rw [← hZ]; rfl
      have e2 : cs_n2 (cs_mk Z 1 (cs_cap (cs_c (cs_mk σ 1 (cs_nf (tr_k t))) 106).1)) = cs_n2 σ + cs_nf (tr_k t) + cs_cap (cs_c σ 106).1 := by rw [← hZ]; rfl
      have e3 : (cs_c (cs_mk Z 1 (cs_cap (cs_c (cs_mk σ 1 (cs_nf (tr_k t))) 106).1)) 106).1 = cs_cap (cs_c σ 106).1 := by
        rw [← hZ]
        show (va_up (cs_mk σ 1 (cs_nf (tr_k t))).2.2.2.2.1 106 _ 106).1 = _
        rw [va_up_self]
        rfl
      have hcap := gq_cap h8'
      rw [e1, e2, e3]
      omega
section
variable {N f : Nat} {σ0 : cs_S} {R : Nat → Int32} {L0 : List Tr} {P : am_R cs_S → Prop}
def k1 (x : Tr) : Nat → Nat → List Tr
  | _, 0 => []
  | k, q + 1 => .inner 0 k (if k = 9 then 9 else 0) x .leaf :: k1 x (k + 1) q
theorem k1_sm (x : Tr) : k1 x 7 3 = sm1 x := rfl
theorem gq.get {σ : cs_S} {acc : List Tr} {j : Nat} (h : gq σ0 R (L0 ++ acc) σ) (hj : j < L0.length) (hl : (L0 ++ acc).length ≤ 280) : cs_call N (f + 10) 201 [.inl (.ref 106), .inl (.int (nI j))] (σ) = some (.inl (some (.inr (L0.getD j .leaf))), σ) := by
  have ht := h.2.2.2.2.2.2.1
  rw [cs_c201 rfl (by rw [ht]; simp; omega) (by rw [ht]; omega), ht, gd_app hj]
/-- made and laid behind the others -/
theorem gq.mkadd {σ : cs_S} {L : List Tr} {k v : Nat} {vi : Int32} {x y : Tr} {kont : Int32 → cs_S → am_R cs_S} (h : gq σ0 R L σ) (hl : L.length < 280) (hm : cs_made (ic 0) (nI k) vi x y = some (.inner 0 k v x y)) (hk : k ≤ 9) :
    am_ct (cs_call N (f + 10) 205 [.inl (.int (ic 0)), .inl (.int (nI k)), .inr (x), .inr (y), .inl (.int (vi))] (σ)) am_tx (fun r s => am_ci (cs_call N (f + 10) 202 [.inl (.ref 106), .inr (r)] (s)) am_tx kont) = kont 1 (cs_add (cs_mk σ 1 (cs_nf (tr_k (.inner 0 k v x y)))) 106 (.inner 0 k v x y)) := by
  rw [cs_p205 hm, am_ct_ok, cs_p202 (c := 106) (t := .inner 0 k v x y) (fun k => rfl) (show Nat.ble k 9 = true from Nat.ble_eq_true_of_le hk) (show (cs_c (cs_mk σ 1 (cs_nf (tr_k (.inner 0 k v x y)))) 106).1 ≤ 40000 from Nat.le_trans h.2.2.2.2.2.2.2.1.1 (by omega)), am_ci_ok]
theorem cg_79 {a : Nat} (ha : a < L0.length) (hss : ∀ j, j < L0.length → tr_ss (L0.getD j .leaf) = true) {K sz : Nat} :
    ∀ (q k : Nat) (acc : List Tr) (σ : cs_S) (m : Nat) (o4 o5 : Option am_V), 7 ≤ k → k + q = 10 → K + 1 + q ≤ m → gq σ0 R (L0 ++ acc) σ → (L0 ++ (acc ++ k1 (L0.getD a .leaf) k q)).length ≤ 280 →
      (∀ (m' : Nat) (σ' : cs_S) (o3 o4 o5 : Option am_V), K ≤ m' → gq σ0 R (L0 ++ (acc ++ k1 (L0.getD a .leaf) k q)) σ' → P (jX1_grows_66 (am_bk (cs_hop 1 (cs_call N (f + 10))) am_no none kX1_grows m') (cs_call N (f + 10)) σ' (nI sz) (nI (a + 1)) o3 o4 o5)) →
      P (jX1_grows_79 (am_bk (cs_hop 1 (cs_call N (f + 10))) am_no none kX1_grows m) (cs_call N (f + 10)) σ (nI sz) (nI a) (nI k) o4 o5) := by
  intro q
  induction q with
  | zero =>
    intro k acc σ m o4 o5 hk hq hm h hl hc
    obtain rfl : k = 10 := by omega
    obtain ⟨m, rfl⟩ : ∃ x, m = x + 1 := ⟨m - 1, by omega⟩
    rw [jX1_grows_79_eq, show ic 9 = nI 9 from rfl, if_pos (nI_lt (by omega) (by omega)), ic_v1, nI_add, jX1_grows_66_bk]
    refine hc m σ _ _ _ (by omega) ?_
    rw [k1, List.append_nil]
    exact h
  | succ q ih =>
    intro k acc σ m o4 o5 hk hq hm h hl hc
    obtain ⟨m, rfl⟩ : ∃ x, m = x + 1 := ⟨m - 1, by omega⟩
    obtain ⟨t1, t2, t3⟩ := tr_ss_ok (hss a ha)
    have hdp := t1.dp
    have hla : (L0 ++ acc).length < 280 := by
      simp only [List.length_append, k1, List.length_cons] at hl ⊢
      omega
    have hmd : cs_made (ic 0) (nI k) (nI 9) (L0.getD a .leaf) .leaf = some (.inner 0 k (if k = 9 then 9 else 0) (L0.getD a .leaf) .leaf) :=
      cs_made_ok (n := 0) (nI 9) (by omega) (by omega) t1.2.1 trivial (by omega) (by decide) (fun q' => by rw [if_pos (by omega)]; exact ⟨rfl, by omega⟩) (fun q' => by rw [if_neg (by omega)]) (by rw [t1.1, decide_eq_false (by omega)]) (by rw [decide_eq_true (by omega)]; rfl)
    rw [jX1_grows_79_eq, show ic 9 = nI 9 from rfl, if_neg (nI_nlt (by omega) (by omega)), h.get ha (by omega), am_ct_ok, tr_nd_wf t1.2.1 t1.1, cond_true, h.mkadd hla hmd (by omega), ic_v1, nI_add, jX1_grows_79_bk]
    have h' := h.add (t := .inner 0 k (if k = 9 then 9 else 0) (L0.getD a .leaf) .leaf) hla
    rw [List.append_assoc] at h'
    refine ih (k + 1) _ _ m _ _ (by omega) (by omega) (by omega) h' ?_ ?_
    · rw [List.append_assoc]
      exact hl
    · rw [List.append_assoc]
      exact hc
theorem cg_66 (hss : ∀ j, j < L0.length → tr_ss (L0.getD j .leaf) = true) {K sz hi : Nat} (hsz : sz < 6) (hR : R sz = nI hi) (hhi : hi ≤ L0.length) (hL : L0.length ≤ 280) :
    ∀ (q a : Nat) (acc : List Tr) (σ : cs_S) (m : Nat) (o3 o4 o5 : Option am_V), a + q = hi → K + 4 * q ≤ m → gq σ0 R (L0 ++ acc) σ → (L0 ++ (acc ++ sg1 L0 a q)).length ≤ 280 →
      (∀ (m' : Nat) (σ' : cs_S) (o3 o4 o5 : Option am_V), K ≤ m' → gq σ0 R (L0 ++ (acc ++ sg1 L0 a q)) σ' → P (jX1_grows_126 (am_bk (cs_hop 1 (cs_call N (f + 10))) am_no none kX1_grows m') (cs_call N (f + 10)) σ' (nI sz) (nI 1) o3 o4 o5)) →
      P (jX1_grows_66 (am_bk (cs_hop 1 (cs_call N (f + 10))) am_no none kX1_grows m) (cs_call N (f + 10)) σ (nI sz) (nI a) o3 o4 o5) := by
  intro q
  induction q with
  | zero =>
    intro a acc σ m o3 o4 o5 hq hm h hl hc
    obtain rfl : a = hi := by omega
    rw [jX1_grows_66_eq, am_ix_nI (by omega) (by omega), show cs_a σ 107 sz = nI a by unfold cs_a; rw [h.2.2.1, hR], if_pos (nI_le (Nat.le_refl _) (by omega)), ic_v1]
    refine hc m σ _ _ _ (by omega) ?_
    rw [sg1, fm, List.append_nil]
    exact h
  | succ q ih =>
    intro a acc σ m o3 o4 o5 hq hm h hl hc
    rw [jX1_grows_66_eq, am_ix_nI (by omega) (by omega), show cs_a σ 107 sz = nI hi by unfold cs_a; rw [h.2.2.1, hR], if_neg (nI_ge (by omega) (by omega)), show ic 7 = nI 7 from rfl]
    have e : sg1 L0 a (q + 1) = k1 (L0.getD a .leaf) 7 3 ++ sg1 L0 (a + 1) q := rfl
    rw [e, ← List.append_assoc acc] at hl hc
    refine cg_79 (by omega) hss (K := K + 4 * q) 3 7 acc σ m o4 o5 (by omega) (by omega) (by omega) h ?_ ?_
    · simp only [List.length_append] at hl ⊢
      omega
    · intro m' σ' o3 o4 o5 hm' h'
      exact ih (a + 1) _ σ' m' o3 o4 o5 (by omega) hm' h' hl hc
theorem cg_180 {a b : Nat} (ha : a < L0.length) (hb : b < L0.length) (hss : ∀ j, j < L0.length → tr_ss (L0.getD j .leaf) = true) {K : Nat} (v1 v2 : Int32) :
    ∀ (q k : Nat) (acc : List Tr) (σ : cs_S) (m : Nat), 2 ≤ k → k + q = 7 → K + 1 + q ≤ m → gq σ0 R (L0 ++ acc) σ → (L0 ++ (acc ++ k2 (L0.getD a .leaf) (L0.getD b .leaf) k q)).length ≤ 280 →
      (∀ (m' : Nat) (σ' : cs_S) (o5 : Option am_V), K ≤ m' → gq σ0 R (L0 ++ (acc ++ k2 (L0.getD a .leaf) (L0.getD b .leaf) k q)) σ' → P (jX1_grows_164 (am_bk (cs_hop 1 (cs_call N (f + 10))) am_no none kX1_grows m') (cs_call N (f + 10)) σ' v1 v2 (nI a) (nI (b + 1)) o5)) →
      P (jX1_grows_180 (am_bk (cs_hop 1 (cs_call N (f + 10))) am_no none kX1_grows m) (cs_call N (f + 10)) σ v1 v2 (nI a) (nI b) (nI k)) := by
  intro q
  induction q with
  | zero =>
    intro k acc σ m hk hq hm h hl hc
    obtain rfl : k = 7 := by omega
    obtain ⟨m, rfl⟩ : ∃ x, m = x + 1 := ⟨m - 1, by omega⟩
    rw [jX1_grows_180_eq, show ic 6 = nI 6 from rfl, if_pos (nI_lt (by omega) (by omega)), ic_v1, nI_add, jX1_grows_164_bk]
    refine hc m σ _ (by omega) ?_
    rw [k2, List.append_nil]
    exact h
  | succ q ih =>
    intro k acc σ m hk hq hm h hl hc
    obtain ⟨m, rfl⟩ : ∃ x, m = x + 1 := ⟨m - 1, by omega⟩
    obtain ⟨t1, -, -⟩ := tr_ss_ok (hss a ha)
    obtain ⟨u1, -, -⟩ := tr_ss_ok (hss b hb)
    have hdp := t1.dp
    have hdq := u1.dp
    have hla : (L0 ++ acc).length < 280 := by
      simp only [List.length_append, k2, List.length_cons] at hl ⊢
      omega
    have hmd : cs_made (ic 0) (nI k) (ic 0) (L0.getD a .leaf) (L0.getD b .leaf) = some (.inner 0 k 0 (L0.getD a .leaf) (L0.getD b .leaf)) :=
      cs_made_ok (n := 0) (ic 0) (by omega) (by omega) t1.2.1 u1.2.1 (by omega) (by omega) (fun q' => by omega) (fun q' => rfl) (by rw [t1.1, decide_eq_false (by omega)]) (by rw [u1.1, decide_eq_false (by omega)])
    rw [jX1_grows_180_eq, show ic 6 = nI 6 from rfl, if_neg (nI_nlt (by omega) (by omega)), h.get ha (by omega), am_ct_ok, tr_nd_wf t1.2.1 t1.1, cond_true, h.get hb (by omega), am_ct_ok, tr_nd_wf u1.2.1 u1.1, cond_true, h.mkadd hla hmd (by omega), ic_v1, nI_add, jX1_grows_180_bk]
    have h' := h.add (t := .inner 0 k 0 (L0.getD a .leaf) (L0.getD b .leaf)) hla
    rw [List.append_assoc] at h'
    refine ih (k + 1) _ _ m (by omega) (by omega) (by omega) h' ?_ ?_
    · rw [List.append_assoc]
      exact hl
    · rw [List.append_assoc]
      exact hc
theorem cg_164 {a : Nat} (ha : a < L0.length) (hss : ∀ j, j < L0.length → tr_ss (L0.getD j .leaf) = true) {K sz le hi : Nat} (hle : le ≤ sz) (hsz : sz ≤ 4) (hR : R (sz - le) = nI hi) (hhi : hi ≤ L0.length) (hL : L0.length ≤ 280) :
    ∀ (q b : Nat) (acc : List Tr) (σ : cs_S) (m : Nat) (o5 : Option am_V), b + q = hi → K + 1 + 6 * q ≤ m → gq σ0 R (L0 ++ acc) σ → (L0 ++ (acc ++ fm (fun j => sm2 (L0.getD a .leaf) (L0.getD j .leaf)) b q)).length ≤ 280 →
      (∀ (m' : Nat) (σ' : cs_S) (o4 o5 : Option am_V), K ≤ m' → gq σ0 R (L0 ++ (acc ++ fm (fun j => sm2 (L0.getD a .leaf) (L0.getD j .leaf)) b q)) σ' → P (jX1_grows_140 (am_bk (cs_hop 1 (cs_call N (f + 10))) am_no none kX1_grows m') (cs_call N (f + 10)) σ' (nI sz) (nI le) (nI (a + 1)) o4 o5)) →
      P (jX1_grows_164 (am_bk (cs_hop 1 (cs_call N (f + 10))) am_no none kX1_grows m) (cs_call N (f + 10)) σ (nI sz) (nI le) (nI a) (nI b) o5) := by
  intro q
  induction q with
  | zero =>
    intro b acc σ m o5 hq hm h hl hc
    obtain rfl : b = hi := by omega
    obtain ⟨m, rfl⟩ : ∃ x, m = x + 1 := ⟨m - 1, by omega⟩
    rw [jX1_grows_164_eq, nI_subI hle, am_ix_nI (by omega) (by omega), show cs_a σ 107 (sz - le) = nI b by unfold cs_a; rw [h.2.2.1, hR], if_pos (nI_le (Nat.le_refl _) (by omega)), ic_v1, nI_add, jX1_grows_140_bk]
    refine hc m σ _ _ (by omega) ?_
    rw [fm, List.append_nil]
    exact h
  | succ q ih =>
    intro b acc σ m o5 hq hm h hl hc
    rw [jX1_grows_164_eq, nI_subI hle, am_ix_nI (by omega) (by omega), show cs_a σ 107 (sz - le) = nI hi by unfold cs_a; rw [h.2.2.1, hR], if_neg (nI_ge (by omega) (by omega)), ic_v2]
    have e : fm (fun j => sm2 (L0.getD a .leaf) (L0.getD j .leaf)) b (q + 1) = k2 (L0.getD a .leaf) (L0.getD b .leaf) 2 5 ++ fm (fun j => sm2 (L0.getD a .leaf) (L0.getD j .leaf)) (b + 1) q := rfl
    rw [e, ← List.append_assoc acc] at hl hc
    refine cg_180 ha (by omega) hss (K := K + 1 + 6 * q) (nI sz) (nI le) 5 2 acc σ m (by omega) (by omega) (by omega) h ?_ ?_
    · simp only [List.length_append] at hl ⊢
      omega
    · intro m' σ' o5 hm' h'
      exact ih (b + 1) _ σ' m' o5 (by omega) hm' h' hl hc
theorem cg_140 (hss : ∀ j, j < L0.length → tr_ss (L0.getD j .leaf) = true) {K sz le b0 nb hi : Nat} (hle : le + 1 ≤ sz) (hsz : sz ≤ 4) (hR : R (sz - le) = nI (b0 + nb)) (hR1 : R (sz - 1 - le) = nI b0) (hRa : R (le + 1) = nI hi) (hb : b0 + nb ≤ L0.length) (hhi : hi ≤ L0.length) (hL : L0.length ≤ 280) :
    ∀ (q a : Nat) (acc : List Tr) (σ : cs_S) (m : Nat) (o4 o5 : Option am_V), a + q = hi → K + 1 + (6 * nb + 1) * q ≤ m → gq σ0 R (L0 ++ acc) σ → (L0 ++ (acc ++ sg2 L0 a q b0 nb)).length ≤ 280 →
      (∀ (m' : Nat) (σ' : cs_S) (o3 o4 o5 : Option am_V), K ≤ m' → gq σ0 R (L0 ++ (acc ++ sg2 L0 a q b0 nb)) σ' → P (jX1_grows_126 (am_bk (cs_hop 1 (cs_call N (f + 10))) am_no none kX1_grows m') (cs_call N (f + 10)) σ' (nI sz) (nI (le + 1)) o3 o4 o5)) →
      P (jX1_grows_140 (am_bk (cs_hop 1 (cs_call N (f + 10))) am_no none kX1_grows m) (cs_call N (f + 10)) σ (nI sz) (nI le) (nI a) o4 o5) := by
  intro q
  induction q with
  | zero =>
    intro a acc σ m o4 o5 hq hm h hl hc
    obtain rfl : a = hi := by omega
    obtain ⟨m, rfl⟩ : ∃ x, m = x + 1 := ⟨m - 1, by omega⟩
    rw [jX1_grows_140_eq, ic_v1, nI_add, am_ix_nI (by omega) (by omega), show cs_a σ 107 (le + 1) = nI a by unfold cs_a; rw [h.2.2.1, hRa], if_pos (nI_le (Nat.le_refl _) (by omega)), jX1_grows_126_bk]
    refine hc m σ _ _ _ (by omega) ?_
    rw [sg2, fm, List.append_nil]
    exact h
  | succ q ih =>
    intro a acc σ m o4 o5 hq hm h hl hc
    rw [Nat.mul_succ] at hm
    rw [jX1_grows_140_eq, ic_v1, nI_add, am_ix_nI (by omega) (by omega), show cs_a σ 107 (le + 1) = nI hi by unfold cs_a; rw [h.2.2.1, hRa], if_neg (nI_ge (by omega) (by omega)), nI_subI (by omega), nI_subI (by omega), am_ix_nI (by omega) (by omega), show cs_a σ 107 (sz - 1 - le) = nI b0 by unfold cs_a; rw [h.2.2.1, hR1]]
    have e : sg2 L0 a (q + 1) b0 nb = fm (fun j => sm2 (L0.getD a .leaf) (L0.getD j .leaf)) b0 nb ++ sg2 L0 (a + 1) q b0 nb := rfl
    rw [e, ← List.append_assoc acc] at hl hc
    refine cg_164 (by omega) hss (K := K + 1 + (6 * nb + 1) * q) (by omega) hsz hR hb hL nb b0 acc σ m o5 (by omega) (by omega) h ?_ ?_
    · simp only [List.length_append] at hl ⊢
      omega
    · intro m' σ' o4 o5 hm' h'
      exact ih (a + 1) _ σ' m' o4 o5 (by omega) hm' h' hl hc
end
