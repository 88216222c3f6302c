set_option maxRecDepth 100000
/-! THE MODEL's SMALL TREES. -/
def msm (μ : mm_S) (L : List Tr) : Prop := μ.1 23 = nI L.length ∧ L.length ≤ 280 ∧ ∀ j, j < L.length → mr μ 120 (120 + L.length) (L.getD j .leaf) (nI (120 + j))
def mm_ks (μ μ' : mm_S) : Prop := (∀ j, j ≠ 23 → μ'.1 j = μ.1 j) ∧ (∀ c, c = 0 ∨ 6 < c → μ'.2.1 c = μ.2.1 c) ∧ (∀ c j, j < 120 → μ'.2.1 c j = μ.2.1 c j) ∧ μ'.2.2 = μ.2.2
theorem mm_ks.rf (μ : mm_S) : mm_ks μ μ := ⟨fun _ _ => rfl, fun _ _ => rfl, fun _ _ _ => rfl, rfl⟩
theorem mm_ks.tr {μ μ' μ'' : mm_S} (a : mm_ks μ μ') (b : mm_ks μ' μ'') : mm_ks μ μ'' :=
  ⟨fun j q => (b.1 j q).trans (a.1 j q), fun c q => (b.2.1 c q).trans (a.2.1 c q), fun c j q => (b.2.2.1 c j q).trans (a.2.2.1 c j q), b.2.2.2.trans a.2.2.2⟩
theorem gd_app {L A : List Tr} {j : Nat} (h : j < L.length) : (L ++ A).getD j .leaf = L.getD j .leaf := by
  rw [List.getD_eq_getElem?_getD, List.getD_eq_getElem?_getD, List.getElem?_append_left h]
theorem gd_last {L : List Tr} {t : Tr} : (L ++ [t]).getD L.length .leaf = t := by simp
theorem mr_nil (μ : mm_S) (lo hi : Nat) : mr μ lo hi .leaf (ic (-2)) := show ic (-2) = -2 from by decide
section
variable {N : Nat}
theorem mm_adds {f k v : Nat} {μ : mm_S} {L : List Tr} {tx ty : Tr} {x y : Int32} (h : msm μ L) (hL : L.length < 280) (hx : mr μ 120 (120 + L.length) tx x) (hy : mr μ 120 (120 + L.length) ty y) (hsx : tr_sz tx < 1000) (hsy : tr_sz ty < 1000) :
    ∃ μ', mm_call N (f + 2) 30 [.inl (.ref 0), .inl (.int (nI k)), .inl (.int (tr_vI k v)), .inl (.int (x)), .inl (.int (y))] (μ) = some (.inl none, μ') ∧ msm μ' (L ++ [.inner 0 k v tx ty]) ∧ mm_ks μ μ' := by
  obtain ⟨h1, h2, h3⟩ := h
  obtain ⟨s', e, hs⟩ := mm_sets (N := N) (f := f) (p := 120 + L.length) (k := nI k) (v := tr_vI k v) (by omega) hx hy (by omega) hsx hsy
  rw [dX6_adds_eq]
  unfold dX6_adds
  rw [h1, show ic 120 = nI 120 from rfl, nI_add, e, am_cv_ok]
  refine ⟨_, rfl, ⟨?_, by simp; omega, fun j hj => ?_⟩, ⟨fun j hj => ?_, fun c hc => hs.2.2.1 c hc, fun c j hj => hs.2.2.2.1 c j (by omega), hs.2.1⟩⟩
  · rw [mm_p_get, if_pos rfl, hs.1, h1, ic_v1, nI_add, List.length_append]
    rfl
  · simp only [List.length_append, List.length_singleton] at hj ⊢
    have hmv : ∀ t i hi, mr s' 120 hi t i → mr (mm_p s' 23 (s'.1 23 + ic 1)) 120 hi t i := fun t i hi q => mr_of (μ := s') (μ' := mm_p s' 23 (s'.1 23 + ic 1)) (fun _ _ _ _ _ _ => rfl) t i q
    by_cases q : j = L.length
    · subst q
      rw [gd_last]
      exact hmv _ _ _ (hs.new (Nat.le_refl _) (by omega) hx hy)
    · rw [gd_app (by omega)]
      exact hmv _ _ _ (mr_up (Nat.le_refl _) (by omega) _ _ (hs.mv (.inr (Nat.le_refl _)) (h3 j (by omega))))
  · rw [mm_p_get, if_neg hj, hs.1]
/-- a row's size -/
theorem msm.sz {μ : mm_S} {L : List Tr} (h : msm μ L) {j : Nat} (hj : j < L.length) : μ.2.1 5 (120 + j) = nI (tr_sz (L.getD j .leaf)) := by
  have h3 := h.2.2 j hj
  have h2 := h.2.1
  cases ht : L.getD j .leaf with
  | leaf =>
    rw [ht] at h3
    have : nI (120 + j) < 0 := by rw [show nI (120 + j) = -2 from h3]; decide
    exact absurd this (nI_pos (by omega))
  | inner n k v x y =>
    rw [ht] at h3
    obtain ⟨p, -, hp, e, -, -, e5, -⟩ := h3
    rw [(nI_eq (by omega) (by omega)).mp e]
    exact e5
def k2 (x y : Tr) : Nat → Nat → List Tr
  | _, 0 => []
  | k, q + 1 => .inner 0 k 0 x y :: k2 x y (k + 1) q
theorem k2_sm (x y : Tr) : k2 x y 2 5 = sm2 x y := rfl
variable {f n : Nat} {L0 : List Tr} {μ0 : mm_S} {P : am_R mm_S → Prop}
theorem mg_77 {a b : Nat} (ha : a < L0.length) (hb : b < L0.length) (hl : L0.length ≤ 280) (hn : n ≤ 4) (hn1 : 1 ≤ n) (hsz : ∀ j, j < L0.length → tr_sz (L0.getD j .leaf) ≤ 4) (heq : tr_sz (L0.getD a .leaf) + tr_sz (L0.getD b .leaf) = n - 1) {K : Nat} :
    ∀ (q k : Nat) (acc : List Tr) (μ : mm_S) (m : Nat), 2 ≤ k → k + q = 7 → K + q ≤ m → msm μ (L0 ++ acc) → mm_ks μ0 μ → (L0 ++ (acc ++ k2 (L0.getD a .leaf) (L0.getD b .leaf) k q)).length ≤ 280 →
      (∀ (m' : Nat) (μ' : mm_S), K ≤ m' → msm μ' (L0 ++ (acc ++ k2 (L0.getD a .leaf) (L0.getD b .leaf) k q)) → mm_ks μ0 μ' → P (jX6_grows_121 (am_bk (mm_hop (mm_call N (f + 2))) am_no none kX6_grows m') (mm_call N (f + 2)) μ' (nI n) (nI L0.length) (nI (120 + a)) (nI (120 + b)) (nI 7))) →
      P (jX6_grows_77 (am_bk (mm_hop (mm_call N (f + 2))) am_no none kX6_grows m) (mm_call N (f + 2)) μ (nI n) (nI L0.length) (nI (120 + a)) (nI (120 + b)) (nI k)) := by
  intro q
  induction q with
  | zero =>
    intro k acc μ m hk hq hm h1 h2 hlen hc
    obtain rfl : k = 7 := by omega
    rw [jX6_grows_77_eq, show ic 6 = nI 6 from rfl, if_pos (nI_lt (by omega) (by omega)), jX6_grows_121_84_eq]
    refine hc m μ (by omega) ?_ h2
    rw [k2, List.append_nil]
    exact h1
  | succ q ih =>
    intro k acc μ m hk hq hm h1 h2 hlen hc
    obtain ⟨m, rfl⟩ : ∃ m', m = m' + 1 := ⟨m - 1, by omega⟩
    have hla : (L0 ++ acc).length < 280 := by
      simp only [List.length_append, k2, List.length_cons] at hlen ⊢
      omega
    have sa := h1.sz (j := a) (by simp; omega)
    have sb := h1.sz (j := b) (by simp; omega)
    have ra := h1.2.2 a (by simp; omega)
    have rb := h1.2.2 b (by simp; omega)
    rw [gd_app ha] at sa ra
    rw [gd_app hb] at sb rb
    have za := hsz a ha
    have zb := hsz b hb
    obtain ⟨μ', e, g1, g2⟩ := mm_adds (N := N) (f := f) (k := k) (v := 0) h1 hla ra rb (by omega) (by omega)
    rw [show tr_vI k 0 = ic (-2) by unfold tr_vI; rw [if_neg (by omega)]; rfl] at e
    rw [jX6_grows_77_eq, show ic 6 = nI 6 from rfl, if_neg (nI_nlt (by omega) (by omega)), am_ix_nI (by omega) (by omega), am_ix_nI (by omega) (by omega), sa, sb, nI_add, ic_v1, nI_subI (by omega), if_pos (by rw [heq]), e, am_cv_ok, nI_add, jX6_grows_77_bk]
    rw [List.append_assoc] at g1
    refine ih (k + 1) (acc ++ [.inner 0 k 0 (L0.getD a .leaf) (L0.getD b .leaf)]) μ' m (by omega) (by omega) (by omega) g1 (h2.tr g2) ?_ ?_
    · rw [List.append_assoc]
      exact hlen
    · rw [List.append_assoc]
      exact hc
def mgB (n : Nat) (L : List Tr) (a b : Nat) : List Tr := if tr_sz (L.getD a .leaf) + tr_sz (L.getD b .leaf) = n - 1 then sm2 (L.getD a .leaf) (L.getD b .leaf) else []
def mgA (n : Nat) (L : List Tr) (a : Nat) : List Tr := (if tr_sz (L.getD a .leaf) = n - 1 then sm1 (L.getD a .leaf) else []) ++ fm (mgB n L a) 0 L.length
theorem smg_eq (n : Nat) (L : List Tr) : smg n L = L ++ fm (mgA n L) 0 L.length := rfl
theorem mg_65 {a : Nat} (ha : a < L0.length) (hl : L0.length ≤ 280) (hn : n ≤ 4) (hn1 : 1 ≤ n) (hsz : ∀ j, j < L0.length → tr_sz (L0.getD j .leaf) ≤ 4) {K : Nat} :
    ∀ (q b : Nat) (acc : List Tr) (μ : mm_S) (m : Nat) (o5 : Option am_V), b + q = L0.length → K + 1 + 6 * q ≤ m → msm μ (L0 ++ acc) → mm_ks μ0 μ → (L0 ++ (acc ++ fm (mgB n L0 a) b q)).length ≤ 280 →
      (∀ (m' : Nat) (μ' : mm_S) (o4 o5 : Option am_V), K ≤ m' → msm μ' (L0 ++ (acc ++ fm (mgB n L0 a) b q)) → mm_ks μ0 μ' → P (jX6_grows_8 (am_bk (mm_hop (mm_call N (f + 2))) am_no none kX6_grows m') (mm_call N (f + 2)) μ' (nI n) (nI L0.length) (nI (120 + (a + 1))) o4 o5)) →
      P (jX6_grows_65 (am_bk (mm_hop (mm_call N (f + 2))) am_no none kX6_grows m) (mm_call N (f + 2)) μ (nI n) (nI L0.length) (nI (120 + a)) (nI (120 + b)) o5) := by
  intro q
  induction q with
  | zero =>
    intro b acc μ m o5 hq hm h1 h2 hlen hc
    obtain rfl : b = L0.length := by omega
    obtain ⟨m, rfl⟩ : ∃ m', m = m' + 1 := ⟨m - 1, by omega⟩
    rw [jX6_grows_65_eq, show ic 120 = nI 120 from rfl, nI_add, if_pos (nI_le (Nat.le_refl _) (by omega)), ic_v1, nI_add, jX6_grows_8_bk]
    refine hc m μ _ _ (by omega) ?_ h2
    rw [fm, List.append_nil]
    exact h1
  | succ q ih =>
    intro b acc μ m o5 hq hm h1 h2 hlen hc
    rw [jX6_grows_65_eq, show ic 120 = nI 120 from rfl, nI_add, if_neg (nI_ge (by omega) (by omega)), ic_v2]
    rw [fm, ← List.append_assoc acc] at hlen hc
    have hlen2 : (L0 ++ (acc ++ mgB n L0 a b)).length ≤ 280 := by
      simp only [List.length_append] at hlen ⊢
      omega
    have hnext : ∀ (m' : Nat) (μ' : mm_S) (v5 : Int32), K + 1 + 6 * q + 1 ≤ m' → msm μ' (L0 ++ (acc ++ mgB n L0 a b)) → mm_ks μ0 μ' → P (jX6_grows_121 (am_bk (mm_hop (mm_call N (f + 2))) am_no none kX6_grows m') (mm_call N (f + 2)) μ' (nI n) (nI L0.length) (nI (120 + a)) (nI (120 + b)) v5) := by
      intro m' μ' v5 hm' g1 g2
      obtain ⟨m', rfl⟩ : ∃ x, m' = x + 1 := ⟨m' - 1, by omega⟩
      rw [jX6_grows_121_eq, ic_v1, nI_add, jX6_grows_65_bk]
      exact ih (b + 1) _ μ' m' _ (by omega) (by omega) g1 g2 hlen hc
    by_cases he : tr_sz (L0.getD a .leaf) + tr_sz (L0.getD b .leaf) = n - 1
    · have hB : mgB n L0 a b = k2 (L0.getD a .leaf) (L0.getD b .leaf) 2 5 := by unfold mgB; rw [if_pos he, k2_sm]
      rw [hB] at hlen2 hnext
      exact mg_77 (K := K + 1 + 6 * q + 1) ha (by omega) hl hn hn1 hsz he 5 2 acc μ m (by omega) (by omega) (by omega) h1 h2 hlen2 (fun m' μ' a1 a2 a3 => hnext m' μ' _ a1 a2 a3)
    · have hB : mgB n L0 a b = [] := by unfold mgB; rw [if_neg he]
      rw [hB, List.append_nil] at hnext
      have sa := h1.sz (j := a) (by simp; omega)
      have sb := h1.sz (j := b) (by simp; omega)
      rw [gd_app ha] at sa
      rw [gd_app (show b < L0.length by omega)] at sb
      have za := hsz a ha
      have zb := hsz b (by omega)
      rw [jX6_grows_77_eq, show ic 6 = nI 6 from rfl, if_neg (nI_nlt (by omega) (by omega)), am_ix_nI (by omega) (by omega), am_ix_nI (by omega) (by omega), sa, sb, nI_add, ic_v1, nI_subI (by omega), if_neg (fun q' => he ((nI_eq (by omega) (by omega)).mp q')), jX6_grows_121_104_eq]
      exact hnext m μ _ (by omega) h1 h2
theorem mg_8 (hl : L0.length ≤ 280) (hn : n ≤ 4) (hn1 : 1 ≤ n) (hsz : ∀ j, j < L0.length → tr_sz (L0.getD j .leaf) ≤ 4) :
    ∀ (q a : Nat) (acc : List Tr) (μ : mm_S) (m : Nat) (o4 o5 : Option am_V), a + q = L0.length → (6 * L0.length + 1) * q ≤ m → msm μ (L0 ++ acc) → mm_ks μ0 μ → (L0 ++ (acc ++ fm (mgA n L0) a q)).length ≤ 280 →
      ∃ μ', jX6_grows_8 (am_bk (mm_hop (mm_call N (f + 2))) am_no none kX6_grows m) (mm_call N (f + 2)) μ (nI n) (nI L0.length) (nI (120 + a)) o4 o5 = some (.inl none, μ') ∧ msm μ' (L0 ++ (acc ++ fm (mgA n L0) a q)) ∧ mm_ks μ0 μ' := by
  intro q
  induction q with
  | zero =>
    intro a acc μ m o4 o5 hq hm h1 h2 hlen
    obtain rfl : a = L0.length := by omega
    rw [jX6_grows_8_eq, show ic 120 = nI 120 from rfl, nI_add, if_pos (nI_le (Nat.le_refl _) (by omega))]
    refine ⟨μ, rfl, ?_, h2⟩
    rw [fm, List.append_nil]
    exact h1
  | succ q ih =>
    intro a acc μ m o4 o5 hq hm h1 h2 hlen
    have ha : a < L0.length := by omega
    have za := hsz a ha
    have sa := h1.sz (j := a) (by simp; omega)
    rw [gd_app ha] at sa
    rw [Nat.mul_succ] at hm
    rw [jX6_grows_8_eq, show ic 120 = nI 120 from rfl, nI_add, if_neg (nI_ge (by omega) (by omega)), am_ix_nI (by omega) (by omega), sa, ic_v1, nI_subI (by omega)]
    rw [show fm (mgA n L0) a (q + 1) = mgA n L0 a ++ fm (mgA n L0) (a + 1) q from rfl] at hlen ⊢
    rw [show mgA n L0 a = (if tr_sz (L0.getD a .leaf) = n - 1 then sm1 (L0.getD a .leaf) else []) ++ fm (mgB n L0 a) 0 L0.length from rfl] at hlen ⊢
    have hnext : ∀ (acc1 : List Tr) (μ1 : mm_S) (o4 o5 : Option am_V), acc1 = acc ++ (if tr_sz (L0.getD a .leaf) = n - 1 then sm1 (L0.getD a .leaf) else []) → msm μ1 (L0 ++ acc1) → mm_ks μ0 μ1 → ∃ μ', jX6_grows_61 (am_bk (mm_hop (mm_call N (f + 2))) am_no none kX6_grows m) (mm_call N (f + 2)) μ1 (nI n) (nI L0.length) (nI (120 + a)) o4 o5 = some (.inl none, μ') ∧ msm μ' (L0 ++ (acc ++ ((if tr_sz (L0.getD a .leaf) = n - 1 then sm1 (L0.getD a .leaf) else []) ++ fm (mgB n L0 a) 0 L0.length ++ fm (mgA n L0) (a + 1) q))) ∧ mm_ks μ0 μ' := by
      intro acc1 μ1 o4 o5 hacc g1 g2
      rw [jX6_grows_61_eq, show ic 120 = nI (120 + 0) from rfl]
      have hfull : acc ++ ((if tr_sz (L0.getD a .leaf) = n - 1 then sm1 (L0.getD a .leaf) else []) ++ fm (mgB n L0 a) 0 L0.length ++ fm (mgA n L0) (a + 1) q) = (acc1 ++ fm (mgB n L0 a) 0 L0.length) ++ fm (mgA n L0) (a + 1) q := by
        rw [hacc]
        simp only [List.append_assoc]
      rw [hfull] at hlen ⊢
      refine mg_65 (P := fun r => ∃ μ', r = some (.inl none, μ') ∧ msm μ' (L0 ++ (acc1 ++ fm (mgB n L0 a) 0 L0.length ++ fm (mgA n L0) (a + 1) q)) ∧ mm_ks μ0 μ') (K := (6 * L0.length + 1) * q) ha hl hn hn1 hsz L0.length 0 acc1 μ1 m o5 (by omega) (by omega) g1 g2 ?_ ?_
      · simp only [List.length_append] at hlen ⊢
        omega
      · intro m' μ' o4 o5 b1 b2 b3
        exact ih (a + 1) (acc1 ++ fm (mgB n L0 a) 0 L0.length) μ' m' o4 o5 (by omega) b1 b2 b3 hlen
    by_cases he : tr_sz (L0.getD a .leaf) = n - 1
    · rw [if_pos (by rw [he])]
      rw [if_pos he] at hlen hnext ⊢
      have hb0 : (L0 ++ acc).length + 3 ≤ 280 := by
        simp only [List.length_append, sm1, List.length_cons, List.length_nil] at hlen ⊢
        omega
      have ra := h1.2.2 a (by simp; omega)
      rw [gd_app ha] at ra
      obtain ⟨μ1, e1, p1, k1⟩ := mm_adds (N := N) (f := f) (k := 7) (v := 0) (ty := .leaf) (y := ic (-2)) h1 (by omega) ra (mr_nil _ _ _) (by omega) (by decide)
      have ra1 := p1.2.2 a (by simp; omega)
      rw [gd_app (by simp; omega), gd_app ha] at ra1
      obtain ⟨μ2, e2, p2, k2'⟩ := mm_adds (N := N) (f := f) (k := 8) (v := 0) (ty := .leaf) (y := ic (-2)) p1 (by simp only [List.length_append, List.length_singleton] at hb0 ⊢; omega) ra1 (mr_nil _ _ _) (by omega) (by decide)
      have ra2 := p2.2.2 a (by simp; omega)
      rw [gd_app (by simp; omega), gd_app (by simp; omega), gd_app ha] at ra2
      obtain ⟨μ3, e3, p3, k3⟩ := mm_adds (N := N) (f := f) (k := 9) (v := 9) (ty := .leaf) (y := ic (-2)) p2 (by simp only [List.length_append, List.length_singleton] at hb0 ⊢; omega) ra2 (mr_nil _ _ _) (by omega) (by decide)
      rw [show ic 7 = nI 7 from rfl, show ic (-2) = tr_vI 7 0 from rfl] at *
      rw [e1, am_cv_ok, show ic 8 = nI 8 from rfl]
      rw [show tr_vI 7 0 = tr_vI 8 0 from rfl] at *
      rw [e2, am_cv_ok, show ic 9 = tr_vI 9 9 from rfl]
      rw [show (tr_vI 9 9 : Int32) = nI 9 from rfl] at *
      rw [e3, am_cv_ok]
      refine hnext _ μ3 _ _ rfl ?_ (h2.tr (k1.tr (k2'.tr k3)))
      simp only [List.append_assoc, List.cons_append, List.nil_append] at p3
      exact p3
    · rw [if_neg (fun q' => he ((nI_eq (by omega) (by omega)).mp q')), jX6_grows_61_28_eq]
      rw [if_neg he] at hlen hnext ⊢
      exact hnext acc μ _ _ (List.append_nil _).symm h1 h2
theorem mm_grows {μ : mm_S} {L : List Tr} (h : msm μ L) (hn : n ≤ 4) (hn1 : 1 ≤ n) (hsz : ∀ j, j < L.length → tr_sz (L.getD j .leaf) ≤ 4) (hl : L.length ≤ 46) (hlen : (smg n L).length ≤ 280) (hN : 20000 ≤ N) :
    ∃ μ', mm_call N (f + 3) 31 [.inl (.ref 0), .inl (.int (nI n))] (μ) = some (.inl none, μ') ∧ msm μ' (smg n L) ∧ mm_ks μ μ' := by
  rw [dX6_grows_eq]
  unfold dX6_grows
  rw [h.1, show ic 120 = nI (120 + 0) from rfl]
  have hm : (6 * L.length + 1) * L.length ≤ N := Nat.le_trans (Nat.mul_le_mul (show 6 * L.length + 1 ≤ 277 by omega) hl) (by omega)
  rw [smg_eq] at hlen ⊢
  have := mg_8 (N := N) (f := f) (L0 := L) (μ0 := μ) (n := n) (by omega) hn hn1 hsz L.length 0 [] μ N none none (by omega) hm (by rw [List.append_nil]; exact h) (mm_ks.rf μ) (by rw [List.nil_append]; exact hlen)
  rw [List.nil_append] at this
  exact this
end
