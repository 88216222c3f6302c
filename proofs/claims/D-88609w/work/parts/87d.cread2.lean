set_option maxRecDepth 100000
/-! lists that were made -/
section
variable {N : Nat} {V : EV} {h : Nat} {σ : cs_S}
theorem cs_p200 {f c : Nat} {v : am_V} (hl : ∀ k, cs_lid σ v k = k c) : cs_call N (f + 10) 200 [v] (σ) = some (.inl (some (.inl (.int (nI (cs_t σ c).length)))), σ) := by
  show cs_prim (f + 9) 200 [v] σ = _
  unfold cs_prim
  simp only [show Nat.ble 9 (f + 9) = true from Nat.ble_eq_true_of_le (by omega), cond_true, hl]
theorem cs_p201 {f c j : Nat} {v : am_V} (hl : ∀ k, cs_lid σ v k = k c) (hj : j < (cs_t σ c).length) (hl9 : (cs_t σ c).length < 2 ^ 31) : cs_call N (f + 10) 201 [v, .inl (.int (nI j))] (σ) = some (.inl (some (.inr ((cs_t σ c).getD j .leaf))), σ) := by
  show cs_prim (f + 9) 201 [v, .inl (.int (nI j))] σ = _
  unfold cs_prim
  simp only [show Nat.ble 9 (f + 9) = true from Nat.ble_eq_true_of_le (by omega), cond_true, hl]
  rw [am_ix_nI hj hl9]
theorem cs_p202 {f c : Nat} {v : am_V} {t : Tr} (hl : ∀ k, cs_lid σ v k = k c) (ht : tr_nd t = true) (hc : (cs_c σ c).1 ≤ 40000) : cs_call N (f + 10) 202 [v, .inr (t)] (σ) = some (.inl (some (.inl (.int (1)))), cs_add σ c t) := by
  show cs_prim (f + 9) 202 [v, .inr t] σ = _
  unfold cs_prim
  simp only [show Nat.ble 9 (f + 9) = true from Nat.ble_eq_true_of_le (by omega), cond_true, hl, ht, show Nat.ble (cs_c σ c).1 40000 = true from Nat.ble_eq_true_of_le hc, Bool.and_self]
theorem cs_p205 {f : Nat} {n k v : Int32} {x y t : Tr} (hm : cs_made n k v x y = some t) : cs_call N (f + 10) 205 [.inl (.int (n)), .inl (.int (k)), .inr (x), .inr (y), .inl (.int (v))] (σ) = some (.inl (some (.inr (t))), cs_mk σ 1 (cs_nf (tr_k t))) := by
  show cs_prim (f + 9) 205 [.inl (.int n), .inl (.int k), .inr x, .inr y, .inl (.int v)] σ = _
  unfold cs_prim
  simp only [show Nat.ble 9 (f + 9) = true from Nat.ble_eq_true_of_le (by omega), cond_true, hm]
/-- a node is made -/
theorem cs_made_ok {n k v : Nat} {x y : Tr} (vi : Int32) (hn : n < 2 ^ 31) (hk : k ≤ 9) (hwx : tr_wf x) (hwy : tr_wf y) (hdx : tr_dp x ≤ 1000) (hdy : tr_dp y ≤ 1000) (hv : (k = 0 ∨ k = 1 ∨ k = 9) → vi = nI v ∧ v < 2 ^ 31) (hv0 : ¬ (k = 0 ∨ k = 1 ∨ k = 9) → v = 0) (hx : tr_lf x = decide (k ≤ 1)) (hy : tr_lf y = decide (¬ (2 ≤ k ∧ k ≤ 6))) : cs_made (nI n) (nI k) vi x y = some (.inner n k v x y) := by
  have hlf : ∀ {z : Tr}, tr_lf z = true → z = .leaf := fun {z} q => by
    cases z with
    | leaf => rfl
    | inner _ _ _ _ _ => cases q
  unfold cs_made
  rw [if_neg (nI_pos hn), nI_clamp hn]
  have e0 : (nI k = 0 ∨ nI k = 1) ↔ k ≤ 1 := by
    rw [show (1 : Int32) = nI 1 from rfl, ← nI_0, nI_eq (by omega) (by omega), nI_eq (by omega) (by omega)]
    omega
  have e2 : (2 ≤ nI k ∧ nI k ≤ 6) ↔ (2 ≤ k ∧ k ≤ 6) := by
    rw [show (2 : Int32) = nI 2 from rfl, show (6 : Int32) = nI 6 from rfl, nI_leI (by omega) (by omega), nI_leI (by omega) (by omega)]
  have e7 : (nI k = 7 ∨ nI k = 8) ↔ (k = 7 ∨ k = 8) := by
    rw [show (7 : Int32) = nI 7 from rfl, show (8 : Int32) = nI 8 from rfl, nI_eq (by omega) (by omega), nI_eq (by omega) (by omega)]
  have e9 : (nI k = 9) ↔ (k = 9) := by
    rw [show (9 : Int32) = nI 9 from rfl, nI_eq (by omega) (by omega)]
  by_cases h0 : k ≤ 1
  · obtain ⟨rfl, hv9⟩ := hv (by omega)
    rw [decide_eq_true h0] at hx
    rw [decide_eq_true (show ¬ (2 ≤ k ∧ k ≤ 6) by omega)] at hy
    rw [if_pos (e0.mpr h0), if_neg (nI_pos hv9), nI_clamp (by omega), nI_clamp hv9, hx, hy, hlf hx, hlf hy]
    rfl
  · rw [if_neg (fun q => h0 (e0.mp q))]
    rw [decide_eq_false h0] at hx
    by_cases h2 : 2 ≤ k ∧ k ≤ 6
    · rw [decide_eq_false (fun q => q h2)] at hy
      rw [if_pos (e2.mpr h2), tr_nd_wf hwx hx, tr_nd_wf hwy hy, show Nat.ble (tr_dp x) 1000 = true from Nat.ble_eq_true_of_le hdx, show Nat.ble (tr_dp y) 1000 = true from Nat.ble_eq_true_of_le hdy, nI_clamp (by omega), hv0 (by omega)]
      rfl
    · rw [decide_eq_true h2] at hy
      rw [if_neg (fun q => h2 (e2.mp q))]
      by_cases h7 : k = 7 ∨ k = 8
      · rw [if_pos (e7.mpr h7), tr_nd_wf hwx hx, hy, nI_clamp (by omega), hv0 (by omega), hlf hy]
        rfl
      · obtain rfl : k = 9 := by omega
        obtain ⟨rfl, hv9⟩ := hv (by omega)
        rw [if_neg (fun q => h7 (e7.mp q)), if_pos (e9.mpr rfl), if_neg (nI_pos hv9), nI_clamp hv9, tr_nd_wf hwx hx, hy, hlf hy]
        rfl
/-- only a list has changed, and what was made -/
def cs_kd (c k : Nat) (σ σ' : cs_S) : Prop := σ'.1 = σ.1 ∧ σ'.2.1 = σ.2.1 ∧ σ'.2.2.1 = σ.2.2.1 ∧ (∀ c', c' ≠ c → cs_t σ' c' = cs_t σ c' ∧ cs_c σ' c' = cs_c σ c') ∧ cs_p σ' = cs_p σ ∧ cs_y σ' = cs_y σ ∧ cs_n1 σ' ≤ cs_n1 σ + 2 * k ∧ cs_n2 σ' ≤ cs_n2 σ + 60 * k
theorem cs_kd.rf (c : Nat) (σ : cs_S) : cs_kd c 0 σ σ := ⟨rfl, rfl, rfl, fun _ _ => ⟨rfl, rfl⟩, rfl, rfl, Nat.le_refl _, Nat.le_refl _⟩
theorem cs_kd.tr {c k k' : Nat} {σ σ' σ'' : cs_S} (a : cs_kd c k σ σ') (b : cs_kd c k' σ' σ'') : cs_kd c (k + k') σ σ'' := by
  obtain ⟨a1, a2, a3, a4, a5, a6, a7, a8⟩ := a
  obtain ⟨b1, b2, b3, b4, b5, b6, b7, b8⟩ := b
  exact ⟨b1.trans a1, b2.trans a2, b3.trans a3, fun c' q => ⟨(b4 c' q).1.trans (a4 c' q).1, (b4 c' q).2.trans (a4 c' q).2⟩, b5.trans a5, b6.trans a6, by omega, by omega⟩
theorem cs_kd.E {c k : Nat} {σ' : cs_S} (a : cs_kd c k σ σ') (hE : cE σ V h) : cE σ' V h := by
  unfold cE cs_i cs_a at *
  rw [a.1, a.2.1]
  exact hE
theorem cs_kd.T {c k W : Nat} {σ' : cs_S} (a : cs_kd c k σ σ') (hT : cT σ V h W) : cT σ' V h W := by
  unfold cT cs_l at *
  rw [a.2.2.1]
  exact hT
theorem cs_add_t (σ : cs_S) (c : Nat) (t : Tr) : cs_t (cs_add σ c t) c = cs_t σ c ++ [t] := by
  unfold cs_add
  split
  · show va_up σ.2.2.2.1 c _ c = _
    rw [va_up_self]
  · show va_up σ.2.2.2.1 c _ c = _
    rw [va_up_self]
theorem cs_add_c {σ : cs_S} {c B : Nat} {t : Tr} (hB : (cs_c σ c).1 ≤ B) (h2 : cs_cap (cs_t σ c).length ≤ B) (h10 : 10 ≤ B) : (cs_c (cs_add σ c t) c).1 ≤ B := by
  unfold cs_add
  split
  · show (va_up σ.2.2.2.2.1 c _ c).1 ≤ B
    rw [va_up_self]
    exact hB
  · rename_i hlt
    show (va_up σ.2.2.2.2.1 c _ c).1 ≤ B
    rw [va_up_self]
    show cs_cap (cs_c σ c).1 ≤ B
    unfold cs_cap at h2 ⊢
    split
    · exact h10
    · split at h2
      · omega
      · omega
theorem cs_add_kd {σ : cs_S} {c : Nat} {t : Tr} (h1 : (cs_t σ c).length ≤ 20) : cs_kd c 1 (cs_mk σ 1 (cs_nf (tr_k t))) (cs_add (cs_mk σ 1 (cs_nf (tr_k t))) c t) ∧ cs_n1 (cs_add (cs_mk σ 1 (cs_nf (tr_k t))) c t) ≤ cs_n1 σ + 2 ∧ cs_n2 (cs_add (cs_mk σ 1 (cs_nf (tr_k t))) c t) ≤ cs_n2 σ + 60 := by
  have hnf : cs_nf (tr_k t) ≤ 6 := by
    unfold cs_nf
    split <;> omega
  have hcap : (cs_c σ c).1 ≤ (cs_t σ c).length → cs_cap (cs_c σ c).1 ≤ 30 := fun q => by
    unfold cs_cap
    split <;> omega
  have hother : ∀ (l : List Tr) (q : Nat × Int32) (c' : Nat), c' ≠ c → va_up σ.2.2.2.1 c l c' = σ.2.2.2.1 c' ∧ va_up σ.2.2.2.2.1 c q c' = σ.2.2.2.2.1 c' := fun l q c' z => ⟨va_up_ne _ _ z, va_up_ne _ _ z⟩
  unfold cs_add
  split
  · refine ⟨⟨rfl, rfl, rfl, fun c' q => hother _ _ c' q, rfl, rfl, Nat.le_add_right _ _, Nat.le_add_right _ _⟩, ?_, ?_⟩
    · show cs_n1 σ + 1 ≤ _
      omega
    · show cs_n2 σ + cs_nf (tr_k t) ≤ _
      omega
  · rename_i hlt
    have hlt' : (cs_c σ c).1 ≤ (cs_t σ c).length := Nat.le_of_not_lt hlt
    have hc := hcap hlt'
    refine ⟨⟨rfl, rfl, rfl, fun c' q => hother _ _ c' q, rfl, rfl, ?_, ?_⟩, ?_, ?_⟩
    · show cs_n1 σ + 1 + 1 ≤ cs_n1 σ + 1 + 2 * 1
      omega
    · show cs_n2 σ + cs_nf (tr_k t) + cs_cap (cs_c σ c).1 ≤ cs_n2 σ + cs_nf (tr_k t) + 60 * 1
      omega
    · show cs_n1 σ + 1 + 1 ≤ _
      omega
    · show cs_n2 σ + cs_nf (tr_k t) + cs_cap (cs_c σ c).1 ≤ _
      omega
/-- a node is made and laid behind its parts -/
theorem cs_rdMake {f n0 k v : Nat} {x y : Tr} {vi : Int32} (v1 v2 v3 v4 : Int32) (w5 : Int64) (o11 : Option am_V) (back : cs_bt) (hv1 : v1 = nI k) (hy1 : (cs_y σ)[n0]? = some 1) (h120 : (cs_t σ 100).length ≤ 120) (h20 : (cs_t σ (400 + n0)).length < 20) (hcap : (cs_c σ (400 + n0)).1 ≤ 40)
    (hwf : tr_wf (.inner ((cs_t σ 100).length + (cs_t σ (400 + n0)).length) k v x y)) (hdx : tr_dp x ≤ 1000) (hdy : tr_dp y ≤ 1000) (hv : (k = 0 ∨ k = 1 ∨ k = 9) → vi = nI v) :
    ∃ σ', jX1_reading_2_163 back (cs_call N (f + 10)) σ v1 v2 v3 v4 w5 (.inner n0 52 0 .leaf .leaf) x y vi o11 = some (.inl (some (.inr (.inner ((cs_t σ 100).length + (cs_t σ (400 + n0)).length) k v x y))), σ') ∧ cs_t σ' (400 + n0) = cs_t σ (400 + n0) ++ [.inner ((cs_t σ 100).length + (cs_t σ (400 + n0)).length) k v x y] ∧ cs_kd (400 + n0) 1 σ σ' ∧ (cs_c σ' (400 + n0)).1 ≤ 40 := by
  subst hv1
  have hl : ∀ {σ : cs_S}, (cs_y σ)[n0]? = some 1 → ∀ k, cs_lid σ (.inr (.inner n0 52 0 .leaf .leaf)) k = k (400 + n0) := fun {σ} q k => by simp only [cs_lid, q]
  have hwv := tr_wf_v hwf
  have h3 := hwf.2.2
  have hmk : cs_made (nI ((cs_t σ 100).length + (cs_t σ (400 + n0)).length)) (nI k) vi x y = some (.inner ((cs_t σ 100).length + (cs_t σ (400 + n0)).length) k v x y) := by
    refine cs_made_ok vi (by omega) hwv.1 hwf.1 hwf.2.1 hdx hdy (fun q => ⟨hv q, by omega⟩) hwv.2.2 ?_ ?_
    · rcases h3 with ⟨rfl, -, hx, hy⟩ | ⟨rfl, -, hx, hy⟩ | ⟨a, b, -, hx, hy⟩ | ⟨a, -, hx, hy⟩ | ⟨rfl, -, hx, hy⟩
      · rw [hx]; rfl
      · rw [hx]; rfl
      · rw [hx, decide_eq_false (by omega)]
      · rw [hx, decide_eq_false (by omega)]
      · rw [hx]; rfl
    · rcases h3 with ⟨rfl, -, hx, hy⟩ | ⟨rfl, -, hx, hy⟩ | ⟨a, b, -, hx, hy⟩ | ⟨a, -, hx, hy⟩ | ⟨rfl, -, hx, hy⟩
      · rw [hy]; rfl
      · rw [hy]; rfl
      · rw [hy, decide_eq_false (by omega)]
      · rw [hy, decide_eq_true (by omega)]
      · rw [hy]; rfl
  have hnd : tr_nd (.inner ((cs_t σ 100).length + (cs_t σ (400 + n0)).length) k v x y) = true := Nat.ble_eq_true_of_le hwv.1
  rw [jX1_reading_2_163_eq, cs_c200 rfl, am_ci_ok]
  simp only [show ∀ z : List am_V, cs_rc 4 (.inr (.inner n0 52 0 .leaf .leaf) :: z) = true from fun _ => rfl, cond_true]
  rw [cs_p200 (hl hy1), am_ci_ok, nI_add, cs_p205 hmk, am_ct_ok, cs_p202 (σ := cs_mk σ 1 (cs_nf (tr_k (.inner ((cs_t σ 100).length + (cs_t σ (400 + n0)).length) k v x y)))) (c := 400 + n0) (hl (by exact hy1)) hnd (show (cs_c σ (400 + n0)).1 ≤ 40000 by omega), am_ci_ok]
  have hak := cs_add_kd (σ := σ) (c := 400 + n0) (t := .inner ((cs_t σ 100).length + (cs_t σ (400 + n0)).length) k v x y) (by omega)
  refine ⟨_, rfl, cs_add_t _ _ _, ?_, ?_⟩
  · obtain ⟨⟨a1, a2, a3, a4, a5, a6, -, -⟩, a7, a8⟩ := hak
    exact ⟨a1, a2, a3, fun c' q => a4 c' q, a5, a6, by omega, by omega⟩
  · refine cs_add_c (B := 40) hcap ?_ (by omega)
    show cs_cap (cs_t σ (400 + n0)).length ≤ 40
    unfold cs_cap
    split <;> omega
end
