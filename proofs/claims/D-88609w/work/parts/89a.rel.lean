set_option maxRecDepth 100000
/-! THE RELATION between the component's state and the model's. -/
def tr_ix (t : Tr) : Int32 := bif tr_lf t then -2 else nI (tr_n t)
/-- a tree stands in the model's rows, each node at its own number, parts at lesser ones -/
def mn (μ : mm_S) : Tr → Prop
  | .leaf => True
  | .inner n k v x y => μ.2.1 1 n = nI k ∧ μ.2.1 2 n = tr_vI k v ∧ μ.2.1 3 n = tr_ix x ∧ μ.2.1 4 n = tr_ix y ∧ μ.2.1 5 n = nI (tr_sz (.inner n k v x y)) ∧ μ.2.1 6 n = nI (tr_dp (.inner n k v x y)) ∧ (tr_lf x = true ∨ tr_n x < n) ∧ (tr_lf y = true ∨ tr_n y < n) ∧ mn μ x ∧ mn μ y
theorem mn_mr {μ : mm_S} : ∀ {t : Tr} {H : Nat}, mn μ t → (tr_lf t = true ∨ tr_n t < H) → mr μ 0 H t (tr_ix t)
  | .leaf, H, _, _ => rfl
  | .inner n k v x y, H, h, hH => by
    obtain ⟨h1, h2, h3, h4, h5, h6, hx, hy, mx, my⟩ := h
    have hn : n < H := by
      rcases hH with q | q
      · cases q
      · exact q
    exact ⟨n, Nat.zero_le _, hn, rfl, h1, h2, h5, h6, by rw [h3]; exact mn_mr mx (hx.imp id (fun q => by omega)), by rw [h4]; exact mn_mr my (hy.imp id (fun q => by omega))⟩
theorem mn_of {μ μ' : mm_S} {H : Nat} (h : ∀ c, 1 ≤ c → c ≤ 6 → ∀ j, j < H → μ'.2.1 c j = μ.2.1 c j) : ∀ {t : Tr}, mn μ t → (tr_lf t = true ∨ tr_n t < H) → mn μ' t
  | .leaf, _, _ => trivial
  | .inner n k v x y, q, hH => by
    obtain ⟨h1, h2, h3, h4, h5, h6, hx, hy, mx, my⟩ := q
    have hn : n < H := by
      rcases hH with q | q
      · cases q
      · exact q
    exact ⟨(h 1 (by omega) (by omega) n hn).trans h1, (h 2 (by omega) (by omega) n hn).trans h2, (h 3 (by omega) (by omega) n hn).trans h3, (h 4 (by omega) (by omega) n hn).trans h4, (h 5 (by omega) (by omega) n hn).trans h5, (h 6 (by omega) (by omega) n hn).trans h6, hx, hy, mn_of h mx (hx.imp id (fun q => by omega)), mn_of h my (hy.imp id (fun q => by omega))⟩
def tr_ok (t : Tr) : Prop := tr_lf t = false ∧ tr_wf t ∧ tr_sz t ≤ 40
def cm_pg (L : List Tr) (μ : mm_S) : Prop := ∀ j, j < L.length → tr_ok (L.getD j .leaf) ∧ tr_n (L.getD j .leaf) = j ∧ mn μ (L.getD j .leaf)
def cm_nd (σ : cs_S) (μ : mm_S) : Prop := (cs_t σ 100).length ≤ 120 ∧ (cs_c σ 100).1 ≤ 250 ∧ μ.1 0 = nI (cs_t σ 100).length ∧ cm_pg (cs_t σ 100) μ
def cm_fn (F : Nat → Bool) (σ : cs_S) (μ : mm_S) : Prop := ∃ m, m < 1024 ∧ cs_i σ 1 = nI m ∧ ∀ l, l < 10 → m.testBit l = F l ∧ μ.2.1 7 l = b2 (F l)
def cm_kp (K : Nat → Nat → Bool) (σ : cs_S) (μ : mm_S) : Prop := ∀ st, st < 8 → (∃ m, m < 1024 ∧ cs_a σ 102 st = nI m ∧ ∀ k, k < 10 → m.testBit k = K st k ∧ μ.2.1 8 (10 * st + k) = b2 (K st k)) ∧ ∀ k, K st k = true → mk k = true
def cm_er (e : Nat → Nat) (h : Nat) (σ : cs_S) (μ : mm_S) : Prop := h ≤ 20 ∧ cs_i σ 9 = nI h ∧ μ.1 10 = nI h ∧ ∀ j, j < h → e j ≤ 30 ∧ cs_a σ 108 j = nI (e j) ∧ μ.2.1 9 j = nI (e j)
def cm_wk (σ : cs_S) (μ : mm_S) : Prop := (cs_i σ 17 = -1 ∧ μ.1 30 = 0) ∨ ∃ d, d < 40 ∧ cs_i σ 17 = nI d ∧ μ.1 30 = 1 ∧ μ.1 33 = nI d ∧ tr_n (cs_p σ 0) < (cs_t σ 100).length ∧ tr_ok (cs_p σ 0) ∧ mn μ (cs_p σ 0) ∧
  (∀ j, j ≤ d → tr_lf (cs_p σ j) = false ∧ μ.2.1 31 j = nI (tr_n (cs_p σ j)) ∧ tr_dp (cs_p σ j) + j ≤ 40) ∧ ∀ j, j < d → ∃ b : Bool, cs_a σ 116 (j + 1) = b2 b ∧ μ.2.1 32 (j + 1) = b2 b ∧ cs_p σ (j + 1) = if b then tr_y (cs_p σ j) else tr_x (cs_p σ j)
/-- the shelves' rows, which no other call touches -/
def cm_sh (FR : Nat → Int32) (μ : mm_S) : Prop := ∀ c, 11 ≤ c → c ≤ 15 → ∀ j, μ.2.1 c j = FR (6 + 5 * j + (c - 11))
/-- the small trees: none yet, or all -/
def cm_sm (SM : List Tr) (FR : Nat → Int32) (σ : cs_S) (μ : mm_S) : Prop := cm_sh FR μ ∧ ((cs_t σ 106 = [] ∧ (cs_c σ 106).1 = 0 ∧ ∀ j, j < 6 → cs_a σ 107 j = 0) ∨ (cs_t σ 106 = SM ∧ (cs_c σ 106).1 ≤ 600 ∧ ∀ j, j < 6 → cs_a σ 107 j = FR j))
/-- what was made, by so many calls -/
def cm_ct (c : Nat) (σ : cs_S) : Prop := (cs_y σ).length ≤ 2 * c ∧ cs_n1 σ ≤ 1000 * c ∧ cs_n2 σ ≤ 10000 * c
def Rel (SM : List Tr) (FR : Nat → Int32) (c : Nat) (σ : cs_S) (μ : mm_S) : Prop := ∃ F K e h, cm_nd σ μ ∧ cm_fn F σ μ ∧ cm_kp K σ μ ∧ cm_er e h σ μ ∧ cm_wk σ μ ∧ cm_sm SM FR σ μ ∧ cm_ct c σ
/-- nothing that the relation looks at has changed -/
def cs_same (σ σ' : cs_S) : Prop := (σ'.1 1 = σ.1 1 ∧ σ'.1 9 = σ.1 9 ∧ σ'.1 17 = σ.1 17) ∧ (σ'.2.1 102 = σ.2.1 102 ∧ σ'.2.1 107 = σ.2.1 107 ∧ σ'.2.1 108 = σ.2.1 108 ∧ σ'.2.1 116 = σ.2.1 116) ∧ σ'.2.2.2 = σ.2.2.2
def mm_same (μ μ' : mm_S) : Prop := (μ'.1 0 = μ.1 0 ∧ μ'.1 10 = μ.1 10 ∧ μ'.1 30 = μ.1 30 ∧ μ'.1 33 = μ.1 33) ∧ ((∀ c, c = 7 ∨ 11 ≤ c ∧ c ≤ 15 → μ'.2.1 c = μ.2.1 c) ∧ μ'.2.1 8 = μ.2.1 8 ∧ μ'.2.1 9 = μ.2.1 9 ∧ μ'.2.1 31 = μ.2.1 31 ∧ μ'.2.1 32 = μ.2.1 32) ∧ ∀ c, 1 ≤ c → c ≤ 6 → ∀ j, j < 120 → μ'.2.1 c j = μ.2.1 c j
theorem cs_same.rf (σ : cs_S) : cs_same σ σ := ⟨⟨rfl, rfl, rfl⟩, ⟨rfl, rfl, rfl, rfl⟩, rfl⟩
theorem mm_same.rf (μ : mm_S) : mm_same μ μ := ⟨⟨rfl, rfl, rfl, rfl⟩, ⟨fun _ _ => rfl, rfl, rfl, rfl, rfl⟩, fun _ _ _ _ _ => rfl⟩
theorem cs_same.tr {σ σ' σ'' : cs_S} (a : cs_same σ σ') (b : cs_same σ' σ'') : cs_same σ σ'' := by
  obtain ⟨⟨a1, a2, a3⟩, ⟨a4, a5, a6, a7⟩, a8⟩ := a
  obtain ⟨⟨b1, b2, b3⟩, ⟨b4, b5, b6, b7⟩, b8⟩ := b
  exact ⟨⟨b1.trans a1, b2.trans a2, b3.trans a3⟩, ⟨b4.trans a4, b5.trans a5, b6.trans a6, b7.trans a7⟩, b8.trans a8⟩
theorem mm_same.tr {μ μ' μ'' : mm_S} (a : mm_same μ μ') (b : mm_same μ' μ'') : mm_same μ μ'' := by
  obtain ⟨⟨a1, a2, a3, a4⟩, ⟨a5, a6, a7, a8, a9⟩, a0⟩ := a
  obtain ⟨⟨b1, b2, b3, b4⟩, ⟨b5, b6, b7, b8, b9⟩, b0⟩ := b
  exact ⟨⟨b1.trans a1, b2.trans a2, b3.trans a3, b4.trans a4⟩, ⟨fun c q => (b5 c q).trans (a5 c q), b6.trans a6, b7.trans a7, b8.trans a8, b9.trans a9⟩, fun c h1 h2 j hj => (b0 c h1 h2 j hj).trans (a0 c h1 h2 j hj)⟩
theorem cm_ct.up {c c' : Nat} {σ : cs_S} (h : c ≤ c') (q : cm_ct c σ) : cm_ct c' σ := by
  obtain ⟨a, b, d⟩ := q
  exact ⟨by omega, by omega, by omega⟩
section
variable {SM : List Tr} {FR : Nat → Int32} {F : Nat → Bool} {K : Nat → Nat → Bool} {e : Nat → Nat} {h : Nat} {σ σ' : cs_S} {μ μ' : mm_S}
theorem cm_nd.fr (hq : cm_nd σ μ) (hσ : cs_same σ σ') (hμ : mm_same μ μ') : cm_nd σ' μ' := by
  obtain ⟨a, b, d, g⟩ := hq
  have ht : cs_t σ' 100 = cs_t σ 100 := by unfold cs_t; rw [hσ.2.2]
  have hc : cs_c σ' 100 = cs_c σ 100 := by unfold cs_c; rw [hσ.2.2]
  refine ⟨by rw [ht]; exact a, by rw [hc]; exact b, by rw [ht, hμ.1.1]; exact d, ?_⟩
  rw [ht]
  intro j hj
  obtain ⟨g1, g2, g3⟩ := g j hj
  exact ⟨g1, g2, mn_of (H := 120) hμ.2.2 g3 (.inr (by rw [g2]; omega))⟩
theorem cm_fn.fr (hq : cm_fn F σ μ) (h1 : σ'.1 1 = σ.1 1) (h2 : μ'.2.1 7 = μ.2.1 7) : cm_fn F σ' μ' := by
  unfold cm_fn cs_i at *
  rw [h1, h2]
  exact hq
theorem cm_kp.fr (hq : cm_kp K σ μ) (h1 : σ'.2.1 102 = σ.2.1 102) (h2 : μ'.2.1 8 = μ.2.1 8) : cm_kp K σ' μ' := by
  unfold cm_kp cs_a at *
  rw [h1, h2]
  exact hq
theorem cm_er.fr (hq : cm_er e h σ μ) (h1 : σ'.1 9 = σ.1 9) (h2 : σ'.2.1 108 = σ.2.1 108) (h3 : μ'.1 10 = μ.1 10) (h4 : μ'.2.1 9 = μ.2.1 9) : cm_er e h σ' μ' := by
  unfold cm_er cs_a cs_i at *
  rw [h1, h2, h3, h4]
  exact hq
theorem cm_wk.fr (hq : cm_wk σ μ) (hnd : (cs_t σ 100).length ≤ 120) (hσ : cs_same σ σ') (hμ : mm_same μ μ') : cm_wk σ' μ' := by
  have hp : cs_p σ' = cs_p σ := by funext j; unfold cs_p; rw [hσ.2.2]
  have ht : cs_t σ' 100 = cs_t σ 100 := by unfold cs_t; rw [hσ.2.2]
  have h17 : cs_i σ' 17 = cs_i σ 17 := hσ.1.2.2
  have h116 : ∀ j, cs_a σ' 116 j = cs_a σ 116 j := fun j => by unfold cs_a; rw [hσ.2.1.2.2.2]
  rcases hq with ⟨a, b⟩ | ⟨d, a1, a2, a3, a4, a5, a6, a7, a8, a9⟩
  · exact .inl ⟨h17.trans a, hμ.1.2.2.1.trans b⟩
  · refine .inr ⟨d, a1, h17.trans a2, hμ.1.2.2.1.trans a3, hμ.1.2.2.2.trans a4, by rw [hp, ht]; exact a5, by rw [hp]; exact a6, ?_, fun j hj => ?_, fun j hj => ?_⟩
    · rw [hp]
      exact mn_of (H := 120) hμ.2.2 a7 (.inr (by omega))
    · rw [hp, hμ.2.1.2.2.2.1]
      exact a8 j hj
    · rw [hp, h116, hμ.2.1.2.2.2.2]
      exact a9 j hj
theorem cm_sh.fr (hq : cm_sh FR μ) (hμ : ∀ c, 11 ≤ c ∧ c ≤ 15 → μ'.2.1 c = μ.2.1 c) : cm_sh FR μ' := fun c h1 h2 j => by
  rw [hμ c ⟨h1, h2⟩]
  exact hq c h1 h2 j
theorem cm_sm.fr (hq : cm_sm SM FR σ μ) (hσ : cs_same σ σ') (hμ : mm_same μ μ') : cm_sm SM FR σ' μ' := by
  refine ⟨hq.1.fr (fun c h => hμ.2.1.1 c (.inr h)), ?_⟩
  have hq := hq.2
  unfold cs_t cs_c cs_a at *
  rw [hσ.2.2, hσ.2.1.2.1]
  exact hq
theorem cm_sm.mk' (hq : cm_sm SM FR σ μ) (hμ : ∀ c, 11 ≤ c ∧ c ≤ 15 → μ'.2.1 c = μ.2.1 c) (ht : cs_t σ' 106 = cs_t σ 106) (hc : cs_c σ' 106 = cs_c σ 106) (h7 : σ'.2.1 107 = σ.2.1 107) : cm_sm SM FR σ' μ' := by
  refine ⟨hq.1.fr hμ, ?_⟩
  have hq := hq.2
  unfold cs_a at *
  rw [ht, hc, h7]
  exact hq
theorem cm_ct.fr {c : Nat} (hq : cm_ct c σ) (hσ : cs_same σ σ') : cm_ct c σ' := by
  unfold cm_ct cs_y cs_n1 cs_n2 at *
  rw [hσ.2.2]
  exact hq
theorem Rel.fr {c : Nat} (hq : Rel SM FR c σ μ) (hσ : cs_same σ σ') (hμ : mm_same μ μ') : Rel SM FR (c + 1) σ' μ' := by
  obtain ⟨F, K, e, h, a1, a2, a3, a4, a5, a6, a7⟩ := hq
  exact ⟨F, K, e, h, a1.fr hσ hμ, a2.fr hσ.1.1 (hμ.2.1.1 7 (.inl rfl)), a3.fr hσ.2.1.1 hμ.2.1.2.1, a4.fr hσ.1.2.1 hσ.2.1.2.2.1 hμ.1.2.1 hμ.2.1.2.2.1, a5.fr a1.1 hσ hμ, a6.fr hσ hμ, (a7.fr hσ).up (by omega)⟩
theorem Rel.up {c : Nat} (hq : Rel SM FR c σ μ) : Rel SM FR (c + 1) σ μ := hq.fr (cs_same.rf σ) (mm_same.rf μ)
/-- a node of the page -/
theorem cm_nd.at (hq : cm_nd σ μ) {j : Nat} (hj : j < (cs_t σ 100).length) : tr_ok ((cs_t σ 100).getD j .leaf) ∧ tr_nd ((cs_t σ 100).getD j .leaf) = true ∧ mr μ 0 120 ((cs_t σ 100).getD j .leaf) (nI j) ∧ tr_n ((cs_t σ 100).getD j .leaf) = j := by
  obtain ⟨a, b, d, g⟩ := hq
  obtain ⟨g1, g2, g3⟩ := g j hj
  refine ⟨g1, tr_nd_wf g1.2.1 g1.1, ?_, g2⟩
  have := mn_mr (H := 120) g3 (.inr (by rw [g2]; omega))
  unfold tr_ix at this
  rw [g1.1, g2] at this
  exact this
theorem tr_ok.dp {t : Tr} (h : tr_ok t) : tr_dp t ≤ 40 := Nat.le_trans (tr_sz_dp t) h.2.2
end
/-- a call on both sides: one answer, the relation holds on -/
def opI (SM : List Tr) (FR : Nat → Int32) (N f mc mm : Nat) (args : List am_V) : Prop := ∀ c σ μ, Rel SM FR c σ μ → c ≤ 64 → ∃ r σ' μ', cs_call N f mc args σ = some (.inl (some (.inl (.int (r)))), σ') ∧ mm_call N f mm args μ = some (.inl (some (.inl (.int (r)))), μ') ∧ Rel SM FR (c + 1) σ' μ'
def opL (SM : List Tr) (FR : Nat → Int32) (N f mc mm : Nat) (args : List am_V) : Prop := ∀ c σ μ, Rel SM FR c σ μ → c ≤ 64 → ∃ r σ' μ', cs_call N f mc args σ = some (.inl (some (.inl (.long (r)))), σ') ∧ mm_call N f mm args μ = some (.inl (some (.inl (.long (r)))), μ') ∧ Rel SM FR (c + 1) σ' μ'
