set_option maxRecDepth 100000
/-! THE OPERATIONS: write. -/
theorem tr_like_dp : ∀ (t u : Tr), tr_like t u = true → tr_dp t = tr_dp u
  | .leaf, .leaf, _ => rfl
  | .leaf, .inner _ _ _ _ _, h => by simp [tr_like] at h
  | .inner _ _ _ _ _, .leaf, h => by simp [tr_like] at h
  | .inner n k v x y, .inner n' k' v' x' y', h => by
    simp only [tr_like, Bool.and_eq_true] at h
    simp only [tr_dp, tr_like_dp x x' h.1.2, tr_like_dp y y' h.2]
theorem mr_like {s : mm_S} {lo hi : Nat} : ∀ {t t' : Tr} {i : Int32}, tr_like t t' = true → mr s lo hi t' i → mr s lo hi t i
  | .leaf, .leaf, _, _, h => h
  | .leaf, .inner _ _ _ _ _, _, h, _ => by simp [tr_like] at h
  | .inner _ _ _ _ _, .leaf, _, h, _ => by simp [tr_like] at h
  | .inner n k v x y, .inner n' k' v' x' y', i, h, q => by
    have hs := tr_like_sz _ _ h
    have hd := tr_like_dp _ _ h
    simp only [tr_like, Bool.and_eq_true, beq_iff_eq] at h
    obtain ⟨⟨⟨rfl, rfl⟩, hx⟩, hy⟩ := h
    obtain ⟨j, h1, h2, h3, h4, h5, h6, h7, qx, qy⟩ := q
    exact ⟨j, h1, h2, h3, h4, h5, by rw [hs]; exact h6, by rw [hd]; exact h7, mr_like hx qx, mr_like hy qy⟩
section
variable {SM : List Tr} {FR : Nat → Int32} {N f : Nat}
/-- rows from b on and below 120 alone have changed -/
def mm_kc (b : Nat) (μ μ' : mm_S) : Prop := (∀ j, j ≠ 0 → μ'.1 j = μ.1 j) ∧ (∀ c, c = 0 ∨ 6 < c → μ'.2.1 c = μ.2.1 c) ∧ (∀ c j, j < b ∨ 120 ≤ j → μ'.2.1 c j = μ.2.1 c j)
theorem mm_kc.rf (b : Nat) (μ : mm_S) : mm_kc b μ μ := ⟨fun _ _ => rfl, fun _ _ => rfl, fun _ _ _ => rfl⟩
theorem mm_kc.tr {b b' : Nat} {μ μ' μ'' : mm_S} (h : mm_kc b μ μ') (h' : mm_kc b' μ' μ'') (hb : b ≤ b') : mm_kc b μ μ'' :=
  ⟨fun j q => (h'.1 j q).trans (h.1 j q), fun c q => (h'.2.1 c q).trans (h.2.1 c q), fun c j q => (h'.2.2 c j (by omega)).trans (h.2.2 c j q)⟩
theorem mm_kc.mn {b : Nat} {μ μ' : mm_S} (h : mm_kc b μ μ') {t : Tr} (q : mn μ t) (hn : tr_lf t = true ∨ tr_n t < b) : mn μ' t := mn_of (fun c _ _ j hj => h.2.2 c j (.inl hj)) q hn
theorem num_n {t : Tr} {b : Nat} (h : tr_num t b) (hl : tr_lf t = false) : tr_n t + 1 = b + tr_sz t := by
  cases t with
  | leaf => cases hl
  | inner n k v x y =>
    have := h.1
    simp only [tr_sz]
    show n + 1 = _
    omega
theorem num_lt {t : Tr} {b : Nat} (h : tr_num t b) : tr_lf t = true ∨ tr_n t < b + tr_sz t := by
  cases hl : tr_lf t with
  | true => exact .inl rfl
  | false => exact .inr (by have := num_n h hl; omega)
theorem mm_copies : ∀ (t : Tr) (b : Nat) (μ : mm_S) (ix : Int32) (f : Nat), tr_lf t = false → tr_wf t → tr_num t b → mr μ 400 450 t ix → tr_sz t ≤ 40 → b + tr_sz t ≤ 120 → μ.1 0 = nI b → tr_dp t + 2 ≤ f →
    ∃ μ', mm_call N (f) 50 [.inl (.ref 0), .inl (.int (ix))] (μ) = some (.inl (some (.inl (.int (nI (tr_n t))))), μ') ∧ μ'.1 0 = nI (b + tr_sz t) ∧ mm_kc b μ μ' ∧ mn μ' t := by
  intro t
  induction t with
  | leaf => intro b μ ix f hl; cases hl
  | inner n k v x y ihx ihy =>
    intro b μ ix f _ hw hnum hmr hsz hb h0 hf
    obtain ⟨f, rfl⟩ : ∃ f', f = f' + 2 := ⟨f - 2, by omega⟩
    obtain ⟨j, j1, j2, rfl, r1, r2, r5, r6, mx, my⟩ := hmr
    obtain ⟨hn, nx, ny⟩ := hnum
    simp only [tr_sz] at hsz hb
    simp only [tr_dp] at hf
    have lfx := mr_lf mx (by omega)
    have lfy := mr_lf my (by omega)
    -- the first part
    have hx : ∃ μ1, (∀ back, dX6_copies back (mm_call N (f + 1)) μ (nI j) = jX6_copies_24 back (mm_call N (f + 1)) μ1 (nI j) (tr_ix x)) ∧ μ1.1 0 = nI (b + tr_sz x) ∧ mm_kc b μ μ1 ∧ mn μ1 x := by
      cases qx : tr_lf x with
      | true =>
        refine ⟨μ, fun back => ?_, ?_, mm_kc.rf b μ, ?_⟩
        · unfold dX6_copies
          rw [am_ix_nI (by omega) (by omega), if_neg (by rw [lfx, qx]; decide), jX6_copies_24_14_eq, ic_m2]
          unfold tr_ix
          rw [qx]
          rfl
        · rw [h0]
          cases x with
          | leaf => rfl
          | inner _ _ _ _ _ => cases qx
        · cases x with
          | leaf => trivial
          | inner _ _ _ _ _ => cases qx
      | false =>
        obtain ⟨μ1, e1, e2, e3, e4⟩ := ihx b μ _ (f + 1) qx hw.1 nx mx (by omega) (by omega) h0 (by omega)
        refine ⟨μ1, fun back => ?_, e2, e3, e4⟩
        unfold dX6_copies
        rw [am_ix_nI (by omega) (by omega), if_pos (by rw [lfx]; exact qx), am_ix_nI (by omega) (by omega), e1, am_ci_ok]
        unfold tr_ix
        rw [qx]
        rfl
    obtain ⟨μ1, e1, e2, e3, e4⟩ := hx
    have r4' : μ1.2.1 4 j = μ.2.1 4 j := e3.2.2 4 j (.inr (by omega))
    have hy : ∃ μ2, (∀ back, jX6_copies_24 back (mm_call N (f + 1)) μ1 (nI j) (tr_ix x) = jX6_copies_49 back (mm_call N (f + 1)) μ2 (nI j) (tr_ix x) (tr_ix y)) ∧ μ2.1 0 = nI (b + tr_sz x + tr_sz y) ∧ mm_kc (b + tr_sz x) μ1 μ2 ∧ mn μ2 y := by
      cases qy : tr_lf y with
      | true =>
        refine ⟨μ1, fun back => ?_, ?_, mm_kc.rf _ μ1, ?_⟩
        · rw [jX6_copies_24_eq, am_ix_nI (by omega) (by omega), r4', if_neg (by rw [lfy, qy]; decide), jX6_copies_49_39_eq, ic_m2]
          unfold tr_ix
          rw [qy]
          rfl
        · rw [e2]
          cases y with
          | leaf => rfl
          | inner _ _ _ _ _ => cases qy
        · cases y with
          | leaf => trivial
          | inner _ _ _ _ _ => cases qy
      | false =>
        obtain ⟨μ2, g1, g2, g3, g4⟩ := ihy (b + tr_sz x) μ1 (μ.2.1 4 j) (f + 1) qy hw.2.1 ny (mr_of (fun c _ _ j h1 _ => e3.2.2 c j (.inr (by omega))) y _ my) (by omega) (by omega) e2 (by omega)
        refine ⟨μ2, fun back => ?_, g2, g3, g4⟩
        rw [jX6_copies_24_eq, am_ix_nI (by omega) (by omega), r4', if_pos (by rw [lfy]; exact qy), am_ix_nI (by omega) (by omega), r4', g1, am_ci_ok]
        unfold tr_ix
        rw [qy]
        rfl
    obtain ⟨μ2, g1, g2, g3, g4⟩ := hy
    have k12 := e3.tr g3 (by omega)
    have hmx : mn μ2 x := g3.mn e4 (num_lt nx)
    have nx' := num_lt nx
    have ny' := num_lt ny
    obtain ⟨μ3, s0, st⟩ := mm_sets (N := N) (f := f) (p := n) (s := μ2) (k := nI k) (v := tr_vI k v) (x := tr_ix x) (y := tr_ix y) (by omega) (mn_mr (H := 120) hmx (nx'.imp id (fun q => by omega))) (mn_mr (H := 120) g4 (ny'.imp id (fun q => by omega))) (by omega) (by omega) (by omega)
    obtain ⟨s1, s2, s3, s4, t1, t2, t3, t4, t5, t6⟩ := st
    have k3 : mm_kc (b + tr_sz x + tr_sz y) μ2 (mm_p μ3 0 (nI (n + 1))) := ⟨fun j q => by rw [mm_p_get, if_neg q, s1], s3, fun c j q => s4 c j (by omega)⟩
    rw [dX6_copies_eq, e1, g1, jX6_copies_49_eq, am_ix_nI (by omega) (by omega), am_ix_nI (by omega) (by omega), k12.2.2 1 j (.inr (by omega)), k12.2.2 2 j (.inr (by omega)), r1, r2, g2, ← hn, s0, am_cv_ok, s1, g2, ← hn, ic_v1, nI_add, mm_p_get, if_pos rfl, nI_subI (by omega)]
    refine ⟨_, rfl, ?_, k12.tr k3 (by omega), ?_⟩
    · rw [mm_p_get, if_pos rfl]
      simp only [tr_sz]
      rw [show n + 1 = b + (1 + tr_sz x + tr_sz y) by omega]
    · exact ⟨t1, t2, t3, t4, t5, t6, nx'.imp id (fun q => by omega), ny'.imp id (fun q => by omega), k3.mn hmx (nx'.imp id (fun q => by omega)), k3.mn g4 ny'⟩
/-- the parts of a tree, in their order -/
theorem post_at {μ : mm_S} : ∀ (t : Tr) (b : Nat), tr_num t b → tr_wf t → mn μ t → tr_sz t ≤ 40 → ∀ i, i < tr_sz t → tr_ok ((tr_post t).getD i .leaf) ∧ tr_n ((tr_post t).getD i .leaf) = b + i ∧ mn μ ((tr_post t).getD i .leaf)
  | .leaf, b, _, _, _, _, i, hi => by simp [tr_sz] at hi
  | .inner n k v x y, b, hnum, hw, hm, hs, i, hi => by
    have hlx := tr_post_len x
    have hly := tr_post_len y
    obtain ⟨hn, nx, ny⟩ := id hnum
    have hm' := hm
    obtain ⟨-, -, -, -, -, -, -, -, mx, my⟩ := hm'
    have hs' : 1 + tr_sz x + tr_sz y ≤ 40 := hs
    have hi' : i < 1 + tr_sz x + tr_sz y := hi
    have hp : tr_post (.inner n k v x y) = tr_post x ++ (tr_post y ++ [.inner n k v x y]) := rfl
    rw [hp, List.getD_eq_getElem?_getD]
    by_cases h1 : i < tr_sz x
    · rw [List.getElem?_append_left (by omega), ← List.getD_eq_getElem?_getD]
      exact post_at x b nx hw.1 mx (by omega) i h1
    · rw [List.getElem?_append_right (by omega)]
      by_cases h2 : i - tr_sz x < tr_sz y
      · rw [List.getElem?_append_left (by omega), ← List.getD_eq_getElem?_getD, hlx]
        have := post_at y (b + tr_sz x) ny hw.2.1 my (by omega) (i - tr_sz x) h2
        rw [show b + tr_sz x + (i - tr_sz x) = b + i by omega] at this
        exact this
      · rw [List.getElem?_append_right (by omega), hlx, hly, show i - tr_sz x - tr_sz y = 0 by omega]
        refine ⟨⟨rfl, hw, hs⟩, ?_, hm⟩
        show n = b + i
        omega
theorem wr_loop {N f n0 : Nat} {L : List Tr} {v1 : Int32} {w2 : Int64} {t5 : Tr} (hL : ∀ j, j < L.length → tr_nd (L.getD j .leaf) = true) (hL2 : L.length ≤ 120) (h5 : tr_nd t5 = true) : ∀ (n m j : Nat) (σ : cs_S), j + n = L.length → (cs_y σ)[n0]? = some 1 → cs_t σ (400 + n0) = L → (cs_c σ 100).1 ≤ 250 → (cs_t σ 100).length + n ≤ 120 →
    ∃ σ', jX1_write_75 (am_bk (cs_hop 1 (cs_call N (f + 10))) am_no (some .int) kX1_write (m + n)) (cs_call N (f + 10)) σ v1 w2 (.inner n0 52 0 .leaf .leaf) t5 (nI j) = some (.inl (some (.inl (.int (nI (tr_n t5))))), σ') ∧ cs_t σ' 100 = cs_t σ 100 ++ L.drop j ∧ (cs_c σ' 100).1 ≤ 250 ∧ σ'.1 = σ.1 ∧ σ'.2.1 = σ.2.1 ∧ (∀ c, c ≠ 100 → cs_t σ' c = cs_t σ c ∧ cs_c σ' c = cs_c σ c) ∧ cs_p σ' = cs_p σ ∧ cs_y σ' = cs_y σ ∧ cs_n1 σ' ≤ cs_n1 σ + n ∧ cs_n2 σ' ≤ cs_n2 σ + 400 * n := by
  intro n
  induction n with
  | zero =>
    intro m j σ hj hy ht hc hl
    have hlid : ∀ k, cs_lid σ (.inr (.inner n0 52 0 .leaf .leaf)) k = k (400 + n0) := fun k => by
      unfold cs_lid
      simp only [hy]
    rw [jX1_write_75_eq, show cs_rc 4 [.inr (.inner n0 52 0 .leaf .leaf)] = true from rfl, cond_true, cs_p200 hlid, am_ci_ok, ht, if_pos (nI_le (by omega) (by omega)), h5, cond_true]
    refine ⟨σ, rfl, ?_, hc, rfl, rfl, fun _ _ => ⟨rfl, rfl⟩, rfl, rfl, by omega, by omega⟩
    rw [List.drop_eq_nil_of_le (by omega), List.append_nil]
  | succ n ih =>
    intro m j σ hj hy ht hc hl
    have hlid : ∀ k, cs_lid σ (.inr (.inner n0 52 0 .leaf .leaf)) k = k (400 + n0) := fun k => by
      unfold cs_lid
      simp only [hy]
    obtain ⟨f1, f2, f3, f4, f5, f6, f7, f8⟩ := cs_add_fr σ 100 (L.getD j .leaf)
    have hcap : cs_cap (cs_c σ 100).1 ≤ 400 := by
      unfold cs_cap
      split <;> omega
    have e1 := cs_add_t σ 100 (L.getD j .leaf)
    obtain ⟨σ', q1, q2, q3, q4, q5, q6, q7, q8, q9, q0⟩ := ih m (j + 1) (cs_add σ 100 (L.getD j .leaf)) (by omega) (by rw [f6]; exact hy) (by rw [(f4 _ (by omega)).1]; exact ht) (cs_add_c hc (by unfold cs_cap; split <;> omega) (by omega)) (by rw [e1]; simp; omega)
    rw [jX1_write_75_eq, show cs_rc 4 [.inr (.inner n0 52 0 .leaf .leaf)] = true from rfl, cond_true, cs_p200 hlid, am_ci_ok, ht, if_neg (nI_ge (by omega) (by omega)), show cs_rc 4 [.inr (.inner n0 52 0 .leaf .leaf), .inl (.int (nI j))] = true from rfl, cond_true, cs_p201 hlid (by rw [ht]; omega) (by rw [ht]; omega), am_ct_ok, ht, hL j (by omega), cond_true, cs_p202 (c := 100) (fun k => rfl) (hL j (by omega)) (by omega), am_ci_ok, ic_v1, nI_add, ← Nat.add_assoc, jX1_write_75_bk]
    refine ⟨σ', q1, ?_, q3, q4.trans f1, q5.trans f2, fun c hc => ⟨(q6 c hc).1.trans (f4 c hc).1, (q6 c hc).2.trans (f4 c hc).2⟩, q7.trans f5, q8.trans f6, by omega, by omega⟩
    rw [q2, e1, List.append_assoc]
    congr 1
    rw [List.drop_eq_getElem_cons (show j < L.length by omega), List.getD_eq_getElem?_getD, List.getElem?_eq_getElem (show j < L.length by omega)]
    rfl
end
