set_option maxRecDepth 100000
/-! THE SHELVES, on the model's side: copy, keep. -/
/-- a row with n places from j on taken from another, from i on -/
def cpl (l l' : List Nat) (i j n : Nat) : List Nat := (List.range l'.length).map fun q => if j ≤ q ∧ q < j + n then l.getD (i + (q - j)) 0 else l'.getD q 0
/-- copy: what is answered -/
def sh_cr (SH : Nat → sh_T) (d i e j n : Int32) : Int32 :=
  if inR 0 7 d = true ∧ inR 0 7 e = true then
    (if (SH d.toNatClampNeg).1 = 0 ∨ (SH e.toNatClampNeg).1 = 0 then ic (-11)
     else if (SH d.toNatClampNeg).1 < 3 ∨ (SH d.toNatClampNeg).1 ≠ (SH e.toNatClampNeg).1 then ic (-12)
     else if n < 0 ∨ i < 0 ∨ j < 0 ∨ (SH d.toNatClampNeg).2.2.length < i.toNatClampNeg + n.toNatClampNeg ∨ (SH e.toNatClampNeg).2.2.length < j.toNatClampNeg + n.toNatClampNeg then ic (-13) else n)
  else ic (-1)
def sh_cb (SH : Nat → sh_T) (d i e j n : Int32) : Prop := inR 0 7 d = true ∧ inR 0 7 e = true ∧ 3 ≤ (SH d.toNatClampNeg).1 ∧ (SH d.toNatClampNeg).1 = (SH e.toNatClampNeg).1 ∧ ¬ (n < 0 ∨ i < 0 ∨ j < 0 ∨ (SH d.toNatClampNeg).2.2.length < i.toNatClampNeg + n.toNatClampNeg ∨ (SH e.toNatClampNeg).2.2.length < j.toNatClampNeg + n.toNatClampNeg)
noncomputable def sh_cq (SH : Nat → sh_T) (d i e j n : Int32) : Nat → sh_T := @ite _ (sh_cb SH d i e j n) (Classical.propDecidable _) (fun q => if q = e.toNatClampNeg then ((SH e.toNatClampNeg).1, .leaf, cpl (SH d.toNatClampNeg).2.2 (SH e.toNatClampNeg).2.2 i.toNatClampNeg j.toNatClampNeg n.toNatClampNeg) else SH q) SH
theorem nI_sub_lt {a n i : Nat} (ha : a ≤ 60) (hn : n < 2 ^ 31) (hi : i < 2 ^ 31) : (nI a - nI n < nI i) ↔ a < i + n := by
  rw [Int32.lt_iff_toInt_lt, nI_toInt hi]
  have h1 : (nI a - nI n).toInt = (a : Int) - n := by
    rw [Int32.toInt_sub, nI_toInt (by omega), nI_toInt hn, Int.bmod_eq_of_le (by omega) (by omega)]
  rw [h1]
  omega
theorem nI_le_sub {a n i : Nat} (ha : a ≤ 60) (hn : n < 2 ^ 31) (hi : i < 2 ^ 31) : (nI i ≤ nI a - nI n) ↔ i + n ≤ a := by
  rw [Int32.le_iff_toInt_le, nI_toInt hi]
  have h1 : (nI a - nI n).toInt = (a : Int) - n := by
    rw [Int32.toInt_sub, nI_toInt (by omega), nI_toInt hn, Int.bmod_eq_of_le (by omega) (by omega)]
  rw [h1]
  omega
section
variable {N f : Nat}
theorem mm_copy {SH : Nat → sh_T} {c : Nat} {σ : cs_S} {μ : mm_S} (h : RelS SH c σ μ) (hN : 200 ≤ N) (x i y j n : Int32) : ∃ μ', mm_call N (f + 3) 79 [.inl (.ref 0), .inl (.int (x)), .inl (.int (i)), .inl (.int (y)), .inl (.int (j)), .inl (.int (n))] (μ) = some (.inl (some (.inl (.int (sh_cr SH x i y j n)))), μ') ∧ RelS (sh_cq SH x i y j n) c σ μ' := by
  have hs := h.2
  rw [dX6_copy_eq]
  unfold dX6_copy sh_cr sh_cq
  rw [mm_isShelf, am_ci_ok]
  cases h1 : inR 0 7 x with
  | false =>
    rw [if_pos b2f0, if_neg (by rintro ⟨q, -⟩; cases q), if_neg (by rintro ⟨q, -⟩; rw [h1] at q; cases q)]
    exact ⟨μ, rfl, h⟩
  | true =>
    rw [if_neg b2t0, mm_isShelf, am_ci_ok]
    cases h2 : inR 0 7 y with
    | false =>
      rw [if_pos b2f0, if_neg (by rintro ⟨-, q⟩; cases q), if_neg (by rintro ⟨-, q, -⟩; rw [h2] at q; cases q)]
      exact ⟨μ, rfl, h⟩
    | true =>
      obtain ⟨d, -, hd, rfl⟩ := inR_t (by omega) (by omega) h1
      obtain ⟨e, -, he, rfl⟩ := inR_t (by omega) (by omega) h2
      have cd : (nI d).toNatClampNeg = d := nI_clamp (by omega)
      have ce : (nI e).toNatClampNeg = e := nI_clamp (by omega)
      obtain ⟨a0, a1, -, a3⟩ := hs d (by omega)
      obtain ⟨b0, b1, -, b3⟩ := hs e (by omega)
      have ta := a0.tag
      have tb := b0.tag
      rw [if_neg b2t0, if_pos (show true = true ∧ true = true from ⟨rfl, rfl⟩), cd, ce, am_ix_nI (by omega) (by omega), a1]
      unfold sh_cb
      rw [cd, ce]
      by_cases q0 : (SH d).1 = 0
      · rw [if_pos (by rw [q0]; rfl), if_pos (.inl q0), if_neg (by omega)]
        exact ⟨μ, rfl, h⟩
      · rw [if_neg (fun q => q0 ((nI_eq0 (by omega)).mp q)), am_ix_nI (by omega) (by omega), b1]
        by_cases r0 : (SH e).1 = 0
        · rw [if_pos (by rw [r0]; rfl), if_pos (.inr r0), if_neg (by omega)]
          exact ⟨μ, rfl, h⟩
        · rw [if_neg (fun q => r0 ((nI_eq0 (by omega)).mp q)), if_neg (show ¬ ((SH d).1 = 0 ∨ (SH e).1 = 0) by omega), am_ix_nI (by omega) (by omega), a1, show ic 3 = nI 3 from rfl]
          by_cases q3 : (SH d).1 < 3
          · rw [if_pos (nI_lt q3 (by omega)), if_pos (.inl q3), if_neg (by omega)]
            exact ⟨μ, rfl, h⟩
          · rw [if_neg (nI_nlt (by omega) (by omega)), am_ix_nI (by omega) (by omega), am_ix_nI (by omega) (by omega), a1, b1]
            by_cases qe : (SH d).1 = (SH e).1
            · rw [if_pos (by rw [qe]), if_neg (show ¬ ((SH d).1 < 3 ∨ (SH d).1 ≠ (SH e).1) by omega)]
              obtain ⟨a4, a5⟩ := a3 (by omega)
              obtain ⟨b4, b5⟩ := b3 (by omega)
              obtain ⟨la, wa⟩ : (SH d).2.2.length ≤ 60 ∧ ∀ w ∈ (SH d).2.2, w ≤ 30 := by
                rcases a0 with h | ⟨h, -⟩ | ⟨-, h⟩
                · omega
                · omega
                · exact h
              obtain ⟨lb, wb⟩ : (SH e).2.2.length ≤ 60 ∧ ∀ w ∈ (SH e).2.2, w ≤ 30 := by
                rcases b0 with h | ⟨h, -⟩ | ⟨-, h⟩
                · omega
                · omega
                · exact h
              by_cases n0 : n < 0
              · rw [if_pos n0, if_pos (.inl n0), if_neg (fun q => q.2.2.2.2 (.inl n0))]
                exact ⟨μ, rfl, h⟩
              · rw [if_neg n0]
                by_cases i0 : i < 0
                · rw [if_pos i0, if_pos (.inr (.inl i0)), if_neg (fun q => q.2.2.2.2 (.inr (.inl i0)))]
                  exact ⟨μ, rfl, h⟩
                · rw [if_neg i0]
                  by_cases j0 : j < 0
                  · rw [if_pos j0, if_pos (.inr (.inr (.inl j0))), if_neg (fun q => q.2.2.2.2 (.inr (.inr (.inl j0))))]
                    exact ⟨μ, rfl, h⟩
                  · obtain ⟨n, hn, rfl⟩ := nI_of n0
                    obtain ⟨i, hi, rfl⟩ := nI_of i0
                    obtain ⟨j, hj, rfl⟩ := nI_of j0
                    rw [if_neg j0, nI_clamp hn, nI_clamp hi, nI_clamp hj, am_ix_nI (by omega) (by omega), a4]
                    by_cases qi : (SH d).2.2.length < i + n
                    · rw [if_pos ((nI_sub_lt la hn hi).mpr qi), if_pos (.inr (.inr (.inr (.inl qi)))), if_neg (fun q => q.2.2.2.2 (.inr (.inr (.inr (.inl qi)))))]
                      exact ⟨μ, rfl, h⟩
                    · rw [if_neg (fun q => qi ((nI_sub_lt la hn hi).mp q)), am_ix_nI (by omega) (by omega), b4]
                      by_cases qj : (SH e).2.2.length < j + n
                      · rw [if_neg (fun q => by have := (nI_le_sub lb hn hj).mp q; omega), if_pos (.inr (.inr (.inr (.inr qj)))), if_neg (fun q => q.2.2.2.2 (.inr (.inr (.inr (.inr qj)))))]
                        exact ⟨μ, rfl, h⟩
                      · have hbad : ¬ (nI n < 0 ∨ nI i < 0 ∨ nI j < 0 ∨ (SH d).2.2.length < i + n ∨ (SH e).2.2.length < j + n) := by
                          rintro (q | q | q | q | q)
                          · exact n0 q
                          · exact i0 q
                          · exact j0 q
                          · exact qi q
                          · exact qj q
                        rw [if_pos ((nI_le_sub lb hn hj).mpr (by omega)), if_neg hbad, if_pos ⟨h1, h2, by omega, qe, hbad⟩, ic_v0]
                        -- the second row
                        have h2l : ∀ (q k m : Nat) (μ1 : mm_S), k + q = n → mm_kh μ μ1 → (∀ c, 11 ≤ c → c ≤ 14 → μ1.2.1 c = μ.2.1 c) → (∀ p, ¬ (60 * e + j ≤ p ∧ p < 60 * e + j + k) → μ1.2.1 15 p = μ.2.1 15 p) → (∀ p, p < k → μ1.2.1 15 (60 * e + j + p) = nI ((SH d).2.2.getD (i + p) 0)) → (∀ p, p < n → μ1.2.1 22 p = nI ((SH d).2.2.getD (i + p) 0)) →
                            ∃ μ', jX6_copy_149 (am_bk (mm_hop (mm_call N (f + 2))) am_no (some .int) kX6_copy (m + q)) (mm_call N (f + 2)) μ1 (nI d) (nI i) (nI e) (nI j) (nI n) (nI k) = some (.inl (some (.inl (.int (nI n)))), μ') ∧ RelS (fun q => if q = e then ((SH e).1, .leaf, cpl (SH d).2.2 (SH e).2.2 i j n) else SH q) c σ μ' := by
                          intro q
                          induction q with
                          | zero =>
                            intro k m μ1 hk g1 g2 g3 g4 g5
                            obtain rfl : k = n := by omega
                            rw [jX6_copy_149_eq, if_pos (nI_le (Nat.le_refl _) (by omega))]
                            have hcl : (cpl (SH d).2.2 (SH e).2.2 i j k).length = (SH e).2.2.length := by unfold cpl; simp
                            refine ⟨μ1, rfl, h.put g1 (hs.put (.inr (.inr ⟨by simp only; omega, by simp only; omega, fun w hw => ?_⟩)) ⟨by rw [g2 11 (by omega) (by omega)]; exact b1, fun q => by simp only at q; omega, fun _ => ⟨by rw [g2 14 (by omega) (by omega), hcl]; exact b4, fun p hp => ?_⟩⟩ (fun c h1 h2 i hi => by rw [g2 c h1 h2]) (fun p hp => g3 p (by omega)))⟩
                            · simp only [cpl, List.mem_map, List.mem_range] at hw
                              obtain ⟨p, hp, rfl⟩ := hw
                              split
                              · exact wa _ (getD_mem _ (by omega))
                              · exact wb _ (getD_mem _ (by omega))
                            · rw [hcl] at hp
                              unfold cpl
                              rw [gd_map hp]
                              split
                              · rename_i hq
                                rw [show 60 * e + p = 60 * e + j + (p - j) by omega, g4 (p - j) (by omega)]
                              · rename_i hq
                                rw [g3 _ (by omega)]
                                exact b5 p hp
                          | succ q ih =>
                            intro k m μ1 hk g1 g2 g3 g4 g5
                            rw [jX6_copy_149_eq, if_neg (nI_ge (by omega) (by omega)), am_ix_nI (by omega) (by omega), show ic 60 = nI 60 from rfl, nI_mulI, nI_add, nI_add, am_ix_nI (by omega) (by omega), g5 k (by omega), ic_v1, nI_add, ← Nat.add_assoc, jX6_copy_149_bk]
                            refine ih (k + 1) m _ (by omega) (g1.tr (mm_kh.pa μ1 _ _ (.inl ⟨by omega, by omega⟩))) (fun c h1 h2 => ?_) (fun p hp => ?_) (fun p hp => ?_) (fun p hp => ?_)
                            · rw [← g2 c h1 h2]
                              funext p
                              rw [mm_pa_get, if_neg (by omega)]
                            · rw [mm_pa_get, if_pos rfl, if_neg (by omega)]
                              exact g3 p (by omega)
                            · rw [mm_pa_get, if_pos rfl]
                              by_cases eq : p = k
                              · rw [if_pos (by rw [eq]), eq]
                              · rw [if_neg (by omega)]
                                exact g4 p (by omega)
                            · rw [mm_pa_get, if_neg (by omega)]
                              exact g5 p hp
                        have h1l : ∀ (q k m : Nat) (μ1 : mm_S), k + q = n → n ≤ m → mm_kh μ μ1 → (∀ c, 11 ≤ c → c ≤ 15 → μ1.2.1 c = μ.2.1 c) → (∀ p, p < k → μ1.2.1 22 p = nI ((SH d).2.2.getD (i + p) 0)) →
                            ∃ μ', jX6_copy_112 (am_bk (mm_hop (mm_call N (f + 2))) am_no (some .int) kX6_copy (m + q)) (mm_call N (f + 2)) μ1 (nI d) (nI i) (nI e) (nI j) (nI n) (nI k) = some (.inl (some (.inl (.int (nI n)))), μ') ∧ RelS (fun q => if q = e then ((SH e).1, .leaf, cpl (SH d).2.2 (SH e).2.2 i j n) else SH q) c σ μ' := by
                          intro q
                          induction q with
                          | zero =>
                            intro k m μ1 hk hm g1 g2 g3
                            obtain rfl : k = n := by omega
                            obtain ⟨m, rfl⟩ : ∃ m', m = m' + k := ⟨m - k, by omega⟩
                            rw [jX6_copy_112_eq, if_pos (nI_le (Nat.le_refl _) (by omega)), ic_v0]
                            exact h2l k 0 m μ1 (by omega) g1 (fun c h1 h2 => g2 c h1 (by omega)) (fun p _ => by rw [g2 15 (by omega) (by omega)]) (fun p hp => by omega) g3
                          | succ q ih =>
                            intro k m μ1 hk hm g1 g2 g3
                            rw [jX6_copy_112_eq, if_neg (nI_ge (by omega) (by omega)), show ic 60 = nI 60 from rfl, nI_mulI, nI_add, nI_add, am_ix_nI (by omega) (by omega), am_ix_nI (by omega) (by omega), g2 15 (by omega) (by omega), show 60 * d + i + k = 60 * d + (i + k) by omega, a5 (i + k) (by omega), ic_v1, nI_add, ← Nat.add_assoc, jX6_copy_112_bk]
                            refine ih (k + 1) m _ (by omega) hm (g1.tr (mm_kh.pa μ1 _ _ (.inr rfl))) (fun c h1 h2 => ?_) (fun p hp => ?_)
                            · rw [← g2 c h1 h2]
                              funext p
                              rw [mm_pa_get, if_neg (by omega)]
                            · rw [mm_pa_get, if_pos rfl]
                              by_cases eq : p = k
                              · rw [if_pos eq, eq]
                              · rw [if_neg eq]
                                exact g3 p (by omega)
                        obtain ⟨m, rfl⟩ : ∃ m, N = m + n := ⟨N - n, by omega⟩
                        exact h1l n 0 m μ (by omega) (by omega) (mm_kh.rf μ) (fun _ _ _ => rfl) (fun p hp => by omega)
            · rw [if_neg (fun q => qe ((nI_eq (by omega) (by omega)).mp q)), if_pos (.inr qe), if_neg (fun q => qe q.2.2.2.1)]
              exact ⟨μ, rfl, h⟩
/-! keep -/
/-- the kinds of a tree, a node ahead of its parts -/
def tr_kl : Tr → List Nat
  | .leaf => []
  | .inner _ k _ x y => k :: (tr_kl x ++ tr_kl y)
theorem tr_kl_len : ∀ t : Tr, (tr_kl t).length = tr_sz t
  | .leaf => rfl
  | .inner _ k _ x y => by simp only [tr_kl, tr_sz, List.length_cons, List.length_append, tr_kl_len x, tr_kl_len y]; omega
theorem tr_kl_le : ∀ {t : Tr}, tr_wf t → ∀ w ∈ tr_kl t, w ≤ 9
  | .leaf, _ => by intro w h; simp [tr_kl] at h
  | .inner n k v x y, hw => by
    intro w h
    have hk := tr_wf_v hw
    simp only [tr_kl, List.mem_cons, List.mem_append] at h
    rcases h with rfl | h | h
    · omega
    · exact tr_kl_le hw.1 w h
    · exact tr_kl_le hw.2.1 w h
/-- what kinds lays, from the place q on -/
def mm_kd (d q : Nat) (l : List Nat) (μ μ' : mm_S) : Prop := (∀ j, j ≠ 34 → μ'.1 j = μ.1 j) ∧ (∀ c, c ≠ 15 → μ'.2.1 c = μ.2.1 c) ∧ μ'.2.2 = μ.2.2 ∧ μ'.1 34 = nI (q + l.length) ∧ (∀ j, ¬ (60 * d + q ≤ j ∧ j < 60 * d + q + l.length) → μ'.2.1 15 j = μ.2.1 15 j) ∧ ∀ j, j < l.length → μ'.2.1 15 (60 * d + q + j) = nI (l.getD j 0)
theorem mm_kinds {d : Nat} (hd : d < 8) {lo hi : Nat} (hh : hi ≤ 450) : ∀ (t : Tr) (μ : mm_S) (i : Int32) (q f : Nat), mr μ lo hi t i → tr_wf t → tr_lf t = false → μ.1 34 = nI q → q + tr_sz t ≤ 60 → tr_dp t < f →
    ∃ μ', mm_call N (f) 76 [.inl (.ref 0), .inl (.int (nI d)), .inl (.int (i))] (μ) = some (.inl none, μ') ∧ mm_kd d q (tr_kl t) μ μ' := by
  intro t
  induction t with
  | leaf => intro μ i q f _ _ h; cases h
  | inner n k v x y ihx ihy =>
    intro μ i q f ht hw _ h34 hq hf
    obtain ⟨f, rfl⟩ : ∃ f', f = f' + 1 := ⟨f - 1, by omega⟩
    obtain ⟨p, hp1, hp2, rfl, ek, ev, es, ed, hx, hy⟩ := ht
    obtain ⟨wx, wy, hs⟩ := hw
    simp only [tr_dp, tr_sz] at hf hq
    have hp : p < 450 := by omega
    generalize hμ1 : mm_p (mm_pa μ 15 (60 * d + q) (nI k)) 34 (nI (q + 1)) = μ1
    have r1 : ∀ c, c ≠ 15 → μ1.2.1 c = μ.2.1 c := fun c hc => by
      rw [← hμ1]
      funext j
      show (mm_pa μ 15 (60 * d + q) (nI k)).2.1 c j = _
      rw [mm_pa_get, if_neg hc]
    have k1 : mm_kd d q [k] μ μ1 := by
      refine ⟨fun j hj => ?_, r1, by rw [← hμ1]; rfl, by rw [← hμ1]; rfl, fun j hj => ?_, fun j hj => ?_⟩
      · rw [← hμ1, mm_p_get, if_neg hj]
        rfl
      · simp only [List.length_singleton] at hj
        rw [← hμ1]
        show (mm_pa μ 15 (60 * d + q) (nI k)).2.1 15 j = _
        rw [mm_pa_get, if_pos rfl, if_neg (by omega)]
      · simp only [List.length_singleton] at hj
        obtain rfl : j = 0 := by omega
        rw [← hμ1]
        show (mm_pa μ 15 (60 * d + q) (nI k)).2.1 15 (60 * d + q + 0) = _
        rw [mm_pa_get, if_pos rfl, if_pos (Nat.add_zero _)]
        rfl
    have hcat : ∀ {l l' : List Nat} {μ μ1 μ2 : mm_S} {q : Nat}, mm_kd d q l μ μ1 → mm_kd d (q + l.length) l' μ1 μ2 → mm_kd d q (l ++ l') μ μ2 := by
      intro l l' μ μ1 μ2 q a b
      obtain ⟨a1, a2, a3, a4, a5, a6⟩ := a
      obtain ⟨b1, b2, b3, b4, b5, b6⟩ := b
      refine ⟨fun j h => (b1 j h).trans (a1 j h), fun c h => (b2 c h).trans (a2 c h), b3.trans a3, by rw [b4, List.length_append, Nat.add_assoc], fun j h => ?_, fun j h => ?_⟩
      · rw [List.length_append] at h
        rw [b5 j (by omega), a5 j (by omega)]
      · rw [List.length_append] at h
        by_cases e : j < l.length
        · rw [gd_left e, b5 _ (by omega), a6 j e]
        · have : (l ++ l').getD j 0 = l'.getD (j - l.length) 0 := by
            rw [List.getD_eq_getElem?_getD, List.getD_eq_getElem?_getD, List.getElem?_append_right (by omega)]
          have h6 := b6 (j - l.length) (by omega)
          rw [show 60 * d + (q + l.length) + (j - l.length) = 60 * d + q + j by omega] at h6
          rw [this]
          exact h6
    have hmv : ∀ {μ2 : mm_S} {t : Tr} {i : Int32}, (∀ c, c ≠ 15 → μ2.2.1 c = μ.2.1 c) → mr μ lo hi t i → mr μ2 lo hi t i := fun h ht => mr_of (fun c _ _ j _ _ => by rw [h c (by omega)]) _ _ ht
    have hlf : ∀ {z : Tr}, tr_lf z = true → z = .leaf := fun {z} q => by
      cases z with
      | leaf => rfl
      | inner _ _ _ _ _ => cases q
    have hneg : ∀ {z : Tr} {i : Int32}, mr μ lo hi z i → (i < 0 ↔ tr_lf z = true) := fun {z i} hz => by
      have := mr_lf hz hh
      cases hzl : tr_lf z with
      | true =>
        rw [hlf hzl] at hz
        rw [show i = -2 from hz]
        exact ⟨fun _ => rfl, fun _ => by decide⟩
      | false =>
        rw [hzl, eq_self] at this
        have h0 : 0 ≤ i := by rw [this]; trivial
        exact ⟨fun q => by rw [Int32.lt_iff_toInt_lt] at q; rw [Int32.le_iff_toInt_le] at h0; omega, fun q => by cases q⟩
    have h50 : ∀ (back : mm_bt) (μ2 : mm_S) (q2 : Nat) (l : List Nat), mm_kd d q l μ μ2 → q2 = q + l.length → q2 + tr_sz y ≤ 60 → ∃ μ', jX6_kinds_50 back (mm_call N f) μ2 (nI d) (nI p) = some (.inl none, μ') ∧ mm_kd d q (l ++ tr_kl y) μ μ' := by
      intro back μ2 q2 l hk hq2 hq60
      rw [jX6_kinds_50_eq, am_ix_nI hp (by omega), hk.2.1 4 (by omega)]
      cases hyl : tr_lf y with
      | true =>
        rw [if_pos ((hneg hy).mpr hyl), hlf hyl, show tr_kl .leaf = [] from rfl, List.append_nil]
        exact ⟨μ2, rfl, hk⟩
      | false =>
        obtain ⟨μ3, e3, k3⟩ := ihy μ2 (μ.2.1 4 p) q2 f (hmv hk.2.1 hy) wy hyl (by rw [hk.2.2.2.1, hq2]) hq60 (by omega)
        rw [if_neg (fun q => by rw [(hneg hy).mp q] at hyl; cases hyl), am_ix_nI hp (by omega), e3, am_cv_ok]
        rw [hq2] at k3
        exact ⟨μ3, rfl, hcat hk k3⟩
    rw [dX6_kinds_eq]
    unfold dX6_kinds
    rw [am_ix_nI hp (by omega), h34, show ic 60 = nI 60 from rfl, nI_mulI, nI_add, am_ix_nI (by omega) (by omega), am_ix_nI hp (by omega), ek, show (mm_pa μ 15 (60 * d + q) (nI k)).1 34 = nI q from h34, ic_v1, nI_add, hμ1, r1 3 (by omega)]
    show ∃ μ', _ ∧ mm_kd d q ([k] ++ (tr_kl x ++ tr_kl y)) μ μ'
    cases hxl : tr_lf x with
    | true =>
      rw [if_pos ((hneg hx).mpr hxl), jX6_kinds_50_39_eq, hlf hxl, show tr_kl .leaf = [] from rfl, List.nil_append]
      exact h50 _ μ1 (q + 1) [k] k1 rfl (by omega)
    | false =>
      obtain ⟨μ2, e2, k2⟩ := ihx μ1 (μ.2.1 3 p) (q + 1) f (hmv r1 hx) wx hxl k1.2.2.2.1 (by omega) (by omega)
      rw [if_neg (fun q => by rw [(hneg hx).mp q] at hxl; cases hxl), am_ix_nI hp (by omega), e2, am_cv_ok, ← List.append_assoc]
      exact h50 _ μ2 (q + 1 + tr_sz x) ([k] ++ tr_kl x) (hcat k1 k2) (by rw [List.length_append, tr_kl_len, List.length_singleton]; omega) (by omega)
end
