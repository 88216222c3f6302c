set_option maxRecDepth 100000
/-! THE SHELVES, on the model's side: element, make, copy, keep. -/
theorem gd_map {n : Nat} {g : Nat → Nat} {j : Nat} (h : j < n) : ((List.range n).map g).getD j 0 = g j := by
  rw [List.getD_eq_getElem?_getD, List.getElem?_map, List.getElem?_range h]
  rfl
section
variable {N f : Nat}
theorem mm_inN {n : Nat} (k : Int32) (μ : mm_S) : mm_call N (f + 1) 3 [.inl (.long (k.toInt64)), .inl (.long (lN 0)), .inl (.long ((nI n - ic 1).toInt64))] (μ) = some (.inl (some (.inl (.int (b2 (isN n k))))), μ) := by
  rw [mm_in, show lN 0 = (0 : Int32).toInt64 from rfl]
  simp only [i64_le, isN, show ic 1 = (1 : Int32) from rfl]
/-- element: what is thrown (0: nothing), what is answered -/
def sh_et (SH : Nat → sh_T) (x i : Int32) : Nat := if inR 0 7 x = true then (if (SH x.toNatClampNeg).1 < 3 ∨ isN (SH x.toNatClampNeg).2.2.length i = false then 2 else 0) else 1
def sh_ev (SH : Nat → sh_T) (x i : Int32) : Int64 := if sh_et SH x i = 0 then lN ((SH x.toNatClampNeg).2.2.getD i.toNatClampNeg 0) else lN 0
theorem mm_element {SH : Nat → sh_T} {μ : mm_S} (hs : sh_R SH μ) (x i : Int32) : mm_call N (f + 3) 78 [.inl (.ref 0), .inl (.int (x)), .inl (.int (i))] (μ) = some (.inl (some (.inl (.long (sh_ev SH x i)))), mm_p μ 16 (nI (sh_et SH x i))) := by
  rw [dX6_element_eq]
  unfold dX6_element
  rw [mm_isShelf, am_ci_ok]
  have h45 : ∀ (back : mm_bt) (v : Nat), v = 1 ∨ v = 2 → jX6_element_45 back (mm_call N (f + 2)) μ x i (nI v) = some (.inl (some (.inl (.long (lN 0)))), mm_p μ 16 (nI v)) := fun back v hv => by
    rw [jX6_element_45_eq, if_neg (show ¬ (mm_p μ 16 (nI v)).1 16 = 0 from fun q => nI_ne0 (n := v) (by omega) (by omega) ((va_up_self μ.1 16 (nI v)).symm.trans q))]
  cases h1 : inR 0 7 x with
  | false =>
    have e : sh_et SH x i = 1 := by unfold sh_et; rw [h1]; rfl
    rw [if_pos b2f0, jX6_element_45_12_eq, ic_v1, h45 _ 1 (.inl rfl)]
    unfold sh_ev
    rw [e]
    rfl
  | true =>
    obtain ⟨d, -, hd, rfl⟩ := inR_t (by omega) (by omega) h1
    obtain ⟨h0, e1, -, e3⟩ := hs d (by omega)
    have ht := h0.tag
    have hcl : (nI d).toNatClampNeg = d := nI_clamp (by omega)
    rw [if_neg b2t0, am_ix_nI (by omega) (by omega), e1, show ic 3 = nI 3 from rfl]
    by_cases q3 : (SH d).1 < 3
    · have e : sh_et SH (nI d) i = 2 := by unfold sh_et; rw [h1, if_pos rfl, hcl, if_pos (.inl q3)]
      rw [if_pos (nI_lt q3 (by omega)), jX6_element_40_22_eq, jX6_element_40_eq, jX6_element_45_44_eq, ic_v2, h45 _ 2 (.inr rfl)]
      unfold sh_ev
      rw [e]
      rfl
    · obtain ⟨e4, e5⟩ := e3 (by omega)
      obtain ⟨hl, hw⟩ : (SH d).2.2.length ≤ 60 ∧ ∀ w ∈ (SH d).2.2, w ≤ 30 := by
        rcases h0 with h | ⟨h, -⟩ | ⟨-, h⟩
        · omega
        · omega
        · exact h
      rw [if_neg (nI_nlt (by omega) (by omega)), am_ix_nI (by omega) (by omega), e4, mm_inN, am_ci_ok]
      cases h2 : isN (SH d).2.2.length i with
      | false =>
        have e : sh_et SH (nI d) i = 2 := by unfold sh_et; rw [h1, if_pos rfl, hcl, if_pos (.inr h2)]
        rw [if_pos b2f0, jX6_element_40_eq, jX6_element_45_44_eq, ic_v2, h45 _ 2 (.inr rfl)]
        unfold sh_ev
        rw [e]
        rfl
      | true =>
        obtain ⟨j, hj, rfl⟩ := isN_t (by omega) h2
        have e : sh_et SH (nI d) (nI j) = 0 := by unfold sh_et; rw [h1, if_pos rfl, hcl, if_neg (by rw [h2]; rintro (q | q); exact q3 q; cases q)]
        have hwj := hw _ (getD_mem _ hj)
        rw [if_neg b2t0, jX6_element_45_eq, if_pos (show (mm_p μ 16 (ic 0)).1 16 = 0 from rfl), show ic 60 = nI 60 from rfl, nI_mulI, nI_add, am_ix_nI (by omega) (by omega)]
        unfold sh_ev
        rw [e, if_pos rfl, hcl, nI_clamp (by omega), show (mm_p μ 16 (ic 0)).2.1 15 (60 * d + j) = nI ((SH d).2.2.getD j 0) from e5 j hj, nI_l (by omega), ic_v0]
/-- make -/
def sh_mk (x w n : Int32) : Int32 := if inR 0 7 x = true ∧ inR 3 4 w = true ∧ n ≤ ic 60 then (if 0 ≤ n then ic 0 else ic (-14)) else ic (-1)
def sh_mq (SH : Nat → sh_T) (x w n : Int32) : Nat → sh_T := if inR 0 7 x = true ∧ inR 3 4 w = true ∧ n ≤ ic 60 ∧ 0 ≤ n then (fun i => if i = x.toNatClampNeg then (w.toNatClampNeg, .leaf, (List.range n.toNatClampNeg).map fun _ => 0) else SH i) else SH
theorem mm_make {SH : Nat → sh_T} {c : Nat} {σ : cs_S} {μ : mm_S} (h : RelS SH c σ μ) (hN : 100 ≤ N) (x w n : Int32) : ∃ μ', mm_call N (f + 3) 77 [.inl (.ref 0), .inl (.int (x)), .inl (.int (w)), .inl (.int (n))] (μ) = some (.inl (some (.inl (.int (sh_mk x w n)))), μ') ∧ RelS (sh_mq SH x w n) c σ μ' := by
  rw [dX6_make_eq]
  unfold dX6_make sh_mk sh_mq
  rw [mm_isShelf, am_ci_ok]
  cases h1 : inR 0 7 x with
  | false =>
    rw [if_pos b2f0, if_neg (by rintro ⟨q, -⟩; cases q), if_neg (by rintro ⟨q, -⟩; cases q)]
    exact ⟨μ, rfl, h⟩
  | true =>
    obtain ⟨d, -, hd, rfl⟩ := inR_t (by omega) (by omega) h1
    rw [if_neg b2t0, mm_inR 3 4 w μ (by decide) (by decide), am_ci_ok]
    cases h2 : inR 3 4 w with
    | false =>
      rw [if_pos b2f0, if_neg (by rintro ⟨-, q, -⟩; cases q), if_neg (by rintro ⟨-, q, -⟩; cases q)]
      exact ⟨μ, rfl, h⟩
    | true =>
      obtain ⟨t, ht3, ht4, rfl⟩ := inR_t (by omega) (by omega) h2
      rw [if_neg b2t0]
      by_cases h3 : n ≤ ic 60
      · rw [if_pos h3]
        by_cases h4 : 0 ≤ n
        · obtain ⟨k, hk, rfl⟩ := nI_of (x := n) (fun q => by
            rw [Int32.lt_iff_toInt_lt] at q
            rw [Int32.le_iff_toInt_le] at h4
            omega)
          have hk60 : k ≤ 60 := (nI_leI hk (by omega)).mp h3
          rw [if_pos h4, if_pos ⟨rfl, rfl, h3⟩, if_pos h4, if_pos ⟨rfl, rfl, h3, h4⟩, am_ix_nI (by omega) (by omega), am_ix_nI (by omega) (by omega), nI_clamp (by omega), nI_clamp (by omega), nI_clamp (by omega), ic_v0]
          have hs := h.2
          have hl : ∀ (q j m : Nat) (μ1 : mm_S), j + q = k → mm_kh μ μ1 → (∀ c i, 11 ≤ c → c ≤ 14 → i ≠ d → μ1.2.1 c i = μ.2.1 c i) → (∀ i, i < 60 * d ∨ 60 * d + 60 ≤ i → μ1.2.1 15 i = μ.2.1 15 i) → μ1.2.1 11 d = nI t → μ1.2.1 14 d = nI k → (∀ i, i < j → μ1.2.1 15 (60 * d + i) = nI 0) →
              ∃ μ', jX6_make_53 (am_bk (mm_hop (mm_call N (f + 2))) am_no (some .int) kX6_make (m + q)) (mm_call N (f + 2)) μ1 (nI d) (nI t) (nI k) (nI j) = some (.inl (some (.inl (.int (nI 0)))), μ') ∧ RelS (fun i => if i = d then (t, .leaf, (List.range k).map fun _ => 0) else SH i) c σ μ' := by
            intro q
            induction q with
            | zero =>
              intro j m μ1 hj g1 g2 g3 g4 g5 g6
              obtain rfl : j = k := by omega
              rw [jX6_make_53_eq, if_pos (nI_le (Nat.le_refl _) (by omega)), ic_v0]
              refine ⟨μ1, rfl, h.put g1 (hs.put (.inr (.inr ⟨by omega, by simp; omega, fun w hw => ?_⟩)) ⟨g4, fun q => by simp only at q; omega, fun _ => ⟨by simpa using g5, fun i hi => ?_⟩⟩ (fun c h1 h2 i hi => g2 c i h1 h2 hi) g3)⟩
              · simp only [List.mem_map] at hw
                obtain ⟨-, -, rfl⟩ := hw
                omega
              · simp only [List.length_map, List.length_range] at hi
                rw [g6 i hi, gd_map hi]
            | succ q ih =>
              intro j m μ1 hj g1 g2 g3 g4 g5 g6
              rw [jX6_make_53_eq, if_neg (nI_ge (by omega) (by omega)), show ic 60 = nI 60 from rfl, nI_mulI, nI_add, am_ix_nI (by omega) (by omega), ic_v0, ic_v1, nI_add, ← Nat.add_assoc, jX6_make_53_bk]
              refine ih (j + 1) m _ (by omega) (g1.tr (mm_kh.pa μ1 _ _ (.inl ⟨by omega, by omega⟩))) (fun c i h1 h2 h3 => ?_) (fun i hi => ?_) ?_ ?_ (fun i hi => ?_)
              · rw [mm_pa_get, if_neg (by omega)]
                exact g2 c i h1 h2 h3
              · rw [mm_pa_get, if_pos rfl, if_neg (by omega)]
                exact g3 i hi
              · rw [mm_pa_get, if_neg (by omega)]
                exact g4
              · rw [mm_pa_get, if_neg (by omega)]
                exact g5
              · rw [mm_pa_get, if_pos rfl]
                by_cases e : i = j
                · rw [if_pos (by rw [e])]
                · rw [if_neg (by omega)]
                  exact g6 i (by omega)
          obtain ⟨m, rfl⟩ : ∃ m, N = m + k := ⟨N - k, by omega⟩
          refine hl k 0 m _ (by omega) ((mm_kh.pa μ _ _ (.inl ⟨by omega, by omega⟩)).tr (mm_kh.pa _ _ _ (.inl ⟨by omega, by omega⟩))) (fun c i h1 h2 h3 => ?_) (fun i hi => ?_) ?_ ?_ (fun i hi => by omega)
          · rw [mm_pa_get]
            by_cases e : c = 14
            · rw [if_pos e, if_neg h3, mm_pa_get, if_neg (by omega), e]
            · rw [if_neg e, mm_pa_get]
              by_cases e' : c = 11
              · rw [if_pos e', if_neg h3, e']
              · rw [if_neg e']
          · rw [mm_pa_get, if_neg (by omega), mm_pa_get, if_neg (by omega)]
          · rw [mm_pa_get, if_neg (by omega), mm_pa_get, if_pos rfl, if_pos rfl]
          · rw [mm_pa_get, if_pos rfl, if_pos rfl]
        · rw [if_neg h4, if_pos ⟨rfl, rfl, h3⟩, if_neg h4, if_neg (fun q => h4 q.2.2.2)]
          exact ⟨μ, rfl, h⟩
      · rw [if_neg h3, if_neg (fun q => h3 q.2.2), if_neg (fun q => h3 q.2.2.1)]
        exact ⟨μ, rfl, h⟩
end
