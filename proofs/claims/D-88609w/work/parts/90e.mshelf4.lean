set_option maxRecDepth 100000
/-! THE SHELVES, on the model's side: keep. -/
def sh_ear (σ : cs_S) : List Nat := (List.range (cs_i σ 9).toNatClampNeg).map fun j => (cs_a σ 108 j).toNatClampNeg
/-- whether keep does what it is asked -/
def sh_kg (σ : cs_S) (d w k : Int32) : Bool := inR 0 7 d && (decide (w = 0) || decide (w = nI 3) || (decide (w = nI 1) || decide (w = nI 4)) && isN (cs_t σ 100).length k)
def sh_kv (σ : cs_S) (w k : Int32) : sh_T := if w = 0 then (0, .leaf, []) else if w = nI 1 then (1, (cs_t σ 100).getD k.toNatClampNeg .leaf, []) else if w = nI 3 then (3, .leaf, sh_ear σ) else (4, .leaf, tr_kl ((cs_t σ 100).getD k.toNatClampNeg .leaf))
def sh_kq (SH : Nat → sh_T) (σ : cs_S) (d w k : Int32) : Nat → sh_T := if sh_kg σ d w k = true then (fun i => if i = d.toNatClampNeg then sh_kv σ w k else SH i) else SH
theorem sh_ear_of {e : Nat → Nat} {h : Nat} {σ : cs_S} {μ : mm_S} (er : cm_er e h σ μ) : sh_ear σ = (List.range h).map e := by
  obtain ⟨h1, h2, -, h4⟩ := er
  unfold sh_ear
  rw [h2, nI_clamp (by omega)]
  apply List.map_congr_left
  intro j hj
  have hj := List.mem_range.mp hj
  rw [(h4 j hj).2.1, nI_clamp (by have := (h4 j hj).1; omega)]
section
variable {N f : Nat}
theorem mm_keep {SH : Nat → sh_T} {c : Nat} {σ : cs_S} {μ : mm_S} (h : RelS SH c σ μ) (hN : 200 ≤ N) (hf : 60 ≤ f) (x w y : Int32) : ∃ μ', mm_call N (f + 3) 74 [.inl (.ref 0), .inl (.int (x)), .inl (.int (w)), .inl (.int (y))] (μ) = some (.inl (some (.inl (.int ((if sh_kg σ x w y = true then ic 0 else ic (-1)))))), μ') ∧ RelS (sh_kq SH σ x w y) c σ μ' := by
  have hs := h.2
  obtain ⟨⟨FR, h6, hR⟩, -⟩ := id h
  obtain ⟨F, K, e, hh, nd, fn, kp, er, wk, sm, ct⟩ := hR
  have hl := nd.1
  -- behind the question
  have h32 : ∀ (back : mm_bt) (b : Bool), (∃ m, back = am_bk (mm_hop (mm_call N (f + 2))) am_no (some .int) kX6_keep m ∧ 100 ≤ m) → (b = true → (w = 0 ∨ w = nI 3 ∨ ((w = nI 1 ∨ w = nI 4) ∧ isN (cs_t σ 100).length y = true))) →
      ∃ μ', jX6_keep_32 back (mm_call N (f + 2)) μ x w y (b2 b) = some (.inl (some (.inl (.int ((if (inR 0 7 x && b) = true then ic 0 else ic (-1)))))), μ') ∧ RelS (if (inR 0 7 x && b) = true then (fun i => if i = x.toNatClampNeg then sh_kv σ w y else SH i) else SH) c σ μ' := by
    intro back b hback hb
    rw [jX6_keep_32_eq, mm_isShelf, am_ci_ok]
    cases h1 : inR 0 7 x with
    | false =>
      rw [if_pos b2f0, Bool.false_and, if_neg (by decide), if_neg (by decide)]
      exact ⟨μ, rfl, h⟩
    | true =>
      obtain ⟨d, -, hd, rfl⟩ := inR_t (by omega) (by omega) h1
      rw [if_neg b2t0, Bool.true_and]
      cases b with
      | false =>
        rw [if_pos b2f0, if_neg (by decide), if_neg (by decide)]
        exact ⟨μ, rfl, h⟩
      | true =>
        have hg := hb rfl
        rw [if_neg b2t0, if_pos rfl, if_pos rfl, am_ix_nI (by omega) (by omega), nI_clamp (by omega), ic_v1, show ic 3 = nI 3 from rfl, show ic 4 = nI 4 from rfl]
        have r11 : ∀ (μ1 : mm_S) (v : Int32), (mm_pa μ1 11 d v).2.1 11 d = v := fun μ1 v => by rw [mm_pa_get, if_pos rfl, if_pos rfl]
        by_cases w1 : w = nI 1
        · subst w1
          have hn : isN (cs_t σ 100).length y = true := by
            rcases hg with q | q | ⟨-, q⟩
            · exact absurd q (by decide)
            · exact absurd q (by decide)
            · exact q
          obtain ⟨k, hk, rfl⟩ := isN_t (by omega) hn
          obtain ⟨a1, a2, a3, a4⟩ := nd.at hk
          have hkv : sh_kv σ (nI 1) (nI k) = (1, (cs_t σ 100).getD k .leaf, []) := by unfold sh_kv; rw [if_neg (by decide), if_pos rfl, nI_clamp (by omega)]
          rw [if_pos rfl, am_ix_nI (by omega) (by omega), am_ix_nI (by omega) (by omega), am_ix_nI (by omega) (by omega), am_ix_nI (by omega) (by omega), am_ix_nI (by omega) (by omega), am_ix_nI (by omega) (by omega), hkv]
          refine ⟨_, rfl, h.put ((((mm_kh.pa μ _ _ (.inl ⟨by omega, by omega⟩)).tr (mm_kh.pa _ _ _ (.inl ⟨by omega, by omega⟩))).tr (mm_kh.pa _ _ _ (.inl ⟨by omega, by omega⟩))).tr (mm_kh.pa _ _ _ (.inl ⟨by omega, by omega⟩))) (hs.put (.inr (.inl ⟨rfl, a1⟩)) ⟨?_, fun _ => ?_, fun q => by simp only at q; omega⟩ (fun c h1 h2 i hi => ?_) (fun i hi => ?_))⟩
          · simp only [mm_pa_get]
            simp
          · simp only [mm_pa_get]
            simp only [show ¬ (1 : Nat) = 11 by decide, show ¬ (2 : Nat) = 11 by decide, show ¬ (2 : Nat) = 12 by decide, show ¬ (5 : Nat) = 11 by decide, show ¬ (5 : Nat) = 12 by decide, show ¬ (5 : Nat) = 13 by decide, show ¬ (12 : Nat) = 14 by decide, show ¬ (12 : Nat) = 13 by decide, show ¬ (13 : Nat) = 14 by decide, if_true, if_false]
            generalize (cs_t σ 100).getD k .leaf = t at *
            cases t with
            | leaf => exact absurd a1.1 (by decide)
            | inner n kk v tx ty =>
              obtain ⟨p, -, hp, ep, e1, e2, e5, -⟩ := a3
              obtain rfl := (nI_eq (by omega) (by omega)).mp ep
              exact ⟨e1, e2, e5⟩
          · simp only [mm_pa_get, hi, if_false]
            by_cases c14 : c = 14
            · simp [c14]
            · by_cases c13 : c = 13
              · simp [c13]
              · by_cases c12 : c = 12
                · simp [c12]
                · by_cases c11 : c = 11
                  · simp [c11]
                  · omega
          · simp only [mm_pa_get, show ¬ (15 : Nat) = 14 by decide, show ¬ (15 : Nat) = 13 by decide, show ¬ (15 : Nat) = 12 by decide, show ¬ (15 : Nat) = 11 by decide, if_false]
        · rw [if_neg w1]
          by_cases w3 : w = nI 3
          · subst w3
            have hkv : sh_kv σ (nI 3) y = (3, .leaf, (List.range hh).map e) := by unfold sh_kv; rw [if_neg (by decide), if_neg (by decide), if_pos rfl, sh_ear_of er]
            rw [if_pos rfl, am_ix_nI (by omega) (by omega), show (mm_pa μ 11 d (nI 3)).1 10 = nI hh from er.2.2.1, ic_v0, hkv]
            obtain ⟨m, rfl, hm⟩ := hback
            have h20 := er.1
            have hloop : ∀ (q j m : Nat) (μ1 : mm_S), j + q = hh → mm_kh μ μ1 → (∀ c i, 11 ≤ c → c ≤ 14 → i ≠ d → μ1.2.1 c i = μ.2.1 c i) → (∀ i, i < 60 * d ∨ 60 * d + 60 ≤ i → μ1.2.1 15 i = μ.2.1 15 i) → μ1.2.1 11 d = nI 3 → μ1.2.1 14 d = nI hh → (∀ i, i < j → μ1.2.1 15 (60 * d + i) = nI (e i)) →
                ∃ μ', jX6_keep_117 (am_bk (mm_hop (mm_call N (f + 2))) am_no (some .int) kX6_keep (m + q)) (mm_call N (f + 2)) μ1 (nI d) (nI 3) y (b2 true) (nI j) = some (.inl (some (.inl (.int (ic 0)))), μ') ∧ RelS (fun i => if i = d then (3, .leaf, (List.range hh).map e) else SH i) c σ μ' := by
              intro q
              induction q with
              | zero =>
                intro j m μ1 hj g1 g2 g3 g4 g5 g6
                obtain rfl : j = hh := by omega
                rw [jX6_keep_117_eq, show μ1.1 10 = nI j from (g1.1 10 (by omega) (by omega)).trans er.2.2.1, if_pos (nI_le (Nat.le_refl _) (by omega))]
                refine ⟨μ1, rfl, h.put g1 (hs.put (.inr (.inr ⟨.inl rfl, by simp; omega, fun w hw => ?_⟩)) ⟨g4, fun q => by simp only at q; omega, fun _ => ⟨by simpa using g5, fun i hi => ?_⟩⟩ (fun c h1 h2 i hi => g2 c i h1 h2 hi) g3)⟩
                · simp only [List.mem_map, List.mem_range] at hw
                  obtain ⟨i, hi, rfl⟩ := hw
                  exact (er.2.2.2 i hi).1
                · simp only [List.length_map, List.length_range] at hi
                  rw [g6 i hi, gd_map hi]
              | succ q ih =>
                intro j m μ1 hj g1 g2 g3 g4 g5 g6
                rw [jX6_keep_117_eq, show μ1.1 10 = nI hh from (g1.1 10 (by omega) (by omega)).trans er.2.2.1, if_neg (nI_ge (by omega) (by omega)), am_ix_nI (by omega) (by omega), show ic 60 = nI 60 from rfl, nI_mulI, nI_add, am_ix_nI (by omega) (by omega), g1.2.1 9 (by omega) (by omega), (er.2.2.2 j (by omega)).2.2, ic_v1, nI_add, ← Nat.add_assoc, jX6_keep_117_bk]
                refine ih (j + 1) m _ (by omega) (g1.tr (mm_kh.pa μ1 _ _ (.inl ⟨by omega, by omega⟩))) (fun c i h1 h2 h3 => ?_) (fun i hi => ?_) ?_ ?_ (fun i hi => ?_)
                · rw [mm_pa_get, if_neg (by omega)]
                  exact g2 c i h1 h2 h3
                · rw [mm_pa_get, if_pos rfl, if_neg (by omega)]
                  exact g3 i hi
                · rw [mm_pa_get, if_neg (by omega)]
                  exact g4
                · rw [mm_pa_get, if_neg (by omega)]
                  exact g5
                · rw [mm_pa_get, if_pos rfl]
                  by_cases e' : i = j
                  · rw [if_pos (by rw [e']), e']
                  · rw [if_neg (by omega)]
                    exact g6 i (by omega)
            obtain ⟨m, rfl⟩ : ∃ m', m = m' + hh := ⟨m - hh, by omega⟩
            refine hloop hh 0 m _ (by omega) ((mm_kh.pa μ _ _ (.inl ⟨by omega, by omega⟩)).tr (mm_kh.pa _ _ _ (.inl ⟨by omega, by omega⟩))) (fun c i h1 h2 h3 => ?_) (fun i hi => ?_) ?_ ?_ (fun i hi => by omega)
            · rw [mm_pa_get]
              by_cases e' : c = 14
              · rw [if_pos e', if_neg h3, mm_pa_get, if_neg (by omega), e']
              · rw [if_neg e', mm_pa_get]
                by_cases e'' : c = 11
                · rw [if_pos e'', if_neg h3, e'']
                · rw [if_neg e'']
            · rw [mm_pa_get, if_neg (by omega), mm_pa_get, if_neg (by omega)]
            · rw [mm_pa_get, if_neg (by omega), mm_pa_get, if_pos rfl, if_pos rfl]
            · rw [mm_pa_get, if_pos rfl, if_pos rfl]
          · rw [if_neg w3]
            by_cases w4 : w = nI 4
            · subst w4
              have hn : isN (cs_t σ 100).length y = true := by
                rcases hg with q | q | ⟨-, q⟩
                · exact absurd q (by decide)
                · exact absurd q (by decide)
                · exact q
              obtain ⟨k, hk, rfl⟩ := isN_t (by omega) hn
              obtain ⟨a1, a2, a3, a4⟩ := nd.at hk
              have hz := a1.2.2
              have hdp := a1.dp
              have hkv : sh_kv σ (nI 4) (nI k) = (4, .leaf, tr_kl ((cs_t σ 100).getD k .leaf)) := by unfold sh_kv; rw [if_neg (by decide), if_neg (by decide), if_neg (by decide), nI_clamp (by omega)]
              have rr : ∀ c, c ≠ 11 → (mm_p (mm_pa μ 11 d (nI 4)) 34 (ic 0)).2.1 c = μ.2.1 c := fun c hc => by
                funext j
                show (mm_pa μ 11 d (nI 4)).2.1 c j = _
                rw [mm_pa_get, if_neg hc]
              obtain ⟨μ2, e2, g1, g2, g3, g4, g5, g6⟩ := mm_kinds (N := N) (d := d) (by omega) (show 120 ≤ 450 by omega) _ (mm_p (mm_pa μ 11 d (nI 4)) 34 (ic 0)) (nI k) 0 (f + 2) (mr_of (fun c _ _ j _ _ => by rw [rr c (by omega)]) _ _ a3) a1.2.1 a1.1 rfl (by omega) (by omega)
              rw [if_pos rfl, e2, am_cv_ok, am_ix_nI (by omega) (by omega), g4, hkv, Nat.zero_add]
              have hk1 : mm_kh μ (mm_p (mm_pa μ 11 d (nI 4)) 34 (ic 0)) := (mm_kh.pa μ _ _ (.inl ⟨by omega, by omega⟩)).tr ⟨fun j _ q => by rw [mm_p_get, if_neg q], fun _ _ _ => rfl, rfl⟩
              have hk2 : mm_kh (mm_p (mm_pa μ 11 d (nI 4)) 34 (ic 0)) μ2 := ⟨fun j _ q => g1 j q, fun c q _ => g2 c (by omega), g3⟩
              refine ⟨_, rfl, h.put ((hk1.tr hk2).tr (mm_kh.pa _ _ _ (.inl ⟨by omega, by omega⟩))) (hs.put (.inr (.inr ⟨.inr rfl, by simp only [tr_kl_len]; omega, fun w hw => by have := tr_kl_le a1.2.1 w hw; omega⟩)) ⟨?_, fun q => by simp only at q; omega, fun _ => ⟨?_, fun j hj => ?_⟩⟩ (fun c h1 h2 i hi => ?_) (fun i hi => ?_))⟩
              · rw [mm_pa_get, if_neg (by omega), g2 11 (by omega)]
                exact r11 μ (nI 4)
              · rw [mm_pa_get, if_pos rfl, if_pos rfl]
              · rw [mm_pa_get, if_neg (by omega)]
                have := g6 j hj
                rw [Nat.add_zero] at this
                exact this
              · rw [mm_pa_get]
                by_cases e' : c = 14
                · rw [if_pos e', if_neg hi, g2 14 (by omega), rr 14 (by omega), e']
                · rw [if_neg e', g2 c (by omega)]
                  show (mm_pa μ 11 d (nI 4)).2.1 c i = _
                  rw [mm_pa_get]
                  by_cases e'' : c = 11
                  · rw [if_pos e'', if_neg hi, e'']
                  · rw [if_neg e'']
              · rw [mm_pa_get, if_neg (by omega), g5 i (by rw [tr_kl_len]; omega), rr 15 (by omega)]
            · have w0 : w = 0 := by
                rcases hg with q | q | ⟨q | q, -⟩
                · exact q
                · exact absurd q w3
                · exact absurd q w1
                · exact absurd q w4
              subst w0
              have hkv : sh_kv σ 0 y = (0, .leaf, []) := by unfold sh_kv; rw [if_pos rfl]
              rw [if_neg w4, hkv]
              refine ⟨_, rfl, h.put (mm_kh.pa μ _ _ (.inl ⟨by omega, by omega⟩)) (hs.put (.inl rfl) ⟨r11 μ 0, fun q => by simp only at q; omega, fun q => by simp only at q; omega⟩ (fun c h1 h2 i hi => ?_) (fun i hi => ?_))⟩
              · rw [mm_pa_get]
                by_cases e'' : c = 11
                · rw [if_pos e'', if_neg hi, e'']
                · rw [if_neg e'']
              · rw [mm_pa_get, if_neg (by omega)]
  have hbk : ∃ m, am_bk (mm_hop (mm_call N (f + 2))) am_no (some .int) kX6_keep N = am_bk (mm_hop (mm_call N (f + 2))) am_no (some .int) kX6_keep m ∧ 100 ≤ m := ⟨N, rfl, by omega⟩
  rw [dX6_keep_eq]
  unfold dX6_keep sh_kq
  have h27 : ∀ (hg : w = 0 ∨ w = nI 3 ∨ ((w = nI 1 ∨ w = nI 4) ∧ isN (cs_t σ 100).length y = true)), sh_kg σ x w y = inR 0 7 x → ∃ μ', jX6_keep_27 (am_bk (mm_hop (mm_call N (f + 2))) am_no (some .int) kX6_keep N) (mm_call N (f + 2)) μ x w y = some (.inl (some (.inl (.int ((if sh_kg σ x w y = true then ic 0 else ic (-1)))))), μ') ∧ RelS (if sh_kg σ x w y = true then (fun i => if i = x.toNatClampNeg then sh_kv σ w y else SH i) else SH) c σ μ' := by
    intro hg hk
    have := h32 _ true hbk (fun _ => hg)
    rw [Bool.and_true] at this
    rw [jX6_keep_27_eq, jX6_keep_32_31_eq, hk]
    exact this
  have h31 : sh_kg σ x w y = false → ∃ μ', jX6_keep_31 (am_bk (mm_hop (mm_call N (f + 2))) am_no (some .int) kX6_keep N) (mm_call N (f + 2)) μ x w y = some (.inl (some (.inl (.int ((if sh_kg σ x w y = true then ic 0 else ic (-1)))))), μ') ∧ RelS (if sh_kg σ x w y = true then (fun i => if i = x.toNatClampNeg then sh_kv σ w y else SH i) else SH) c σ μ' := by
    intro hk
    have := h32 _ false hbk (fun q => by cases q)
    rw [Bool.and_false] at this
    rw [jX6_keep_31_eq, hk]
    exact this
  have hkg : ∀ b : Bool, (decide (w = 0) || decide (w = nI 3) || (decide (w = nI 1) || decide (w = nI 4)) && isN (cs_t σ 100).length y) = b → sh_kg σ x w y = (inR 0 7 x && b) := fun b hb => by unfold sh_kg; rw [hb]
  rw [show ic 3 = nI 3 from rfl, ic_v1, show ic 4 = nI 4 from rfl]
  by_cases w0 : w = 0
  · rw [if_pos w0, jX6_keep_27_4_eq]
    exact h27 (.inl w0) (by rw [hkg true (by rw [decide_eq_true w0]; rfl), Bool.and_true])
  · rw [if_neg w0]
    by_cases w3 : w = nI 3
    · rw [if_pos w3, jX6_keep_27_9_eq]
      exact h27 (.inr (.inl w3)) (by rw [hkg true (by rw [decide_eq_true w3, Bool.or_true]; rfl), Bool.and_true])
    · rw [if_neg w3]
      have h19 : (w = nI 1 ∨ w = nI 4) → ∃ μ', jX6_keep_19 (am_bk (mm_hop (mm_call N (f + 2))) am_no (some .int) kX6_keep N) (mm_call N (f + 2)) μ x w y = some (.inl (some (.inl (.int ((if sh_kg σ x w y = true then ic 0 else ic (-1)))))), μ') ∧ RelS (if sh_kg σ x w y = true then (fun i => if i = x.toNatClampNeg then sh_kv σ w y else SH i) else SH) c σ μ' := by
        intro hw
        rw [jX6_keep_19_eq, mm_isNode _ nd.2.2.1, am_ci_ok]
        have hd : (decide (w = nI 1) || decide (w = nI 4)) = true := by
          rcases hw with q | q
          · rw [decide_eq_true q]; rfl
          · rw [decide_eq_true q, Bool.or_true]
        cases h2 : isN (cs_t σ 100).length y with
        | false =>
          rw [if_pos b2f0, jX6_keep_31_27_eq]
          exact h31 (by rw [hkg false (by rw [decide_eq_false w0, decide_eq_false w3, h2, Bool.and_false]; rfl), Bool.and_false])
        | true =>
          rw [if_neg b2t0]
          exact h27 (.inr (.inr ⟨hw, h2⟩)) (by rw [hkg true (by rw [hd, h2]; simp), Bool.and_true])
      by_cases w1 : w = nI 1
      · rw [if_pos w1, jX6_keep_19_14_eq]
        exact h19 (.inl w1)
      · rw [if_neg w1]
        by_cases w4 : w = nI 4
        · rw [if_pos w4]
          exact h19 (.inr w4)
        · rw [if_neg w4, jX6_keep_31_19_eq]
          exact h31 (by rw [hkg false (by rw [decide_eq_false w0, decide_eq_false w3, decide_eq_false w1, decide_eq_false w4]; rfl), Bool.and_false])
end
