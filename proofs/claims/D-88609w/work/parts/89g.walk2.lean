set_option maxRecDepth 100000
/-! THE OPERATIONS: go, where, lead. -/
section
variable {SM : List Tr} {FR : Nat → Int32} {N f : Nat}
theorem nI_down (j : Nat) : nI (j + 1) + ic (-1) = nI j := by
  rw [show ic (-1) = -1 by decide, ← Int32.sub_eq_add_neg]
  exact nI_pred j
theorem op_go (hf : 150 ≤ f) (a : Int32) : opI SM FR N f 50 61 [.inl (.ref 0), .inl (.int (a))] := by
  intro c σ μ hR hc
  obtain ⟨F, K, e, h, nd, fn, kp, er, wk, sm, ct⟩ := id hR
  have hlen := nd.1
  obtain ⟨f, rfl⟩ : ∃ f', f = f' + 20 := ⟨f - 20, by omega⟩
  rw [dX1_go_eq, dX6_go_eq]
  unfold dX1_go dX6_go
  rw [cs_inR 0 3 a σ (by decide) (by decide), am_ci_ok, mm_inR 0 3 a μ (by decide) (by decide), am_ci_ok]
  cases h1 : inR 0 3 a with
  | false =>
    rw [if_pos b2f0, if_pos b2f0]
    exact ⟨_, σ, μ, rfl, rfl, hR.up⟩
  | true =>
    obtain ⟨i, -, hi, rfl⟩ := inR_t (by omega) (by omega) h1
    rw [if_neg b2t0, if_neg b2t0]
    rcases wk with ⟨w1, w2⟩ | ⟨d, hw⟩
    · rw [w1, if_neg (by decide), w2, if_pos rfl]
      exact ⟨_, σ, μ, rfl, rfl, hR.up⟩
    · have hw : wkd σ μ d := hw
      obtain ⟨w1, w2, w3, w4, w5, w6, w7, w8, w9⟩ := id hw
      rw [w2, if_pos (nI_pos' (by omega)), w3, if_neg (show ¬ (1 : Int32) = 0 by decide), ic_lit, ic_lit]
      by_cases h2 : 2 ≤ i
      · rw [if_pos (nI_le h2 (by omega)), if_pos (nI_le h2 (by omega)), w4]
        cases d with
        | zero =>
          rw [if_pos nI_0, if_pos nI_0]
          exact ⟨_, σ, μ, rfl, rfl, hR.up⟩
        | succ d =>
          have hd0 : ¬ nI (d + 1) = 0 := fun q => by
            rw [nI_eq0 (by omega)] at q
            omega
          have e1 : nI (d + 1) - ic 1 = nI d := nI_pred d
          obtain ⟨hR', hw'⟩ := wkd.back hR hw (show d ≤ d + 1 by omega)
          obtain ⟨b, v1, v2, v3⟩ := w9 d (by omega)
          obtain ⟨c1, c2, c3⟩ := hw.at (show d ≤ d + 1 by omega)
          obtain ⟨u1, u2, u3⟩ := w8 d (by omega)
          rw [if_neg hd0, if_neg hd0]
          by_cases h3 : i = 3
          · subst h3
            have hrow : μ.2.1 4 (tr_n (cs_p σ d)) = tr_ix (tr_y (cs_p σ d)) := by
              cases q : cs_p σ d with
              | leaf => rw [q] at u1; cases u1
              | inner n k v x y =>
                rw [q] at c2
                exact c2.2.2.2.1
            have hny : tr_lf (tr_y (cs_p σ d)) = false → tr_n (tr_y (cs_p σ d)) < 120 := fun hl => by
              cases q : cs_p σ d with
              | leaf => rw [q] at u1; cases u1
              | inner n k v x y =>
                rw [q] at c2 c3 hl
                obtain ⟨-, -, -, -, -, -, -, hy, -, -⟩ := c2
                have c3 : n ≤ tr_n (cs_p σ 0) := c3
                have hl : tr_lf y = false := hl
                rw [hl] at hy
                show tr_n y < 120
                rcases hy with q | q
                · cases q
                · omega
            rw [if_pos rfl, if_pos rfl, e1, am_ix_nI (by omega) (by omega), tr_nd_wf c1.2.1 u1, cond_true, cs_vy c1.2.1 u1, am_ct_ok, am_ix_nI (by omega) (by omega), u2, am_ix_nI (by omega) (by omega), hrow]
            cases hl : tr_lf (tr_y (cs_p σ d)) with
            | true =>
              have : tr_ix (tr_y (cs_p σ d)) = -2 := by unfold tr_ix; rw [hl]; rfl
              rw [cond_true, this, if_neg (by decide)]
              exact ⟨_, σ, μ, rfl, rfl, hR.up⟩
            | false =>
              have : tr_ix (tr_y (cs_p σ d)) = nI (tr_n (tr_y (cs_p σ d))) := by unfold tr_ix; rw [hl]; rfl
              have hny := hny hl
              have e2 : (mm_p μ 33 (nI d)).1 33 + nI 1 = nI (d + 1) := nI_add d 1
              have e3 : (mm_p μ 33 (nI d)).2.1 32 (d + 1) = b2 b := v2
              have e4 : nI 1 - b2 b = b2 (!b) := by cases b <;> decide
              rw [cond_false, this, if_pos (nI_pos' (by omega)), jX1_go_96_93_eq, jX6_go_86_83_eq, jX1_go_96_eq, jX6_go_86_eq, w2, am_ix_nI (by omega) (by omega), ic_lit, if_pos rfl, v1, e1, if_pos rfl, w4, e1, ic_lit, e2, am_ix_nI (by omega) (by omega), e3, e4, ic_lit]
              obtain ⟨r, σ', μ', d', q1, q2, q3, q4⟩ := op_down (N := N) (f := f + 10) hR' hw' (!b)
              obtain ⟨x1, x2, x3, x4, -, -, -, x8, -⟩ := id q4
              obtain ⟨y1, y2, -⟩ := x8 d' (Nat.le_refl _)
              have hnd := tr_nd_wf (q4.at (Nat.le_refl d')).1.2.1 y1
              rw [q2, am_ci_ok, jX6_go_119_eq, x4, am_ix_nI (by omega) (by omega), y2]
              cases b with
              | false =>
                rw [if_pos b2f0, jX1_go_131_130_eq, jX1_go_131_eq, ← b2_t, show b2 true = b2 (!false) from rfl, q1, am_ci_ok, jX1_go_135_eq, x2, am_ix_nI (by omega) (by omega), hnd, cond_true]
                exact ⟨_, _, _, rfl, rfl, q3.up⟩
              | true =>
                rw [if_neg b2t0, jX1_go_131_eq, ← b2_f, show b2 false = b2 (!true) from rfl, q1, am_ci_ok, jX1_go_135_eq, x2, am_ix_nI (by omega) (by omega), hnd, cond_true]
                exact ⟨_, _, _, rfl, rfl, q3.up⟩
          · have h3' : ¬ nI i = nI 3 := fun q => h3 ((nI_eq (by omega) (by omega)).mp q)
            have hh := hw'.here (k := fun j13 => bif tr_nd (cs_p (cs_pi σ 17 (nI d)) j13) then some (.inl (some (.inl (.int (nI (tr_n (cs_p (cs_pi σ 17 (nI d)) j13)))))), cs_pi σ 17 (nI d)) else none) (k' := fun j12 => some (.inl (some (.inl (.int ((mm_p μ 33 (nI d)).2.1 31 j12)))), mm_p μ 33 (nI d)))
            rw [if_neg h3', if_neg h3', jX1_go_96_76_eq, jX1_go_96_eq, jX6_go_86_64_eq, jX6_go_86_eq, w2, am_ix_nI (by omega) (by omega), ic_lit, if_neg h3', if_neg h3', e1, w4, e1, jX1_go_135_121_eq, jX1_go_135_eq, jX6_go_119_101_eq, jX6_go_119_eq]
            rw [hh.1, hh.2.1, cond_true, hh.2.2.1, hh.2.2.2]
            exact ⟨_, _, _, rfl, rfl, hR'.up⟩
      · have hb : ∃ b, nI i = b2 b ∧ (b = true ↔ i = 1) := by
          by_cases q : i = 1
          · exact ⟨true, by rw [q, b2_t], by simp [q]⟩
          · exact ⟨false, by rw [b2_f, show i = 0 by omega], by simp [q]⟩
        obtain ⟨b, hb, hb1⟩ := hb
        obtain ⟨r, σ', μ', d', q1, q2, q3, q4⟩ := op_down (N := N) (f := f + 10) hR hw b
        obtain ⟨x1, x2, x3, x4, -, -, -, x8, -⟩ := id q4
        obtain ⟨y1, y2, -⟩ := x8 d' (Nat.le_refl _)
        have hnd := tr_nd_wf (q4.at (Nat.le_refl d')).1.2.1 y1
        have hgo : ∀ back, jX1_go_40 back (cs_call N (f + 19)) σ (nI i) (b2 b) = some (.inl (some (.inl (.int (if r then nI (tr_n (cs_p σ' d')) else ic (-3))))), σ') := fun back => by
          rw [jX1_go_40_eq, q1, am_ci_ok]
          cases r with
          | false => rw [if_pos b2f0]; rfl
          | true =>
            rw [if_neg b2t0, x2, am_ix_nI (by omega) (by omega), hnd, cond_true]
            rfl
        have hgo' : (if b2 r = 0 then some (.inl (some (.inl (.int (ic (-3))))), μ') else am_ix (μ'.1 33) 41 fun j22 => some (.inl (some (.inl (.int (μ'.2.1 31 j22)))), μ') : am_R mm_S) = some (.inl (some (.inl (.int (if r then nI (tr_n (cs_p σ' d')) else ic (-3))))), μ') := by
          cases r with
          | false => rw [if_pos b2f0]; rfl
          | true =>
            rw [if_neg b2t0, x4, am_ix_nI (by omega) (by omega), y2]
            rfl
        rw [if_neg (nI_ge (by omega) (by omega)), if_neg (nI_ge (by omega) (by omega))]
        by_cases q : i = 1
        · obtain rfl := hb1.mpr q
          subst q
          rw [if_pos (ic_lit 1).symm, jX1_go_40_39_eq, ic_lit, ← b2_t] 
          rw [← b2_t] at hgo
          rw [hgo, q2, am_ci_ok, hgo']
          exact ⟨_, _, _, rfl, rfl, q3.up⟩
        · have hbf : b = false := by cases b; · rfl
                                     · exact absurd (hb1.mp rfl) q
          subst hbf
          rw [if_neg (show ¬ nI i = ic 1 from fun q' => q ((nI_eq (by omega) (by omega)).mp (q'.trans (ic_lit 1)))), ic_lit, ← b2_f, hgo, hb, q2, am_ci_ok, hgo']
          exact ⟨_, _, _, rfl, rfl, q3.up⟩
end
