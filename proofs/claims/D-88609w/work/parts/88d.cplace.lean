set_option maxRecDepth 100000
/-! THE COMPONENT FINDS A TREE's PLACE. -/
section
variable {N : Nat} {V : EV} {h : Nat} {σ : cs_S}
theorem lcm1 {n : Nat} (hn : n < 2 ^ 62) : ¬ lg_cmp (lN n) (-1) = 0 := fun q => by
  have := (lg_cmp_eq _ _).mp q
  rw [lN_m1 hn] at this
  exact this
theorem cs_plc2 {f n kk v a b w : Nat} {x y : Tr} (hN : 1000 ≤ N) (hE : cE σ V h) (hT : cT σ V h (h + 1)) (hwf : tr_wf (.inner n kk v x y)) (hab : a < b) (hb : b ≤ h)
    (hX : tr_lf x = false → ∀ a b, a < b → b ≤ h → ∃ q, cs_call N (f + 1) 41 [.inl (.ref 0), .inr (x), .inl (.int (nI a)), .inl (.int (nI b))] (σ) = some (.inl (some (.inl (.long (q)))), σ) ∧ plA V x a b q)
    (hY : tr_lf y = false → ∀ a b, a < b → b ≤ h → ∃ q, cs_call N (f + 1) 41 [.inl (.ref 0), .inr (y), .inl (.int (nI a)), .inl (.int (nI b))] (σ) = some (.inl (some (.inl (.long (q)))), σ) ∧ plA V y a b q)
    (c1 : kk = 1 → isNum V.1 a b = true) (c2 : 2 ≤ kk ∧ kk ≤ 6 → 1 ≤ w ∧ w + 2 ≤ b - a) (c7 : kk = 7 → a + 1 < b) (c8 : kk = 8 ∨ kk = 9 → a + 2 < b) :
    ∃ q, cs_call N (f + 2) 42 [.inl (.ref 0), .inr (.inner n kk v x y), .inl (.int (nI a)), .inl (.int (nI b)), .inl (.int (nI w))] (σ) = some (.inl (some (.inl (.long (q)))), σ) ∧ ((∃ o, Rw V (.inner n kk v x y) a b w o ∧ q = lN o) ∨ ((∀ o, ¬ Rw V (.inner n kk v x y) a b w o) ∧ q = -1)) := by
  have h20 := hE.1
  have hwv := tr_wf_v hwf
  have hnd : tr_nd (.inner n kk v x y) = true := Nat.ble_eq_true_of_le hwv.1
  obtain ⟨hva, hea⟩ := hE.2.2.1 a (by omega)
  have hne : ∀ {c : Nat}, kk ≠ c → c < 100 → ¬ nI kk = nI c := fun {c} q hc z => q ((nI_eq (by omega) (by omega)).mp z)
  have hvx := cs_vxi (N := N) (f := f) hwf
  have hvy := cs_vyi (N := N) (f := f) hwf
  have hvv := cs_vvi (N := N) (f := f) hwf
  obtain ⟨hwx, hwy, h3⟩ := id hwf
  rw [dX1_placeOf_2_eq]
  unfold dX1_placeOf_2
  simp only [hnd, cond_true, tr_ki]
  by_cases k0 : kk = 0
  · subst k0
    rw [if_pos rfl, hvv, am_ci_ok, am_ix_nI (by omega) (by omega), hea, tr_vI_0]
    by_cases e : v = V.1 a
    · rw [if_pos (by rw [e])]
      exact ⟨_, rfl, .inl ⟨0, .inl ⟨rfl, e, rfl⟩, rfl⟩⟩
    · rw [if_neg (fun q => e ((nI_eq (by omega) (by omega)).mp q))]
      refine ⟨_, rfl, .inr ⟨?_, rfl⟩⟩
      rintro o (⟨-, q, -⟩ | ⟨q, -⟩ | ⟨q, -⟩ | ⟨q, -⟩ | ⟨q, -⟩ | ⟨q, -⟩)
      · exact e q
      all_goals omega
  · rw [if_neg (hne k0 (by omega))]
    by_cases k1 : kk = 1
    · subst k1
      have hnum := c1 rfl
      have hdg := num_dg hnum
      rw [if_pos rfl, hvv, am_ci_ok, cs_numberOf hE (by omega) hb (by omega), am_ci_ok, if_pos (Or.inl hnum : isNum V.1 a b = true ∨ a = b), tr_vI_1]
      by_cases e : v = numV V.1 a (b - a) 0
      · rw [if_pos (by rw [e])]
        exact ⟨_, rfl, .inl ⟨0, .inr (.inl ⟨rfl, e, rfl⟩), rfl⟩⟩
      · rw [if_neg (fun q => e ((nI_eq (by omega) (by omega)).mp q))]
        refine ⟨_, rfl, .inr ⟨?_, rfl⟩⟩
        rintro o (⟨q, -⟩ | ⟨-, q, -⟩ | ⟨q, -⟩ | ⟨q, -⟩ | ⟨q, -⟩ | ⟨q, -⟩)
        · omega
        · exact e q
        all_goals omega
    · rw [if_neg (hne k1 (by omega))]
      by_cases k26 : 2 ≤ kk ∧ kk ≤ 6
      · obtain ⟨w1, w2⟩ := c2 k26
        have hxl : tr_lf x = false ∧ tr_lf y = false := by
          rcases h3 with ⟨q, -⟩ | ⟨q, -⟩ | ⟨-, -, -, p, q⟩ | ⟨q, -⟩ | ⟨q, -⟩
          · omega
          · omega
          · exact ⟨p, q⟩
          · omega
          · omega
        obtain ⟨q1, e1, p1⟩ := hX hxl.1 a (a + w) (by omega) (by omega)
        obtain ⟨q2, e2, p2⟩ := hY hxl.2 (a + w + 1) b (by omega) hb
        have hcl := hT (a + w + 1) b (by omega) hb (by omega)
        have hlb := ct_lt V (i := a + w + 1) (j := b) (by omega)
        have hla := ct_lt V (i := a) (j := a + w) (by omega)
        suffices hs : ∃ q, (am_ct (cs_call N (f + 1) (cs_sel [68, 68, 80, 80, 80, 80, 80, 83, 83, 83] kk) [.inr (.inner n kk v x y)] (σ)) am_tx fun r131 s130 => am_cl (cs_call N (f + 1) 41 [.inl (.ref 0), .inr (r131), .inl (.int (nI a)), .inl (.int (nI a + nI w))] (s130)) am_tx fun r133 s132 => if (lg_cmp r133 (-1)) = 0 then jX1_placeOf_2_207_192 (am_bk (cs_hop 1 (cs_call N (f + 1))) am_no (some .long) kX1_placeOf_2 N) (cs_call N (f + 1)) s132 (.inner n kk v x y) (nI a) (nI b) (nI w) r133 (-1) else am_ct (cs_call N (f + 1) (cs_sel [69, 69, 81, 81, 81, 81, 81, 69, 69, 69] kk) [.inr (.inner n kk v x y)] (s132)) am_tx fun r135 s134 => am_cl (cs_call N (f + 1) 41 [.inl (.ref 0), .inr (r135), .inl (.int (nI a + nI w + ic 1)), .inl (.int (nI b))] (s134)) am_tx fun r137 s136 => jX1_placeOf_2_207 (am_bk (cs_hop 1 (cs_call N (f + 1))) am_no (some .long) kX1_placeOf_2 N) (cs_call N (f + 1)) s136 (.inner n kk v x y) (nI a) (nI b) (nI w) r133 r137) = some (.inl (some (.inl (.long (q)))), σ) ∧ ((∃ o, Rw V (.inner n kk v x y) a b w o ∧ q = lN o) ∨ ((∀ o, ¬ Rw V (.inner n kk v x y) a b w o) ∧ q = -1)) by
          obtain rfl | rfl | rfl | rfl | rfl : kk = 2 ∨ kk = 3 ∨ kk = 4 ∨ kk = 5 ∨ kk = 6 := by omega
          · rw [if_pos rfl]; exact hs
          · rw [if_neg (by decide), if_pos rfl]; exact hs
          · rw [if_neg (by decide), if_neg (by decide), if_pos rfl]; exact hs
          · rw [if_neg (by decide), if_neg (by decide), if_neg (by decide), if_pos rfl]; exact hs
          · rw [if_neg (by decide), if_neg (by decide), if_neg (by decide), if_neg (by decide), if_pos rfl]; exact hs
        have hnot : (∀ kx, ¬ Rd V x a (a + w) kx) ∨ (∀ ky, ¬ Rd V y (a + w + 1) b ky) → ∀ o, ¬ Rw V (.inner n kk v x y) a b w o := by
          rintro hq o (⟨q, -⟩ | ⟨q, -⟩ | ⟨-, -, kx, ky, rx, ry, -⟩ | ⟨q, -⟩ | ⟨q, -⟩ | ⟨q, -⟩)
          · omega
          · omega
          · rcases hq with hq | hq
            · exact hq kx rx
            · exact hq ky ry
          all_goals omega
        rw [hvx, am_ct_ok, nI_add, e1, am_cl_ok]
        rcases p1 with ⟨kx, rx, rfl⟩ | ⟨nx, rfl⟩
        · have hkx := (Rd_lt rx).2
          rw [if_neg (lcm1 (by omega)), hvy, am_ct_ok, ic_lit, nI_add, e2, am_cl_ok, jX1_placeOf_2_207_eq]
          rcases p2 with ⟨ky, ry, rfl⟩ | ⟨ny, rfl⟩
          · have hky := (Rd_lt ry).2
            rw [if_neg (lcm1 (by omega)), ic_lit, nI_add, nI_add, am_ix_nI (by omega) (by omega), am_ix_nI (by omega) (by omega), hcl, lN_mul, lN_add]
            exact ⟨_, rfl, .inl ⟨_, .inr (.inr (.inl ⟨k26.1, k26.2, kx, ky, rx, ry, rfl⟩)), rfl⟩⟩
          · rw [if_pos (by decide)]
            exact ⟨_, rfl, .inr ⟨hnot (.inr ny), rfl⟩⟩
        · rw [if_pos (by decide), jX1_placeOf_2_207_192_eq, jX1_placeOf_2_207_eq, if_pos (by decide)]
          exact ⟨_, rfl, .inr ⟨hnot (.inl nx), rfl⟩⟩
      · rw [if_neg (hne (by omega) (by omega)), if_neg (hne (by omega) (by omega)), if_neg (hne (by omega) (by omega)), if_neg (hne (by omega) (by omega)), if_neg (hne (by omega) (by omega))]
        have hxl : tr_lf x = false := by
          rcases h3 with ⟨q, -⟩ | ⟨q, -⟩ | ⟨-, -, -, p, q⟩ | ⟨-, -, p, -⟩ | ⟨-, -, p, -⟩
          · omega
          · omega
          · exact p
          · exact p
          · exact p
        by_cases k7 : kk = 7
        · subst k7
          obtain ⟨q1, e1, p1⟩ := hX hxl (a + 1) b (c7 rfl) hb
          rw [if_pos rfl, hvx, am_ct_ok, ic_lit, nI_add, e1, am_cl_ok]
          refine ⟨q1, rfl, ?_⟩
          rcases p1 with ⟨kx, rx, rfl⟩ | ⟨nx, rfl⟩
          · exact .inl ⟨kx, .inr (.inr (.inr (.inl ⟨rfl, rx⟩))), rfl⟩
          · refine .inr ⟨?_, rfl⟩
            rintro o (⟨q, -⟩ | ⟨q, -⟩ | ⟨-, q, -⟩ | ⟨-, q⟩ | ⟨q, -⟩ | ⟨q, -⟩)
            · omega
            · omega
            · omega
            · exact nx o q
            · omega
            · omega
        · rw [if_neg (hne k7 (by omega))]
          by_cases k8 : kk = 8
          · subst k8
            have := c8 (.inl rfl)
            obtain ⟨q1, e1, p1⟩ := hX hxl (a + 1) (b - 1) (by omega) (by omega)
            rw [if_pos rfl, hvx, am_ct_ok, ic_lit, nI_add, nI_subI (by omega), e1, am_cl_ok]
            refine ⟨q1, rfl, ?_⟩
            rcases p1 with ⟨kx, rx, rfl⟩ | ⟨nx, rfl⟩
            · exact .inl ⟨kx, .inr (.inr (.inr (.inr (.inl ⟨rfl, rx⟩)))), rfl⟩
            · refine .inr ⟨?_, rfl⟩
              rintro o (⟨q, -⟩ | ⟨q, -⟩ | ⟨-, q, -⟩ | ⟨q, -⟩ | ⟨-, q⟩ | ⟨q, -⟩)
              · omega
              · omega
              · omega
              · omega
              · exact nx o q
              · omega
          · obtain rfl : kk = 9 := by omega
            have := c8 (.inr rfl)
            obtain ⟨q1, e1, p1⟩ := hX hxl (a + 2) b (by omega) hb
            rw [if_neg (by decide), if_pos rfl, hvv, am_ci_ok, am_ix_nI (by omega) (by omega), hea, tr_vI_9]
            by_cases e : v = V.1 a
            · rw [if_pos (by rw [e]), hvx, am_ct_ok, ic_lit, nI_add, e1, am_cl_ok]
              refine ⟨q1, rfl, ?_⟩
              rcases p1 with ⟨kx, rx, rfl⟩ | ⟨nx, rfl⟩
              · exact .inl ⟨kx, .inr (.inr (.inr (.inr (.inr ⟨rfl, e, rx⟩)))), rfl⟩
              · refine .inr ⟨?_, rfl⟩
                rintro o (⟨q, -⟩ | ⟨q, -⟩ | ⟨-, q, -⟩ | ⟨q, -⟩ | ⟨q, -⟩ | ⟨-, -, q⟩)
                · omega
                · omega
                · omega
                · omega
                · omega
                · exact nx o q
            · rw [if_neg (fun q => e ((nI_eq (by omega) (by omega)).mp q))]
              refine ⟨_, rfl, .inr ⟨?_, rfl⟩⟩
              rintro o (⟨q, -⟩ | ⟨q, -⟩ | ⟨-, q, -⟩ | ⟨q, -⟩ | ⟨q, -⟩ | ⟨-, q, -⟩)
              · omega
              · omega
              · omega
              · omega
              · omega
              · exact e q
end
