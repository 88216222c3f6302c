set_option maxRecDepth 100000
section
variable {SM : List Tr} {FR : Nat → Int32} {N f : Nat}
theorem lN_lt63 {a b : Nat} (ha : a < 2 ^ 63) (hb : b < 2 ^ 63) : (lN a < lN b) ↔ a < b := by
  rw [Int64.lt_iff_toInt_lt]
  have z1 : (lN a).toInt = a := Int64.toInt_ofNat_of_lt ha
  have z2 : (lN b).toInt = b := Int64.toInt_ofNat_of_lt hb
  omega
theorem lN_eq63 {a b : Nat} (ha : a < 2 ^ 63) (hb : b < 2 ^ 63) : (lN a = lN b) ↔ a = b := by
  constructor
  · intro q
    have z1 : (lN a).toInt = a := Int64.toInt_ofNat_of_lt ha
    have z2 : (lN b).toInt = b := Int64.toInt_ofNat_of_lt hb
    rw [q] at z1
    omega
  · rintro rfl
    rfl
theorem lg_lt63 {a b : Nat} (ha : a < 2 ^ 63) (hb : b < 2 ^ 63) : lg_cmp (lN a) (lN b) < 0 ↔ a < b := by
  rw [lc_lt]
  exact lN_lt63 ha hb
theorem lg_ge63 {a b : Nat} (ha : a < 2 ^ 63) (hb : b < 2 ^ 63) : 0 ≤ lg_cmp (lN a) (lN b) ↔ b ≤ a := by
  rw [← i32_nlt, lg_lt63 ha hb]
  omega
theorem lg_eq63 {a b : Nat} (ha : a < 2 ^ 63) (hb : b < 2 ^ 63) : lg_cmp (lN a) (lN b) = 0 ↔ a = b := by
  rw [lc_eq]
  exact lN_eq63 ha hb
theorem op_doubt (hf : 150 ≤ f) (hN : 20000 ≤ N) (a : Int32) (x y : Int64) : opI SM FR N f 43 55 [.inl (.ref 0), .inl (.int (a)), .inl (.long (x)), .inl (.long (y))] := by
  intro c σ μ hR hc
  obtain ⟨f, rfl⟩ : ∃ f', f = f' + 100 := ⟨f - 100, by omega⟩
  rw [dX1_doubt_eq, dX6_doubt_eq]
  unfold dX1_doubt dX6_doubt
  rw [cs_isEar, am_ci_ok, mm_inR 0 8 a μ (by decide) (by decide), am_ci_ok]
  cases h1 : inR 0 8 a with
  | false =>
    rw [if_pos b2f0, if_pos b2f0]
    exact ⟨_, _, _, rfl, rfl, hR.up⟩
  | true =>
    obtain ⟨st, -, hst, rfl⟩ := inR_t (by omega) (by omega) h1
    rw [if_neg b2t0, if_neg b2t0]
    by_cases hx : lg_cmp x (lN 0) < 0
    · rw [if_pos hx, if_pos hx]
      exact ⟨_, _, _, rfl, rfl, hR.up⟩
    · rw [if_neg hx, if_neg hx]
      by_cases hy : lg_cmp y (lN 0) < 0
      · have hy' : ¬ 0 ≤ lg_cmp y (lN 0) := fun q => by
          rw [Int32.lt_iff_toInt_lt] at hy
          rw [Int32.le_iff_toInt_le] at q
          omega
        rw [if_neg hy', if_neg hy']
        exact ⟨_, _, _, rfl, rfl, hR.up⟩
      · have hy' : 0 ≤ lg_cmp y (lN 0) := (i32_nlt _ _).mp hy
        obtain ⟨k, hk, rfl⟩ := lg_nn hx
        obtain ⟨k', hk', rfl⟩ := lg_nn hy
        obtain ⟨V, h, σ1, μ1, q1, q2, cE1, cT1, mE1, mT1, hR1, h28, h20, ht, -⟩ := hR.count (N := N) (f := f + 93) hst hN
        have hct := ct_lt V (i := 0) (j := h) (by omega)
        have hmax : (if lN k' < lN k then lN k else lN k') = lN (max k k') := by
          by_cases q : k' < k
          · rw [if_pos ((lN_lt63 hk' hk).mpr q), Nat.max_eq_left (by omega)]
          · rw [if_neg (fun q' => q ((lN_lt63 hk' hk).mp q')), Nat.max_eq_right (by omega)]
        obtain ⟨μ2, p1, p2, p3, p4⟩ := mm_again (N := N) (f := f + 94) mE1 h28 hN
        have hR2 : Rel SM FR c σ1 μ2 := hR1.fr0 (cs_same.rf σ1) p2.same
        rw [if_pos hy', if_pos hy', q1, am_cl_ok, hmax]
        by_cases hlt : max k k' < ct V 0 h
        · rw [if_pos ((lg_lt63 (by omega) (by omega)).mpr hlt)]
          by_cases hkk : k = k'
          · rw [if_pos ((lg_eq63 hk hk').mpr hkk), if_pos ((lg_eq63 hk hk').mpr hkk), q2, am_cl_ok, if_neg (fun q => by rw [lg_ge63 (by omega) (by omega)] at q; omega)]
            exact ⟨_, _, _, rfl, rfl, hR1.up⟩
          · have h0 : 0 < h := by
              rcases Nat.eq_zero_or_pos h with q | q
              · rw [q, ct_nil V (Nat.le_refl _)] at hlt
                omega
              · exact q
            obtain ⟨F, K, e, h', nd, fn, kp, er, wk, sm, ⟨c1, c2, c3⟩⟩ := id hR1
            obtain ⟨t, σ2, e1, e2, e3, -, -, e6⟩ := cs_rd (N := N) (f := f + 39) (by omega) cE1 cT1 (show k < ct V 0 h by omega) h0 nd.1
            have hl2 : cs_t σ2 100 = cs_t σ1 100 := (e6.2.2.2.1 100 (by omega)).1
            obtain ⟨t', σ3, g1, g2, g3, -, -, g6⟩ := cs_rd (N := N) (f := f + 39) (by omega) (e6.E cE1) (e6.T cT1) (show k' < ct V 0 h by omega) h0 (by rw [hl2]; exact nd.1)
            have hy2 : (cs_y σ2).length = (cs_y σ1).length + 1 := by rw [e6.2.2.2.2.2.1]; simp
            -- the model's two readings
            have mE2' : mE (mm_p μ2 29 (nI 0)) V h := by
              obtain ⟨z1, z2, z3, z4, st', z5, z6, z7⟩ := p3
              exact ⟨z1, z2, z3, z4, st', z5, z6, z7⟩
            obtain ⟨u, μ3, m1, m2, m3, m4, m5, m6⟩ := mm_takes (N := N) (by omega) h 0 h k 0 (mm_p μ2 29 (nI 0)) (f + 99) (by omega) mE2' h0 (Nat.le_refl _) p4 (show k < ct V 0 h by omega) rfl (by omega) (by omega)
            have hszu := Rd_sz m2
            have mT3 : mT μ3 V h (h + 1) := by
              unfold mT at *
              rw [m6.2.2.2]
              exact p4
            rw [Nat.zero_add] at m5
            obtain ⟨u', μ4, n1, n2, n3, n4, n5, n6⟩ := mm_takes (N := N) (by omega) h 0 h k' (tr_sz u) μ3 (f + 99) (by omega) (m6.E mE2') h0 (Nat.le_refl _) mT3 (show k' < ct V 0 h by omega) m5 (by omega) (by omega)
            have hszu' := Rd_sz n2
            have lk := Rd_like e2 m2
            have lk' := Rd_like g2 n2
            have hs1 := Rd_sz e2
            have hs2 := Rd_sz g2
            have tl : tr_lf t = false := by
              cases t with
              | leaf => exact e2.elim
              | inner _ _ _ _ _ => rfl
            have tl' : tr_lf t' = false := by
              cases t' with
              | leaf => exact g2.elim
              | inner _ _ _ _ _ => rfl
            have hno : tr_like t t' = false := by
              cases q : tr_like t t' with
              | false => rfl
              | true => exact absurd (Rd_inj e2 g2 q).2 hkk
            have mr1 : mr μ4 400 450 t (nI (400 + 0 + tr_sz u - 1)) := by
              have a1 : mr μ4 (400 + 0) (400 + 0 + tr_sz u) u (nI (400 + 0 + tr_sz u - 1)) := mr_of (fun c _ _ j z1 z2 => n6.2.2.1 c j (by omega)) u _ m4
              have a2 : mr μ4 (400 + 0) (400 + 0 + tr_sz u) t (nI (400 + 0 + tr_sz u - 1)) := mr_like lk a1
              exact mr_up (by omega) (by omega) t _ a2
            have mr2 : mr μ4 400 450 t' (nI (400 + tr_sz u + tr_sz u' - 1)) := by
              have a2 : mr μ4 (400 + tr_sz u) (400 + tr_sz u + tr_sz u') t' (nI (400 + tr_sz u + tr_sz u' - 1)) := mr_like lk' n4
              exact mr_up (by omega) (by omega) t' _ a2
            have hdp := tr_sz_dp t
            obtain ⟨r, r1, r2⟩ := db_loop (σ := σ3) (μ := μ4) (N := N) (f := f + 98) (nI st) (lN k) (lN k') t t' _ _ (ic 0) (ic 1) N none none e3 g3 tl tl' hno mr1 mr2 (by omega) (by omega) (by omega) (by omega)
            have h9 : cs_i σ1 9 = nI h := cE1.2.1
            have h9' : cs_i σ2 9 = nI h := (e6.E cE1).2.1
            have h10 : (mm_p μ2 29 (nI 0)).1 10 = nI h := mE2'.2.1
            have h10' : μ3.1 10 = nI h := (m6.E mE2').2.1
            have hsame : mm_same μ1 μ4 := ((p2.same.tr (mm_p29 μ2 (nI 0))).tr m6.same).tr n6.same
            rw [if_neg (fun q => hkk ((lg_eq63 hk hk').mp q)), if_neg (fun q => hkk ((lg_eq63 hk hk').mp q)), show Nat.ble (cs_y σ1).length 500 = true from Nat.ble_eq_true_of_le (by omega), cond_true, cs_newl, am_cv_ok, h9, show ic 0 = nI 0 from rfl, e1, am_ct_ok, show Nat.ble (cs_y σ2).length 500 = true from Nat.ble_eq_true_of_le (by omega), cond_true, cs_newl, am_cv_ok, h9', g1, am_ct_ok]
            rw [jX6_doubt_47_34_eq, jX6_doubt_47_eq, q2, am_cl_ok, if_neg (fun q => by rw [lg_ge63 (by omega) (by omega)] at q; omega), p1, am_cl_ok, if_pos ((lg_lt63 (by omega) (by omega)).mpr (by omega)), show ic 0 = nI 0 from rfl, h10, m1, am_ci_ok, h10', n1, am_ci_ok]
            refine ⟨r, σ3, μ4, r1, r2, ?_⟩
            obtain ⟨x1, x2, x3, x4, x5, y1, y2, y3⟩ := e6
            obtain ⟨x1', x2', x3', x4', x5', y1', y2', y3'⟩ := g6
            exact hR1.gr (x1'.trans x1) (x2'.trans x2) (fun c hc => ⟨(x4' c (by omega)).1.trans (x4 c (by omega)).1, (x4' c (by omega)).2.trans (x4 c (by omega)).2⟩) (x5'.trans x5) ⟨by rw [y1', List.length_append]; simp; omega, by omega, by omega⟩ hsame
        · rw [if_neg (fun q => hlt ((lg_lt63 (by omega) (by omega)).mp q))]
          by_cases hkk : k = k'
          · rw [if_pos ((lg_eq63 hk hk').mpr hkk), q2, am_cl_ok, if_pos ((lg_ge63 (by omega) (by omega)).mpr (by omega)), jX6_doubt_47_44_eq, jX6_doubt_47_eq, p1, am_cl_ok, if_pos ((lg_ge63 (by omega) (by omega)).mpr (by omega))]
            exact ⟨_, _, _, rfl, rfl, hR2.up⟩
          · rw [if_neg (fun q => hkk ((lg_eq63 hk hk').mp q)), jX6_doubt_47_34_eq, jX6_doubt_47_eq, q2, am_cl_ok]
            by_cases hk1 : ct V 0 h ≤ k
            · rw [if_pos ((lg_ge63 (by omega) (by omega)).mpr hk1)]
              exact ⟨_, _, _, rfl, rfl, hR1.up⟩
            · rw [if_neg (fun q => hk1 ((lg_ge63 (by omega) (by omega)).mp q)), p1, am_cl_ok, if_neg (fun q => by rw [lg_lt63 (by omega) (by omega)] at q; omega)]
              exact ⟨_, _, _, rfl, rfl, hR2.up⟩
end
