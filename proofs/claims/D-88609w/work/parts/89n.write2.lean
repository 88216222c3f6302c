set_option maxRecDepth 100000
/-! THE OPERATIONS: a reading on both sides; write. -/
section
variable {SM : List Tr} {FR : Nat → Int32} {N f : Nat}
/-- a new list -/
def cs_nl (σ : cs_S) : cs_S := cs_pt (cs_py (cs_mk (cs_py σ (cs_y σ ++ [0])) 1 3) ((cs_y σ ++ [0]).set (cs_y σ).length 1)) (400 + (cs_y σ).length) [] (0, 0)
theorem cs_newl {f : Nat} (σ : cs_S) : cs_call N (f + 10) 204 [.inr (.inner (cs_y σ).length 52 0 .leaf .leaf)] (cs_mk (cs_py σ (cs_y σ ++ [0])) 1 3) = some (.inl none, cs_nl σ) := by
  show cs_prim (f + 9) 204 [.inr (.inner (cs_y σ).length 52 0 .leaf .leaf)] _ = _
  unfold cs_prim
  have : (cs_y (cs_mk (cs_py σ (cs_y σ ++ [0])) 1 3))[(cs_y σ).length]? = some 0 := by
    show (cs_y σ ++ [0])[(cs_y σ).length]? = some 0
    simp
  simp only [show Nat.ble 9 (f + 9) = true from Nat.ble_eq_true_of_le (by omega), cond_true, this]
  rfl
theorem cs_nl_y (σ : cs_S) : cs_y (cs_nl σ) = cs_y σ ++ [1] := by
  show (cs_y σ ++ [0]).set (cs_y σ).length 1 = _
  simp
/-- a list and a reading more -/
def cs_kn (σ σ' : cs_S) : Prop := σ'.1 = σ.1 ∧ σ'.2.1 = σ.2.1 ∧ σ'.2.2.1 = σ.2.2.1 ∧ (∀ c, c ≠ 400 + (cs_y σ).length → cs_t σ' c = cs_t σ c ∧ cs_c σ' c = cs_c σ c) ∧ cs_p σ' = cs_p σ ∧ cs_y σ' = cs_y σ ++ [1] ∧ cs_n1 σ' ≤ cs_n1 σ + 41 ∧ cs_n2 σ' ≤ cs_n2 σ + 1203
theorem cs_rd {V : EV} {h k : Nat} {σ : cs_S} (hN : 1000 ≤ N) (hE : cE σ V h) (hT : cT σ V h (h + 1)) (hk : k < ct V 0 h) (h0 : 0 < h) (h1 : (cs_t σ 100).length ≤ 120) :
    ∃ t σ', cs_call N (f + 60) 38 [.inl (.ref 0), .inl (.int (nI 0)), .inl (.int (nI h)), .inl (.long (lN k)), .inr (.inner (cs_y σ).length 52 0 .leaf .leaf)] (cs_nl σ) = some (.inl (some (.inr (t))), σ') ∧ Rd V t 0 h k ∧ tr_wf t ∧ tr_num t (cs_t σ 100).length ∧ cs_t σ' (400 + (cs_y σ).length) = tr_post t ∧ cs_kn σ σ' := by
  have h20 := hE.1
  have t0 : cs_t (cs_nl σ) (400 + (cs_y σ).length) = [] := va_up_self (cs_t σ) _ _
  have c0 : cs_c (cs_nl σ) (400 + (cs_y σ).length) = (0, 0) := va_up_self (cs_c σ) _ _
  have tn : ∀ c, c ≠ 400 + (cs_y σ).length → cs_t (cs_nl σ) c = cs_t σ c ∧ cs_c (cs_nl σ) c = cs_c σ c := fun c hc => ⟨va_up_ne (cs_t σ) _ hc, va_up_ne (cs_c σ) _ hc⟩
  obtain ⟨t, σ', e1, e2, e3, e4, e5, e6, e7⟩ := cs_reading (N := N) hN (cs_y σ).length h 0 h k (cs_nl σ) (f + 60) (by omega) hE h0 (Nat.le_refl _) hT hk (by rw [cs_nl_y]; simp) (by rw [(tn 100 (by omega)).1]; exact h1) (by rw [t0]; simp; omega) (by rw [c0]; omega) (by omega)
  have hsz := Rd_sz e2
  rw [t0, (tn 100 (by omega)).1] at e4
  rw [t0, List.nil_append] at e5
  obtain ⟨g1, g2, g3, g4, g5, g6, g7, g8⟩ := e6
  refine ⟨t, σ', e1, e2, e3, e4, e5, g1, g2, g3, fun c hc => ⟨(g4 c hc).1.trans (tn c hc).1, (g4 c hc).2.trans (tn c hc).2⟩, g5, g6.trans (cs_nl_y σ), ?_, ?_⟩
  · have : cs_n1 (cs_nl σ) = cs_n1 σ + 1 := rfl
    omega
  · have : cs_n2 (cs_nl σ) = cs_n2 σ + 3 := rfl
    omega
theorem cs_kn.E {V : EV} {h : Nat} {σ σ' : cs_S} (hk : cs_kn σ σ') (hE : cE σ V h) : cE σ' V h := by
  unfold cE cs_i cs_a at *
  rw [hk.1, hk.2.1]
  exact hE
theorem cs_kn.T {V : EV} {h W : Nat} {σ σ' : cs_S} (hk : cs_kn σ σ') (hT : cT σ V h W) : cT σ' V h W := by
  unfold cT cs_l at *
  rw [hk.2.2.1]
  exact hT
/-- more was made: the rest is as it was -/
theorem Rel.gr {c c' : Nat} {σ σ' : cs_S} {μ μ' : mm_S} (hR : Rel SM FR c σ μ) (h1 : σ'.1 = σ.1) (h2 : σ'.2.1 = σ.2.1) (h3 : ∀ c, c < 400 → cs_t σ' c = cs_t σ c ∧ cs_c σ' c = cs_c σ c) (h4 : cs_p σ' = cs_p σ) (hct : cm_ct c' σ') (hμ : mm_same μ μ') : Rel SM FR c' σ' μ' := by
  obtain ⟨F, K, e, h, nd, fn, kp, er, wk, sm, -⟩ := hR
  refine ⟨F, K, e, h, nd.fr' (h3 100 (by omega)).1 (h3 100 (by omega)).2 hμ.1.1 hμ.2.2, fn.fr (by rw [h1]) (hμ.2.1.1 7 (.inl rfl)), kp.fr (by rw [h2]) hμ.2.1.2.1, er.fr (by rw [h1]) (by rw [h2]) hμ.1.2.1 hμ.2.1.2.2.1, wk.fr' nd.1 (h3 100 (by omega)).1 h4 (by rw [h1]) (by rw [h2]) hμ.1.2.2.1 hμ.1.2.2.2 hμ.2.1.2.2.2.1 hμ.2.1.2.2.2.2 hμ.2.2, ?_, hct⟩
  exact sm.mk' (fun c hc => hμ.2.1.1 c (.inr hc)) (h3 106 (by omega)).1 (h3 106 (by omega)).2 (by rw [h2])
theorem mm_kt.same {md : Nat} {μ μ' : mm_S} (h : mm_kt md μ μ') : mm_same μ μ' :=
  ⟨⟨h.1 0 (by omega), h.1 10 (by omega), h.1 30 (by omega), h.1 33 (by omega)⟩, ⟨fun c hc => h.2.1 c (by omega), h.2.1 8 (by omega), h.2.1 9 (by omega), h.2.1 31 (by omega), h.2.1 32 (by omega)⟩, fun c _ _ j hj => h.2.2.1 c j (by omega)⟩
theorem mm_p29 (μ : mm_S) (v : Int32) : mm_same μ (mm_p μ 29 v) := ⟨⟨rfl, rfl, rfl, rfl⟩, ⟨fun _ _ => rfl, rfl, rfl, rfl, rfl⟩, fun _ _ _ _ _ => rfl⟩
theorem lg_nn {x : Int64} (h : ¬ lg_cmp x (lN 0) < 0) : ∃ n, n < 2 ^ 63 ∧ x = lN n := by
  rw [lc_lt, i64_nlt, lN_00] at h
  rw [Int64.le_iff_toInt_le] at h
  have h2 := Int64.toInt_lt x
  have h0 : (0 : Int64).toInt = 0 := by decide
  refine ⟨x.toInt.toNat, by omega, ?_⟩
  apply Int64.toInt_inj.mp
  show _ = (Int64.ofNat _).toInt
  rw [Int64.toInt_ofNat_of_lt (by omega)]
  omega
theorem op_write (hf : 150 ≤ f) (hN : 20000 ≤ N) (a : Int32) (x : Int64) : opI SM FR N f 28 46 [.inl (.ref 0), .inl (.int (a)), .inl (.long (x))] := by
  intro c σ μ hR hc
  obtain ⟨f, rfl⟩ : ∃ f', f = f' + 100 := ⟨f - 100, by omega⟩
  rw [dX1_write_eq, dX6_write_eq]
  unfold dX1_write dX6_write
  rw [cs_isEar, am_ci_ok, mm_inR 0 8 a μ (by decide) (by decide), am_ci_ok]
  cases h1 : inR 0 8 a with
  | false =>
    rw [if_pos b2f0, if_pos b2f0]
    exact ⟨_, _, _, rfl, rfl, hR.up⟩
  | true =>
    obtain ⟨st, -, hst, rfl⟩ := inR_t (by omega) (by omega) h1
    rw [if_neg b2t0, if_neg b2t0]
    by_cases hx : lg_cmp x (lN 0) < 0
    · have hx' : ¬ 0 ≤ lg_cmp x (lN 0) := fun q => by
        rw [Int32.lt_iff_toInt_lt] at hx
        rw [Int32.le_iff_toInt_le] at q
        omega
      rw [if_neg hx', if_neg hx']
      exact ⟨_, _, _, rfl, rfl, hR.up⟩
    · have hx' : 0 ≤ lg_cmp x (lN 0) := (i32_nlt _ _).mp hx
      obtain ⟨k, hk63, rfl⟩ := lg_nn hx
      obtain ⟨V, h, σ1, μ1, q1, q2, cE1, cT1, mE1, mT1, hR1, -, h20, ht, -⟩ := hR.count (N := N) (f := f + 93) hst hN
      have hct := ct_lt V (i := 0) (j := h) (by omega)
      rw [if_pos hx', if_pos hx', q1, am_cl_ok, q2, am_cl_ok]
      by_cases hk : k < ct V 0 h
      · have hlt : lg_cmp (lN k) (lN (ct V 0 h)) < 0 := by
          rw [lc_lt, lN_lt' (by omega) (by omega)]
          exact hk
        have h0 : 0 < h := by
          rcases Nat.eq_zero_or_pos h with q | q
          · rw [q, ct_nil V (Nat.le_refl _)] at hk
            omega
          · exact q
        obtain ⟨F, K, e, h', nd, fn, kp, er, wk, sm, ⟨c1, c2, c3⟩⟩ := id hR1
        obtain ⟨t, σ2, e1, e2, e3, e4, e5, e6⟩ := cs_rd (N := N) (f := f + 39) (by omega) cE1 cT1 hk h0 nd.1
        have mE1' : mE (mm_p μ1 29 (nI 0)) V h := by
          obtain ⟨z1, z2, z3, z4, st', z5, z6, z7⟩ := mE1
          exact ⟨z1, z2, z3, z4, st', z5, z6, z7⟩
        obtain ⟨t', μ2, p1, p2, p3, p4, p5, p6⟩ := mm_takes (N := N) (by omega) h 0 h k 0 (mm_p μ1 29 (nI 0)) (f + 99) (by omega) mE1' h0 (Nat.le_refl _) mT1 hk rfl (by omega) (by omega)
        have hlk := Rd_like e2 p2
        have hsz := Rd_sz e2
        have hszz := tr_like_sz _ _ hlk
        have htl : tr_lf t = false := by
          cases t with
          | leaf => exact e2.elim
          | inner _ _ _ _ _ => rfl
        have hsm : mm_same μ1 μ2 := (mm_p29 μ1 (nI 0)).tr p6.same
        have hl100 : cs_t σ2 100 = cs_t σ1 100 := (e6.2.2.2.1 100 (by omega)).1
        have hlen : (tr_post t).length = tr_sz t := tr_post_len t
        have hlid : ∀ k, cs_lid σ2 (.inr (.inner (cs_y σ1).length 52 0 .leaf .leaf)) k = k (400 + (cs_y σ1).length) := fun k => by
          unfold cs_lid
          simp only [show (cs_y σ2)[(cs_y σ1).length]? = some 1 by rw [e6.2.2.2.2.2.1]; simp]
        have hμ0 : μ2.1 0 = nI (cs_t σ1 100).length := hsm.1.1.trans nd.2.2.1
        rw [if_pos hlt, if_pos hlt, show Nat.ble (cs_y σ1).length 500 = true from Nat.ble_eq_true_of_le (by omega), cond_true, cs_newl, am_cv_ok, ic_v0, show cs_i (cs_nl σ1) 9 = nI h from cE1.2.1, e1, am_ct_ok, cs_c200 rfl, am_ci_ok, cs_p200 hlid, am_ci_ok, hl100, e5, hlen, nI_add, show (mm_p μ1 29 (nI 0)).1 10 = nI h from mE1.2.1, p1, am_ci_ok, hμ0, p5, nI_add, Nat.zero_add, ← hszz, show ic 120 = nI 120 from rfl]
        have hnd := nd.1
        by_cases hz : (cs_t σ1 100).length + tr_sz t ≤ 120
        · rw [if_pos (nI_le hz (by omega)), if_pos (nI_le hz (by omega))]
          have hix : mr μ2 400 450 t (nI (400 + 0 + tr_sz t - 1)) := by
            have p4' : mr μ2 (400 + 0) (400 + 0 + tr_sz t) t (nI (400 + 0 + tr_sz t - 1)) := mr_like hlk (by rw [hszz]; exact p4)
            exact mr_up (by omega) (by omega) t _ p4'
          obtain ⟨μ3, r1, r2, r3, r4⟩ := mm_copies (N := N) t (cs_t σ1 100).length μ2 _ (f + 99) htl e3 e4 hix (by omega) hz hμ0 (by have := tr_sz_dp t; omega)
          have hpost := post_at t (cs_t σ1 100).length e4 e3 r4 (by omega)
          obtain ⟨n, rfl⟩ : ∃ n, N = n + tr_sz t := ⟨N - tr_sz t, by omega⟩
          obtain ⟨σ3, w1, w2, w3, w4, w5, w6, w7, w8, w9, w0⟩ := wr_loop (N := n + tr_sz t) (f := f + 89) (n0 := (cs_y σ1).length) (L := tr_post t) (v1 := nI st) (w2 := lN k) (t5 := t) (fun j hj => by
              obtain ⟨o1, -, -⟩ := hpost j (by omega)
              exact tr_nd_wf o1.2.1 o1.1) (by omega) (tr_nd_wf e3 htl) (tr_sz t) n 0 σ2 (by omega) (by rw [e6.2.2.2.2.2.1]; simp) e5 (by rw [(e6.2.2.2.1 100 (by omega)).2]; exact nd.2.1) (by rw [hl100]; omega)
          rw [w1, show nI (400 + tr_sz t - 1) = nI (400 + 0 + tr_sz t - 1) from rfl, r1, am_ci_ok]
          refine ⟨_, _, _, rfl, rfl, ?_⟩
          rw [List.drop_zero, hl100] at w2
          have hrow : ∀ c, 1 ≤ c → c ≤ 6 → ∀ j, j < (cs_t σ1 100).length → μ3.2.1 c j = μ1.2.1 c j := fun c h1 h2 j hj => (r3.2.2 c j (.inl hj)).trans (hsm.2.2 c h1 h2 j (by omega))
          have hint : ∀ j, j ≠ 0 → j ≠ 29 → μ3.1 j = μ1.1 j := fun j z1 z2 => by
            rw [r3.1 j z1, p6.1 j z2, mm_p_get, if_neg z2]
          have hbig : ∀ c, 6 < c → μ3.2.1 c = μ1.2.1 c := fun c z => by
            rw [r3.2.1 c (.inr z), p6.2.1 c (.inr z)]
            rfl
          have ha1 : σ3.1 = σ1.1 := w4.trans e6.1
          have ha2 : σ3.2.1 = σ1.2.1 := w5.trans e6.2.1
          refine ⟨F, K, e, h', ⟨by rw [w2, List.length_append]; omega, w3, by rw [r2, w2, List.length_append, hlen], ?_⟩, fn.fr (by rw [ha1]) (hbig 7 (by omega)), kp.fr (by rw [ha2]) (hbig 8 (by omega)), er.fr (by rw [ha1]) (by rw [ha2]) (hint 10 (by omega) (by omega)) (hbig 9 (by omega)), ?_, ?_, ?_⟩
          · rw [w2]
            intro j hj
            rw [List.length_append] at hj
            by_cases q : j < (cs_t σ1 100).length
            · have hg : (cs_t σ1 100 ++ tr_post t).getD j .leaf = (cs_t σ1 100).getD j .leaf := by
                rw [List.getD_eq_getElem?_getD, List.getD_eq_getElem?_getD, List.getElem?_append_left q]
              rw [hg]
              obtain ⟨g1, g2, g3⟩ := nd.2.2.2 j q
              exact ⟨g1, g2, mn_of hrow g3 (.inr (by rw [g2]; exact q))⟩
            · have hg : (cs_t σ1 100 ++ tr_post t).getD j .leaf = (tr_post t).getD (j - (cs_t σ1 100).length) .leaf := by
                rw [List.getD_eq_getElem?_getD, List.getD_eq_getElem?_getD, List.getElem?_append_right (by omega)]
              rw [hg]
              obtain ⟨g1, g2, g3⟩ := hpost (j - (cs_t σ1 100).length) (by omega)
              exact ⟨g1, by rw [g2]; omega, g3⟩
          · refine cm_wk.grow (H := (cs_t σ1 100).length) wk ?_ (Nat.le_refl _) (w7.trans e6.2.2.2.2.1) (by rw [ha1]) (by rw [ha2]) (hint 30 (by omega) (by omega)) (hint 33 (by omega) (by omega)) (hbig 31 (by omega)) (hbig 32 (by omega)) hrow
            rw [w2, List.length_append]
            omega
          · exact sm.mk' (fun c hc => hbig c (by omega)) ((w6 106 (by omega)).1.trans (e6.2.2.2.1 106 (by omega)).1) ((w6 106 (by omega)).2.trans (e6.2.2.2.1 106 (by omega)).2) (by rw [ha2])
          · obtain ⟨-, -, -, -, -, y1, y2, y3⟩ := e6
            refine ⟨by rw [w8, y1, List.length_append]; simp; omega, by omega, by omega⟩
        · rw [if_neg (nI_ge (by omega) (by omega)), if_neg (nI_ge (by omega) (by omega))]
          refine ⟨_, _, _, rfl, rfl, ?_⟩
          obtain ⟨x1, x2, x3, x4, x5, y1, y2, y3⟩ := e6
          exact hR1.gr x1 x2 (fun c hc => x4 c (by omega)) x5 ⟨by rw [y1, List.length_append]; simp; omega, by omega, by omega⟩ hsm
      · have hlt : ¬ lg_cmp (lN k) (lN (ct V 0 h)) < 0 := by
          rw [lc_lt]
          intro q
          rw [Int64.lt_iff_toInt_lt] at q
          have z1 : (lN k).toInt = k := Int64.toInt_ofNat_of_lt hk63
          have z2 : (lN (ct V 0 h)).toInt = ct V 0 h := Int64.toInt_ofNat_of_lt (by omega)
          omega
        rw [if_neg hlt, if_neg hlt]
        exact ⟨_, _, _, rfl, rfl, hR1.up⟩
end
