set_option maxRecDepth 100000
section
variable {N : Nat} {V : EV} {h : Nat} {σ : cs_S}
/-- what a candidate asks -/
theorem hv_cond {kk i j w : Nat} {b : Bool} (hp : 0 < hv V kk b i j w) (hw : 1 ≤ w) : i + bN b < j - bN b ∧ (kk = 1 → isNum V.1 (i + bN b) (j - bN b) = true) ∧ (2 ≤ kk ∧ kk ≤ 6 → 1 ≤ w ∧ w + 2 ≤ j - bN b - (i + bN b)) ∧ (kk = 7 → i + bN b + 1 < j - bN b) ∧ (kk = 8 ∨ kk = 9 → kk = 8 ∨ kk = 9 → i + bN b + 2 < j - bN b) := by
  by_cases h26 : 2 ≤ kk ∧ kk ≤ 6
  · rw [hv_two h26 hw] at hp
    split at hp
    · have htw : 1 ≤ w ∧ w + 2 ≤ j - bN b - (i + bN b) ∧ V.1 (i + bN b + w) = 18 + kk := by
        unfold tm at hp
        split at hp
        · assumption
        · omega
      exact ⟨by omega, fun q => by omega, fun _ => ⟨htw.1, htw.2.1⟩, fun q => by omega, fun q => by omega⟩
    · omega
  · have hw : w = 1 := by
      by_cases q : w = 1
      · exact q
      · rw [hv_no h26 q] at hp
        omega
    subst hw
    rw [hv_one h26] at hp
    obtain ⟨hg, hcp⟩ := cK_pos hp
    have hlt : i + bN b < j - bN b := by
      by_cases q : i + bN b < j - bN b
      · exact q
      · rw [cP_nil (by omega)] at hcp
        omega
    refine ⟨hlt, fun q => ?_, fun q => absurd q h26, fun q => ?_, fun q _ => ?_⟩
    · subst q
      exact (cP_1 hcp).1
    · subst q
      exact (cP_7 hcp).1
    · rcases q with rfl | rfl
      · exact (cP_8 hcp).1
      · exact (cP_9 hcp).1
theorem cs_plIn {f n kk v i j S : Nat} {x y : Tr} {b : Bool} (hN : 1000 ≤ N) (hE : cE σ V h) (hT : cT σ V h (h + 1)) (hwf : tr_wf (.inner n kk v x y)) (hij : i < j) (hj : j ≤ h) (hS : S ≤ 20000000)
    (h2 : ∀ w, 1 ≤ w → w ≤ j - i → 0 < hv V kk b i j w → ∃ q, cs_call N (f + 4) 42 [.inl (.ref 0), .inr (.inner n kk v x y), .inl (.int (nI (i + bN b))), .inl (.int (nI (j - bN b))), .inl (.int (nI w))] (σ) = some (.inl (some (.inl (.long (q)))), σ) ∧ ((∃ o, Rw V (.inner n kk v x y) (i + bN b) (j - bN b) w o ∧ q = lN o) ∨ ((∀ o, ¬ Rw V (.inner n kk v x y) (i + bN b) (j - bN b) w o) ∧ q = -1)))
    (P : am_R cs_S → Prop) (n0 : Nat) : ∀ (q w m : Nat) (o11 o13 : Option am_V), 1 ≤ w → w + q = j - i + 1 → n0 + q ≤ m →
    (∀ w' o, w ≤ w' → w' ≤ j - i → 0 < hv V kk b i j w' → Rw V (.inner n kk v x y) (i + bN b) (j - bN b) w' o → P (some (.inl (some (.inl (.long (lN (S + (sm (hv V kk b i j) 1 (w' - 1) + o)))))), σ))) →
    ((∀ w' o, w ≤ w' → w' ≤ j - i → 0 < hv V kk b i j w' → ¬ Rw V (.inner n kk v x y) (i + bN b) (j - bN b) w' o) → ∀ m' o7 o8 o9 o10 o11 o13, n0 ≤ m' → P (am_bk (cs_hop 1 (cs_call N (f + 4))) am_no (some .long) kX1_placeOf m' 50 [some (.inl (.ref 0)), some (.inr (.inner n kk v x y)), some (.inl (.int (nI i))), some (.inl (.int (nI j))), some (.inl (.long (lN (S + sm (hv V kk b i j) 1 (j - i))))), none, some (.inl (.int (nI (bN b + 1)))), o7, o8, o9, o10, o11, none, o13, none] [] σ)) →
    P (jX1_placeOf_85 (am_bk (cs_hop 1 (cs_call N (f + 4))) am_no (some .long) kX1_placeOf m) (cs_call N (f + 4)) σ (.inner n kk v x y) (nI i) (nI j) (lN (S + sm (hv V kk b i j) 1 (w - 1))) (nI (bN b)) (nI (i + bN b)) (nI (j - bN b)) (b2 (decide (2 ≤ kk ∧ kk ≤ 6))) (nI w) o11 o13) := by
  have h20 := hE.1
  have hwv := tr_wf_v hwf
  have hnd : tr_nd (.inner n kk v x y) = true := Nat.ble_eq_true_of_le hwv.1
  have hcS : sm (hv V kk b i j) 1 (j - i) ≤ 20000000 := by
    rw [hv_sum V hij]
    have := cK_le (V := V) kk b i j hwv.1
    have := ct_lt V (i := i) (j := j) (by omega)
    rw [ct_eq V hij] at this
    omega
  have hsm : ∀ w, w ≤ j - i → sm (hv V kk b i j) 1 w ≤ 20000000 := fun w hw => Nat.le_trans (sm_mono 1 hw) hcS
  have hof := fun wd hwd hw0 => cs_ofKind (N := N) (f := f) (b := b) (wd := wd) hE hwv.1 hij hj (fun a c h1 h2 h3 => hT a c h1 h2 (by omega)) hwd hw0 (by omega)
  intro q
  induction q with
  | zero =>
    intro w m o11 o13 hw hq hm _ hrest
    rw [jX1_placeOf_85_eq, nI_subI (by omega), if_pos (nI_lt (by omega) (by omega)), ic_lit, nI_add, show w - 1 = j - i by omega]
    exact hrest (fun w' o h1 h2 => by omega) m _ _ _ _ _ _ (by omega)
  | succ q ih =>
    intro w m o11 o13 hw hq hm hfound hrest
    obtain ⟨m, rfl⟩ : ∃ m', m = m' + 1 := ⟨m - 1, by omega⟩
    have hsw : sm (hv V kk b i j) 1 w = sm (hv V kk b i j) 1 (w - 1) + hv V kk b i j w := by
      rw [sm_last (by omega), show 1 + w - 1 = w by omega]
    have hs1 := hsm w (by omega)
    -- behind the number
    have h140 : ∀ (o11 o13 : Option am_V), P (jX1_placeOf_140 (am_bk (cs_hop 1 (cs_call N (f + 4))) am_no (some .long) kX1_placeOf (m + 1)) (cs_call N (f + 4)) σ (.inner n kk v x y) (nI i) (nI j) (lN (S + sm (hv V kk b i j) 1 (w - 1))) (nI (bN b)) (nI (i + bN b)) (nI (j - bN b)) (b2 (decide (2 ≤ kk ∧ kk ≤ 6))) (nI w) o11 o13 (lN (hv V kk b i j w))) := by
      intro o11 o13
      have hnext : (∀ o, 0 < hv V kk b i j w → ¬ Rw V (.inner n kk v x y) (i + bN b) (j - bN b) w o) → ∀ o11 o13, P (jX1_placeOf_85 (am_bk (cs_hop 1 (cs_call N (f + 4))) am_no (some .long) kX1_placeOf m) (cs_call N (f + 4)) σ (.inner n kk v x y) (nI i) (nI j) (lN (S + sm (hv V kk b i j) 1 w)) (nI (bN b)) (nI (i + bN b)) (nI (j - bN b)) (b2 (decide (2 ≤ kk ∧ kk ≤ 6))) (nI (w + 1)) o11 o13) := by
        intro hno o11 o13
        refine ih (w + 1) m o11 o13 (by omega) (by omega) (by omega) (fun w' o h1 h2 h3 h4 => hfound w' o (by omega) h2 h3 h4) (fun hr => hrest fun w' o h1 h2 h3 => ?_)
        by_cases e : w' = w
        · subst e
          exact hno o h3
        · exact hr w' o (by omega) h2 h3
      rw [jX1_placeOf_140_eq]
      by_cases h0 : hv V kk b i j w = 0
      · rw [if_pos ((lg_cmp_eq _ _).mpr (by rw [h0])), jX1_placeOf_187_152_eq, jX1_placeOf_187_eq, ic_lit, nI_add, jX1_placeOf_85_bk]
        have := hnext (fun o hp => by omega) (some (.inl (.long (lN (hv V kk b i j w))))) o13
        rw [hsw, h0, Nat.add_zero] at this
        rw [h0]
        exact this
      · rw [if_neg (fun z => h0 ((pk_lEQ (by omega) (by omega)).mp ((lg_cmp_eq _ _).mp z)))]
        obtain ⟨r, e, hr⟩ := h2 w hw (by omega) (by omega)
        rw [e, am_cl_ok]
        rcases hr with ⟨o, ho, rfl⟩ | ⟨hno, rfl⟩
        · have ho2 := (Rd_of hij hwf hw (by omega) (show 0 < hv V kk b i j w by omega) ho).2
          rw [if_neg (lcm1 (by omega)), lN_add, Nat.add_assoc]
          exact hfound w o (Nat.le_refl _) (by omega) (by omega) ho
        · rw [if_pos (by decide), jX1_placeOf_187_eq, ic_lit, nI_add, lN_add, jX1_placeOf_85_bk, Nat.add_assoc, ← hsw]
          exact hnext (fun o _ => hno o) _ _
    have h108 : ∀ (wd : Nat) (o11 o13 : Option am_V), wd ≤ 20 → (¬ (2 ≤ kk ∧ kk ≤ 6) → wd = 0) → (2 ≤ kk ∧ kk ≤ 6 → wd = w) → kw_ V kk b i j wd = hv V kk b i j w → P (jX1_placeOf_108 (am_bk (cs_hop 1 (cs_call N (f + 4))) am_no (some .long) kX1_placeOf (m + 1)) (cs_call N (f + 4)) σ (.inner n kk v x y) (nI i) (nI j) (lN (S + sm (hv V kk b i j) 1 (w - 1))) (nI (bN b)) (nI (i + bN b)) (nI (j - bN b)) (b2 (decide (2 ≤ kk ∧ kk ≤ 6))) (nI w) o11 o13) := by
      intro wd o11 o13 hwd hw0 hw2 hkw
      have h124 : P (jX1_placeOf_124 (am_bk (cs_hop 1 (cs_call N (f + 4))) am_no (some .long) kX1_placeOf (m + 1)) (cs_call N (f + 4)) σ (.inner n kk v x y) (nI i) (nI j) (lN (S + sm (hv V kk b i j) 1 (w - 1))) (nI (bN b)) (nI (i + bN b)) (nI (j - bN b)) (b2 (decide (2 ≤ kk ∧ kk ≤ 6))) (nI w) o11 o13 (b2 b) (nI kk)) := by
        have h1 := hof wd hwd hw0
        rw [jX1_placeOf_124_eq]
        by_cases h26 : 2 ≤ kk ∧ kk ≤ 6
        · rw [if_neg (by rw [decide_eq_true h26]; decide), jX1_placeOf_137_136_eq, jX1_placeOf_137_eq, ← hw2 h26, h1, am_cl_ok, hkw, hw2 h26]
          exact h140 _ _
        · rw [if_pos (by rw [decide_eq_false h26]; decide), jX1_placeOf_137_eq, ic_lit]
          rw [hw0 h26] at h1 hkw
          rw [h1, am_cl_ok, hkw]
          exact h140 _ _
      rw [jX1_placeOf_108_eq, hnd, cond_true, tr_ki, ic_lit]
      cases b with
      | false =>
        rw [if_neg (by decide)]
        exact h124
      | true =>
        rw [if_pos (by decide), jX1_placeOf_124_123_eq]
        exact h124
    rw [jX1_placeOf_85_eq, nI_subI (by omega), if_neg (nI_nlt (by omega) (by omega)), ic_lit]
    by_cases h26 : 2 ≤ kk ∧ kk ≤ 6
    · have hkw : kw_ V kk b i j w = hv V kk b i j w := by
        unfold hv
        rw [if_pos h26]
      have := h108 w o11 o13 (by omega) (fun z => absurd h26 z) (fun _ => rfl) hkw
      by_cases hw1 : w ≤ 1
      · rw [if_pos (nI_le hw1 (by omega)), jX1_placeOf_108_99_eq]
        exact this
      · rw [if_neg (nI_ge (by omega) (by omega)), if_neg (by rw [decide_eq_true h26]; decide), jX1_placeOf_108_104_eq]
        exact this
    · by_cases hw1 : w ≤ 1
      · have hkw : kw_ V kk b i j 0 = hv V kk b i j w := by
          obtain rfl : w = 1 := by omega
          unfold hv
          rw [if_neg h26, if_pos rfl]
        rw [if_pos (nI_le hw1 (by omega)), jX1_placeOf_108_99_eq]
        exact h108 0 o11 o13 (by omega) (fun _ => rfl) (fun z => absurd z h26) hkw
      · rw [if_neg (nI_ge (by omega) (by omega)), if_pos (by rw [decide_eq_false h26]; decide), jX1_placeOf_140_108_eq]
        have := h140 o11 o13
        rw [hv_no h26 (by omega)] at this
        exact this
theorem cs_placeOf (hN : 1000 ≤ N) : ∀ (t : Tr) (i j : Nat) (σ : cs_S) (f : Nat), tr_wf t → tr_lf t = false → cE σ V h → cT σ V h (h + 1) → i < j → j ≤ h → 2 * tr_dp t + 6 ≤ f →
    ∃ q, cs_call N (f) 41 [.inl (.ref 0), .inr (t), .inl (.int (nI i)), .inl (.int (nI j))] (σ) = some (.inl (some (.inl (.long (q)))), σ) ∧ plA V t i j q := by
  intro t
  induction t with
  | leaf => intro i j σ f _ hn; cases hn
  | inner n kk v x y ihx ihy =>
    intro i j σ f hwf ht0 hE hT hij hj hf
    have h20 := hE.1
    have hwv := tr_wf_v hwf
    have hnd : tr_nd (.inner n kk v x y) = true := Nat.ble_eq_true_of_le hwv.1
    simp only [tr_dp] at hf
    obtain ⟨f, rfl⟩ : ∃ f', f = f' + 8 := ⟨f - 8, by omega⟩
    have hl := ct_lt V (i := i) (j := j) (by omega)
    have hSS : ∀ c, c ≤ 20 → sm (cc20 V (ct V) i j) 0 c ≤ 20000000 := fun c hc => by
      have := sm_mono (f := cc20 V (ct V) i j) 0 hc
      rw [ct_eq V hij] at hl
      unfold cS at hl
      omega
    have h2 : ∀ b w, 1 ≤ w → w ≤ j - i → 0 < hv V kk b i j w → ∃ q, cs_call N (f + 7) 42 [.inl (.ref 0), .inr (.inner n kk v x y), .inl (.int (nI (i + bN b))), .inl (.int (nI (j - bN b))), .inl (.int (nI w))] (σ) = some (.inl (some (.inl (.long (q)))), σ) ∧ ((∃ o, Rw V (.inner n kk v x y) (i + bN b) (j - bN b) w o ∧ q = lN o) ∨ ((∀ o, ¬ Rw V (.inner n kk v x y) (i + bN b) (j - bN b) w o) ∧ q = -1)) := by
      intro b w hw1 hw2 hp
      obtain ⟨c0, c1, c2, c7, c8⟩ := hv_cond hp hw1
      exact cs_plc2 (N := N) (f := f + 5) hN hE hT hwf c0 (by omega) (fun q a b h1 h2 => ihx a b σ (f + 6) hwf.1 q hE hT h1 h2 (by omega)) (fun q a b h1 h2 => ihy a b σ (f + 6) hwf.2.1 q hE hT h1 h2 (by omega)) c1 c2 c7 (fun q => c8 q q)
    -- both ways
    have h50 : ∀ m, 100 ≤ m → ∃ q, jX1_placeOf_50 (am_bk (cs_hop 1 (cs_call N (f + 7))) am_no (some .long) kX1_placeOf m) (cs_call N (f + 7)) σ (.inner n kk v x y) (nI i) (nI j) (lN (sm (cc20 V (ct V) i j) 0 (2 * kk))) (nI 0) none none none none none none = some (.inl (some (.inl (.long (q)))), σ) ∧ plA V (.inner n kk v x y) i j q := by
      intro m hm
      have hvy := cs_vyi (N := N) (f := f + 6) hwf σ
      have hyl : tr_lf y = !decide (2 ≤ kk ∧ kk ≤ 6) := by
        rcases hwf.2.2 with ⟨q, -, -, r⟩ | ⟨q, -, -, r⟩ | ⟨a, c, -, -, r⟩ | ⟨q, -, -, r⟩ | ⟨q, -, -, r⟩
        · rw [r, decide_eq_false (by omega)]; rfl
        · rw [r, decide_eq_false (by omega)]; rfl
        · rw [r, decide_eq_true ⟨a, c⟩]; rfl
        · rw [r, decide_eq_false (by omega)]; rfl
        · rw [r, decide_eq_false (by omega)]; rfl
      -- one way
      have hway : ∀ (b : Bool) (m : Nat) (o7 o8 o9 o10 o11 o13 : Option am_V) (P : am_R cs_S → Prop), (P (jX1_placeOf_85 (am_bk (cs_hop 1 (cs_call N (f + 7))) am_no (some .long) kX1_placeOf m) (cs_call N (f + 7)) σ (.inner n kk v x y) (nI i) (nI j) (lN (sm (cc20 V (ct V) i j) 0 (2 * kk + bN b) + sm (hv V kk b i j) 1 (1 - 1))) (nI (bN b)) (nI (i + bN b)) (nI (j - bN b)) (b2 (decide (2 ≤ kk ∧ kk ≤ 6))) (nI 1) o11 o13)) → P (jX1_placeOf_50 (am_bk (cs_hop 1 (cs_call N (f + 7))) am_no (some .long) kX1_placeOf m) (cs_call N (f + 7)) σ (.inner n kk v x y) (nI i) (nI j) (lN (sm (cc20 V (ct V) i j) 0 (2 * kk + bN b))) (nI (bN b)) o7 o8 o9 o10 o11 o13) := by
        intro b m o7 o8 o9 o10 o11 o13 P hP
        have hbN : bN b ≤ 1 := by cases b <;> simp [bN]
        rw [jX1_placeOf_50_eq, ic_lit, if_neg (nI_ge (by omega) (by omega)), hnd, cond_true, tr_ki, hvy, am_ct_ok, nI_add, nI_subI (by omega), hyl]
        rw [show 1 - 1 = 0 from rfl, show sm (hv V kk b i j) 1 0 = 0 from rfl, Nat.add_zero] at hP
        by_cases h26 : 2 ≤ kk ∧ kk ≤ 6
        · rw [decide_eq_true h26, b2_t] at hP
          rw [decide_eq_true h26, Bool.not_true, cond_false, jX1_placeOf_80_79_eq, jX1_placeOf_80_eq, ic_lit]
          exact hP
        · rw [decide_eq_false h26, b2_f] at hP
          rw [decide_eq_false h26, Bool.not_false, cond_true, jX1_placeOf_80_eq, ic_lit, ic_lit]
          exact hP
      have hfin : ∀ b w' o, w' ≥ 1 → w' ≤ j - i → 0 < hv V kk b i j w' → Rw V (.inner n kk v x y) (i + bN b) (j - bN b) w' o → ∃ q, (some (.inl (some (.inl (.long (lN (sm (cc20 V (ct V) i j) 0 (2 * kk + bN b) + (sm (hv V kk b i j) 1 (w' - 1) + o)))))), σ) : am_R cs_S) = some (.inl (some (.inl (.long (q)))), σ) ∧ plA V (.inner n kk v x y) i j q := fun b w' o h1 h2 h3 h4 => ⟨_, rfl, .inl ⟨_, (Rd_of hij hwf h1 h2 h3 h4).1, rfl⟩⟩
      refine hway false m none none none none none none (fun r => ∃ q, r = some (.inl (some (.inl (.long (q)))), σ) ∧ plA V (.inner n kk v x y) i j q) ?_
      refine cs_plIn (N := N) (f := f + 3) (b := false) (S := sm (cc20 V (ct V) i j) 0 (2 * kk + bN false)) hN hE hT hwf hij hj (hSS _ (by simp only [bN_f]; omega)) (h2 false) (fun r => ∃ q, r = some (.inl (some (.inl (.long (q)))), σ) ∧ plA V (.inner n kk v x y) i j q) 50 (j - i) 1 m none none (by omega) (by omega) (by omega) (fun w' o h1 h2 h3 h4 => hfin false w' o h1 h2 h3 h4) ?_
      intro hno0 m' o7 o8 o9 o10 o11 o13 hm'
      obtain ⟨m', rfl⟩ : ∃ z, m' = z + 1 := ⟨m' - 1, by omega⟩
      rw [jX1_placeOf_50_bk]
      have e1 : sm (cc20 V (ct V) i j) 0 (2 * kk + bN false) + sm (hv V kk false i j) 1 (j - i) = sm (cc20 V (ct V) i j) 0 (2 * kk + bN true) := by
        rw [hv_sum V hij, bN_f, bN_t, Nat.add_zero, sm_app]
        simp only [sm, Nat.zero_add, Nat.add_zero]
        rw [(cc20_k kk).1]
      rw [e1, show bN false + 1 = bN true from rfl]
      refine hway true m' o7 o8 o9 o10 o11 o13 (fun r => ∃ q, r = some (.inl (some (.inl (.long (q)))), σ) ∧ plA V (.inner n kk v x y) i j q) ?_
      refine cs_plIn (N := N) (f := f + 3) (b := true) (S := sm (cc20 V (ct V) i j) 0 (2 * kk + bN true)) hN hE hT hwf hij hj (hSS _ (by simp only [bN_t]; omega)) (h2 true) (fun r => ∃ q, r = some (.inl (some (.inl (.long (q)))), σ) ∧ plA V (.inner n kk v x y) i j q) 10 (j - i) 1 m' o11 o13 (by omega) (by omega) (by omega) (fun w' o h1 h2 h3 h4 => hfin true w' o h1 h2 h3 h4) ?_
      intro hno1 m'' o7 o8 o9 o10 o11 o13 hm''
      obtain ⟨m'', rfl⟩ : ∃ z, m'' = z + 1 := ⟨m'' - 1, by omega⟩
      rw [jX1_placeOf_50_bk, jX1_placeOf_50_eq, ic_lit, if_pos (by decide)]
      refine ⟨_, rfl, .inr ⟨fun k hk => ?_, rfl⟩⟩
      obtain ⟨b, w, o, a1, a2, a3, a4, -⟩ := Rd_to hk
      cases b with
      | false => exact hno0 w o a1 a2 a3 a4
      | true => exact hno1 w o a1 a2 a3 a4
    -- the lesser kinds
    have h6 : ∀ (q c m : Nat), c + q = kk → 100 + q ≤ m → ∃ r, jX1_placeOf_6 (am_bk (cs_hop 1 (cs_call N (f + 7))) am_no (some .long) kX1_placeOf m) (cs_call N (f + 7)) σ (.inner n kk v x y) (nI i) (nI j) (lN (sm (cc20 V (ct V) i j) 0 (2 * c))) (nI c) = some (.inl (some (.inl (.long (r)))), σ) ∧ plA V (.inner n kk v x y) i j r := by
      intro q
      induction q with
      | zero =>
        intro c m hc hm
        obtain rfl : c = kk := by omega
        rw [jX1_placeOf_6_eq, hnd, cond_true, tr_ki, if_pos (Int32.le_refl _), ic_lit]
        exact h50 m (by omega)
      | succ q ih =>
        intro c m hc hm
        obtain ⟨m, rfl⟩ : ∃ z, m = z + 1 := ⟨m - 1, by omega⟩
        have o0 := cs_ofKind (N := N) (f := f + 3) (b := false) (wd := 0) hE (show c ≤ 9 by omega) hij hj (fun a c h1 h2 h3 => hT a c h1 h2 (by omega)) (by omega) (fun _ => rfl) (by omega)
        have o1 := cs_ofKind (N := N) (f := f + 3) (b := true) (wd := 0) hE (show c ≤ 9 by omega) hij hj (fun a c h1 h2 h3 => hT a c h1 h2 (by omega)) (by omega) (fun _ => rfl) (by omega)
        rw [kw_0, b2_f] at o0
        rw [kw_0, b2_t] at o1
        rw [jX1_placeOf_6_eq, hnd, cond_true, tr_ki, if_neg (nI_ge (by omega) (by omega)), ic_lit, ic_lit, o0, am_cl_ok, o1, am_cl_ok, lN_add, lN_add, nI_add, jX1_placeOf_6_bk]
        have hs : sm (cc20 V (ct V) i j) 0 (2 * c) + (cK V (ct V) c false i j + cK V (ct V) c true i j) = sm (cc20 V (ct V) i j) 0 (2 * (c + 1)) := by
          rw [show 2 * (c + 1) = 2 * c + 2 by omega, sm_app]
          simp only [sm, Nat.zero_add, Nat.add_zero]
          rw [(cc20_k c).1, (cc20_k c).2]
        rw [hs]
        exact ih (c + 1) m (by omega) (by omega)
    rw [dX1_placeOf_eq]
    unfold dX1_placeOf
    have := h6 kk 0 N (by omega) (by omega)
    rw [ic_lit]
    exact this
end
