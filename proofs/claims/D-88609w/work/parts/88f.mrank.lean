set_option maxRecDepth 100000
/-! THE MODEL FINDS A TREE's PLACE. -/
section
variable {N : Nat} {V : EV} {h : Nat} {μ : mm_S}
theorem lcn {n : Nat} (hn : n < 2 ^ 62) : ¬ lg_cmp (lN n) (lN 0) < 0 := fun q => lN_ge0 hn ((lg_cmp_lt _ _).mp q)
theorem lcm1n : lg_cmp (-1) (lN 0) < 0 := by decide
theorem lcz {n : Nat} (hn : n < 2 ^ 62) : (lg_cmp (lN n) (lN 0) ≤ 0) = (n = 0) := by
  rw [lc_le, lN_le' hn (by omega)]
  exact propext (by omega)
/-- two parts: the first place where both are readings -/
theorem mm_inTwo {f n kk v a b lo hi : Nat} {x y : Tr} {idx : Nat} (hE : mE μ V h) (hT : mT μ V h (h + 1)) (hk : 2 ≤ kk ∧ kk ≤ 6) (hab : a < b) (hb : b ≤ h) (hidx : idx < 450) (ek : μ.2.1 1 idx = nI kk)
    (hX : ∀ a b, a < b → b ≤ h → ∃ q, mm_call N (f + 1) 52 [.inl (.ref 0), .inl (.int (μ.2.1 3 idx)), .inl (.int (nI a)), .inl (.int (nI b))] (μ) = some (.inl (some (.inl (.long (q)))), μ) ∧ plA V x a b q)
    (hY : ∀ a b, a < b → b ≤ h → ∃ q, mm_call N (f + 1) 52 [.inl (.ref 0), .inl (.int (μ.2.1 4 idx)), .inl (.int (nI a)), .inl (.int (nI b))] (μ) = some (.inl (some (.inl (.long (q)))), μ) ∧ plA V y a b q) : ∀ (q w m : Nat) (o7 o9 o11 : Option am_V), 1 ≤ w → w + q = b - a → q < m →
    ∃ r, jX6_innerTwo_8 (am_bk (mm_hop (mm_call N (f + 1))) am_no (some .long) kX6_innerTwo m) (mm_call N (f + 1)) μ (nI idx) (nI a) (nI b) (lN (sm (tm V (ct V) kk a b) 1 (w - 1))) (nI (a + w)) o7 o9 o11 = some (.inl (some (.inl (.long (r)))), μ) ∧
      ((∃ w' o, w ≤ w' ∧ w' ≤ b - a ∧ 0 < tm V (ct V) kk a b w' ∧ Rw V (.inner n kk v x y) a b w' o ∧ r = lN (sm (tm V (ct V) kk a b) 1 (w' - 1) + o)) ∨
       ((∀ w' o, w ≤ w' → w' ≤ b - a → 0 < tm V (ct V) kk a b w' → ¬ Rw V (.inner n kk v x y) a b w' o) ∧ r = -1)) := by
  obtain ⟨h20, h10, he, -, -⟩ := hE
  have hcp := cP_lt V (k := kk) (i := a) (j := b) (by omega) (by omega)
  have hsm : ∀ w, w ≤ b - a → sm (tm V (ct V) kk a b) 1 w ≤ 20000000 := fun w hw => by
    have := sm_mono (f := tm V (ct V) kk a b) 1 hw
    rw [cP_two hk.1 hk.2] at hcp
    omega
  have hRw : ∀ {w o : Nat}, Rw V (.inner n kk v x y) a b w o → ∃ kx ky, Rd V x a (a + w) kx ∧ Rd V y (a + w + 1) b ky ∧ o = kx * ct V (a + w + 1) b + ky := by
    rintro w o (⟨q, -⟩ | ⟨q, -⟩ | ⟨-, -, q⟩ | ⟨q, -⟩ | ⟨q, -⟩ | ⟨q, -⟩)
    · omega
    · omega
    · exact q
    all_goals omega
  have hz : ∀ u, b - a < u + 2 → tm V (ct V) kk a b u = 0 := fun u hu => by
    unfold tm
    rw [if_neg (by omega)]
  intro q
  induction q with
  | zero =>
    intro w m o7 o9 o11 hw hq hm
    rw [jX6_innerTwo_8_eq, ic_lit, nI_subI (by omega), if_pos (nI_le (by omega) (by omega))]
    exact ⟨_, rfl, .inr ⟨fun w' o h1 h2 h3 => by rw [hz w' (by omega)] at h3; omega, rfl⟩⟩
  | succ q ih =>
    intro w m o7 o9 o11 hw hq hm
    obtain ⟨m, rfl⟩ : ∃ m', m = m' + 1 := ⟨m - 1, by omega⟩
    rw [jX6_innerTwo_8_eq, ic_lit, nI_subI (by omega)]
    by_cases hend : b - 1 ≤ a + w
    · rw [if_pos (nI_le hend (by omega))]
      exact ⟨_, rfl, .inr ⟨fun w' o h1 h2 h3 => by rw [hz w' (by omega)] at h3; omega, rfl⟩⟩
    · rw [if_neg (nI_ge (by omega) (by omega)), am_ix_nI (by omega) (by omega), am_ix_nI hidx (by omega)]
      obtain ⟨hv, hew⟩ := he (a + w) (by omega)
      have hsw : sm (tm V (ct V) kk a b) 1 w = sm (tm V (ct V) kk a b) 1 (w - 1) + tm V (ct V) kk a b w := by
        rw [sm_last (by omega), show 1 + w - 1 = w by omega]
      have hs1 := hsm w (by omega)
      -- on to the next
      have hnext : (∀ o, 0 < tm V (ct V) kk a b w → ¬ Rw V (.inner n kk v x y) a b w o) → ∀ (o7 o9 o11 : Option am_V), ∃ r, am_bk (mm_hop (mm_call N (f + 1))) am_no (some .long) kX6_innerTwo (m + 1) 8 [some (.inl (.ref 0)), some (.inl (.int (nI idx))), some (.inl (.int (nI a))), some (.inl (.int (nI b))), some (.inl (.long (lN (sm (tm V (ct V) kk a b) 1 (w - 1) + tm V (ct V) kk a b w)))), none, some (.inl (.int (nI (a + w) + nI 1))), o7, none, o9, none, o11, none] [] μ = some (.inl (some (.inl (.long (r)))), μ) ∧
          ((∃ w' o, w ≤ w' ∧ w' ≤ b - a ∧ 0 < tm V (ct V) kk a b w' ∧ Rw V (.inner n kk v x y) a b w' o ∧ r = lN (sm (tm V (ct V) kk a b) 1 (w' - 1) + o)) ∨
           ((∀ w' o, w ≤ w' → w' ≤ b - a → 0 < tm V (ct V) kk a b w' → ¬ Rw V (.inner n kk v x y) a b w' o) ∧ r = -1)) := by
        intro hno o7 o9 o11
        obtain ⟨r, e, hr⟩ := ih (w + 1) m o7 o9 o11 (by omega) (by omega) (by omega)
        rw [nI_add, jX6_innerTwo_8_bk, ← hsw]
        rw [show w + 1 - 1 = w by omega, ← Nat.add_assoc a w 1] at e
        refine ⟨r, e, ?_⟩
        rcases hr with ⟨w', o, h1, h2⟩ | ⟨h1, h2⟩
        · exact .inl ⟨w', o, by omega, h2⟩
        · refine .inr ⟨fun w' o h3 h4 h5 => ?_, h2⟩
          by_cases e : w' = w
          · subst e
            exact hno o h5
          · exact h1 w' o (by omega) h4 h5
      rw [hew, ek, ic_lit, nI_add]
      by_cases hop : V.1 (a + w) = 18 + kk
      · have htm := tm_w (V := V) (C := ct V) hw (show w + 2 ≤ b - a by omega) hop
        have c1 := (hT a (a + w) (by omega) (by omega) (by omega)).1
        have c2 := (hT (a + w + 1) b (by omega) hb (by omega)).1
        have l1 := ct_lt V (i := a) (j := a + w) (by omega)
        have l2 := ct_lt V (i := a + w + 1) (j := b) (by omega)
        have htle := tm_le V (C := ct V) (i := a) (j := b) (w := w) hk.1 hk.2
        rw [if_pos (by rw [hop]), nI_add, ic_lit, nI_mulI, nI_add, am_ix_nI (by omega) (by omega), c2]
        -- without a place
        have h124n : (∀ o, 0 < tm V (ct V) kk a b w → ¬ Rw V (.inner n kk v x y) a b w o) → ∀ (w9 : Int64) (o11 : Option am_V), ∃ r, jX6_innerTwo_124 (am_bk (mm_hop (mm_call N (f + 1))) am_no (some .long) kX6_innerTwo (m + 1)) (mm_call N (f + 1)) μ (nI idx) (nI a) (nI b) (lN (sm (tm V (ct V) kk a b) 1 (w - 1))) (nI (a + w)) (lN (ct V (a + w + 1) b)) w9 o11 (-1) = some (.inl (some (.inl (.long (r)))), μ) ∧
            ((∃ w' o, w ≤ w' ∧ w' ≤ b - a ∧ 0 < tm V (ct V) kk a b w' ∧ Rw V (.inner n kk v x y) a b w' o ∧ r = lN (sm (tm V (ct V) kk a b) 1 (w' - 1) + o)) ∨
             ((∀ w' o, w ≤ w' → w' ≤ b - a → 0 < tm V (ct V) kk a b w' → ¬ Rw V (.inner n kk v x y) a b w' o) ∧ r = -1)) := by
          intro hno w9 o11
          rw [jX6_innerTwo_124_eq, if_pos lcm1n, ic_lit, nI_mulI, nI_add, am_ix_nI (by omega) (by omega), c1, mm_times (by omega) (by omega) (by rw [← htm]; omega), am_cl_ok, ← htm, jX6_innerTwo_167_eq, lN_add, ic_lit]
          exact hnext hno _ _ _
        have hrd : (ct V (a + w + 1) b = 0 ∨ ct V a (a + w) = 0) → ∀ o, 0 < tm V (ct V) kk a b w → ¬ Rw V (.inner n kk v x y) a b w o := by
          intro hq o hp
          rw [htm] at hp
          rcases hq with hq | hq
          · rw [hq, Nat.mul_zero] at hp
            omega
          · rw [hq, Nat.zero_mul] at hp
            omega
        by_cases b0 : ct V (a + w + 1) b = 0
        · rw [if_pos ((lcz (by omega)).mpr b0), jX6_innerTwo_91_58_eq, jX6_innerTwo_91_eq, jX6_innerTwo_94_eq, if_pos lcm1n]
          exact h124n (hrd (.inl b0)) _ _
        · rw [if_neg (fun z => b0 ((lcz (by omega)).mp z)), nI_mulI, nI_add, am_ix_nI (by omega) (by omega), c1]
          by_cases a0 : ct V a (a + w) = 0
          · rw [if_pos ((lcz (by omega)).mpr a0), jX6_innerTwo_91_75_eq, jX6_innerTwo_91_eq, jX6_innerTwo_94_eq, if_pos lcm1n]
            exact h124n (hrd (.inr a0)) _ _
          · rw [if_neg (fun z => a0 ((lcz (by omega)).mp z)), am_ix_nI hidx (by omega)]
            obtain ⟨q1, e1, p1⟩ := hX a (a + w) (by omega) (by omega)
            rw [e1, am_cl_ok, jX6_innerTwo_94_91_eq, jX6_innerTwo_94_eq]
            rcases p1 with ⟨kx, rx, rfl⟩ | ⟨nx, rfl⟩
            · have hkx := (Rd_lt rx).2
              obtain ⟨q2, e2, p2⟩ := hY (a + w + 1) b (by omega) hb
              rw [if_neg (lcn (by omega)), am_ix_nI hidx (by omega), ic_lit, nI_add, e2, am_cl_ok, jX6_innerTwo_124_121_eq]
              rcases p2 with ⟨ky, ry, rfl⟩ | ⟨ny, rfl⟩
              · have hky := (Rd_lt ry).2
                rw [jX6_innerTwo_124_eq, if_neg (lcn (by omega)), lN_mul, lN_add, lN_add, Nat.add_assoc]
                refine ⟨_, rfl, .inl ⟨w, _, Nat.le_refl _, by omega, ?_, .inr (.inr (.inl ⟨hk.1, hk.2, kx, ky, rx, ry, rfl⟩)), rfl⟩⟩
                rw [htm]
                exact Nat.mul_pos (by omega) (by omega)
              · exact h124n (fun o _ hq => by obtain ⟨kx', ky', -, q, -⟩ := hRw hq; exact ny ky' q) _ _
            · rw [if_pos lcm1n]
              exact h124n (fun o _ hq => by obtain ⟨kx', ky', q, -⟩ := hRw hq; exact nx kx' q) _ _
      · have ht0 : tm V (ct V) kk a b w = 0 := by
          unfold tm
          rw [if_neg (by omega)]
        rw [if_neg (fun z => hop ((nI_eq (by omega) (by omega)).mp z)), jX6_innerTwo_167_35_eq, jX6_innerTwo_167_eq, ic_lit]
        have := hnext (fun o hp => by omega) o7 o9 o11
        rw [ht0, Nat.add_zero] at this
        exact this
theorem mm_inNum {f a b : Nat} (hE : mE μ V h) (hb : b ≤ h) (hdig : ∀ m, a ≤ m → m < b → 10 ≤ V.1 m) {idx v : Nat} (hidx : idx < 450) (ev : μ.2.1 2 idx = nI v) (v2 : Int32) : ∀ (q c m u : Nat), a ≤ c → c + q = b → q < m →
    jX6_inner_36 (am_bk (mm_hop (mm_call N f)) am_no (some .long) kX6_inner m) (mm_call N f) μ (nI idx) v2 (nI b) (nI u) (nI c) = if nI (numV V.1 c q u) = nI v then some (.inl (some (.inl (.long (lN 0)))), μ) else some (.inl (some (.inl (.long (-1)))), μ) := by
  obtain ⟨h20, h10, he, -, -⟩ := hE
  intro q
  induction q with
  | zero =>
    intro c m u hc hq hm
    obtain rfl : c = b := by omega
    rw [jX6_inner_36_eq, if_pos (Int32.le_refl _), am_ix_nI hidx (by omega), ev]
    rfl
  | succ q ih =>
    intro c m u hc hq hm
    obtain ⟨m, rfl⟩ : ∃ m', m = m' + 1 := ⟨m - 1, by omega⟩
    obtain ⟨hv1, he1⟩ := he c (by omega)
    have hd := hdig c hc (by omega)
    rw [jX6_inner_36_eq, if_neg (nI_ge (by omega) (by omega)), am_ix_nI (by omega) (by omega), he1, ic_lit, nI_mulI, nI_add, nI_subI (by omega), ic_lit, nI_add, jX6_inner_36_bk]
    exact ih (c + 1) m (10 * u + V.1 c - 10) (by omega) (by omega) (by omega)
theorem mm_inner {f n kk v i j lo hi : Nat} {x y : Tr} {ix : Int32} {b : Bool} (hN : 1000 ≤ N) (hE : mE μ V h) (hT : mT μ V h (h + 1)) (hwf : tr_wf (.inner n kk v x y)) (hr : mr μ lo hi (.inner n kk v x y) ix) (hh : hi ≤ 450) (hij : i < j) (hj : j ≤ h) (hp : 0 < cK V (ct V) kk b i j)
    (hX : tr_lf x = false → ∀ f', f + 1 ≤ f' → ∀ ix a b, mr μ lo hi x ix → a < b → b ≤ h → ∃ q, mm_call N (f') 52 [.inl (.ref 0), .inl (.int (ix)), .inl (.int (nI a)), .inl (.int (nI b))] (μ) = some (.inl (some (.inl (.long (q)))), μ) ∧ plA V x a b q)
    (hY : tr_lf y = false → ∀ f', f + 1 ≤ f' → ∀ ix a b, mr μ lo hi y ix → a < b → b ≤ h → ∃ q, mm_call N (f') 52 [.inl (.ref 0), .inl (.int (ix)), .inl (.int (nI a)), .inl (.int (nI b))] (μ) = some (.inl (some (.inl (.long (q)))), μ) ∧ plA V y a b q) :
    ∃ r, mm_call N (f + 3) 53 [.inl (.ref 0), .inl (.int (ix)), .inl (.int (nI (i + bN b))), .inl (.int (nI (j - bN b)))] (μ) = some (.inl (some (.inl (.long (r)))), μ) ∧
      ((∃ w o, 1 ≤ w ∧ w ≤ j - i ∧ 0 < hv V kk b i j w ∧ Rw V (.inner n kk v x y) (i + bN b) (j - bN b) w o ∧ r = lN (sm (hv V kk b i j) 1 (w - 1) + o)) ∨
       ((∀ w o, 1 ≤ w → w ≤ j - i → 0 < hv V kk b i j w → ¬ Rw V (.inner n kk v x y) (i + bN b) (j - bN b) w o) ∧ r = -1)) := by
  have h20 := hE.1
  have hwv := tr_wf_v hwf
  obtain ⟨idx, _, hidx, rfl, ek, ev, es, ed, hx, hy⟩ := hr
  obtain ⟨hg, hcp⟩ := cK_pos hp
  have hlt : i + bN b < j - bN b := by
    by_cases q : i + bN b < j - bN b
    · exact q
    · rw [cP_nil (by omega)] at hcp
      omega
  obtain ⟨hva, hea⟩ := hE.2.2.1 (i + bN b) (by omega)
  have hi9 : idx < 450 := by omega
  obtain ⟨hwx, hwy, h3⟩ := id hwf
  rw [dX6_inner_eq]
  unfold dX6_inner
  rw [am_ix_nI hi9 (by omega), ek, mm_isTwo kk (by omega), am_ci_ok]
  by_cases k26 : 2 ≤ kk ∧ kk ≤ 6
  · have hxl : tr_lf x = false ∧ tr_lf y = false := by
      rcases h3 with ⟨q, -⟩ | ⟨q, -⟩ | ⟨-, -, -, p, q⟩ | ⟨q, -⟩ | ⟨q, -⟩
      · omega
      · omega
      · exact ⟨p, q⟩
      · omega
      · omega
    rw [decide_eq_true k26, if_neg (by decide), dX6_innerTwo_eq]
    unfold dX6_innerTwo
    obtain ⟨r, e, hr⟩ := mm_inTwo (N := N) (f := f) (n := n) (v := v) (x := x) (y := y) (lo := lo) (hi := hi) hE hT k26 hlt (by omega) hi9 ek (fun a b h1 h2 => hX hxl.1 _ (Nat.le_refl _) _ a b hx h1 h2) (fun a b h1 h2 => hY hxl.2 _ (Nat.le_refl _) _ a b hy h1 h2) (j - bN b - (i + bN b) - 1) 1 N none none none (by omega) (by omega) (by omega)
    rw [show sm (tm V (ct V) kk (i + bN b) (j - bN b)) 1 (1 - 1) = 0 from rfl] at e
    rw [ic_lit, nI_add, e, am_cl_ok]
    have hse : ∀ w, sm (hv V kk b i j) 1 w = sm (tm V (ct V) kk (i + bN b) (j - bN b)) 1 w := fun w => sm_ext _ _ fun m h1 _ => by rw [hv_two k26 h1, if_pos hg]
    refine ⟨r, rfl, ?_⟩
    rcases hr with ⟨w, o, h1, h2, h3, h4, rfl⟩ | ⟨h1, rfl⟩
    · exact .inl ⟨w, o, h1, by omega, by rw [hv_two k26 h1, if_pos hg]; exact h3, h4, by rw [hse]⟩
    · refine .inr ⟨fun w o h2 h3 h4 h5 => ?_, rfl⟩
      rw [hv_two k26 h2, if_pos hg] at h4
      refine h1 w o h2 ?_ h4 h5
      unfold tm at h4
      split at h4
      · omega
      · omega
  · have hh1 : 0 < hv V kk b i j 1 := by rw [hv_one k26]; exact hp
    have hfin : ∀ {r : Int64}, ((∃ o, Rw V (.inner n kk v x y) (i + bN b) (j - bN b) 1 o ∧ r = lN o) ∨ ((∀ o, ¬ Rw V (.inner n kk v x y) (i + bN b) (j - bN b) 1 o) ∧ r = -1)) → ((∃ w o, 1 ≤ w ∧ w ≤ j - i ∧ 0 < hv V kk b i j w ∧ Rw V (.inner n kk v x y) (i + bN b) (j - bN b) w o ∧ r = lN (sm (hv V kk b i j) 1 (w - 1) + o)) ∨
       ((∀ w o, 1 ≤ w → w ≤ j - i → 0 < hv V kk b i j w → ¬ Rw V (.inner n kk v x y) (i + bN b) (j - bN b) w o) ∧ r = -1)) := by
      rintro r (⟨o, h1, rfl⟩ | ⟨h1, rfl⟩)
      · exact .inl ⟨1, o, by omega, by omega, hh1, h1, by simp [sm]⟩
      · refine .inr ⟨fun w o h2 h3 h4 => ?_, rfl⟩
        by_cases e : w = 1
        · subst e
          exact h1 o
        · rw [hv_no k26 e] at h4
          omega
    have hne : ∀ {c : Nat}, kk ≠ c → c < 100 → ¬ nI kk = nI c := fun {c} q hc z => q ((nI_eq (by omega) (by omega)).mp z)
    rw [decide_eq_false k26, if_pos (by decide), ic_lit]
    simp only [am_ix_nI hi9 (show 450 < 2 ^ 31 by omega), ek]
    by_cases k1 : kk = 1
    · subst k1
      rw [tr_vI_1] at ev
      have hnum := (cP_1 hcp).1
      have hie := isNum_e hnum
      have hdg := num_dg hnum
      rw [if_pos rfl, ic_lit, mm_inNum (N := N) (f := f + 2) hE (by omega) (fun m h1 h2 => (hie.2.2.2 m h1 h2).1) hi9 ev (nI (i + bN b)) (j - bN b - (i + bN b)) (i + bN b) N 0 (Nat.le_refl _) (by omega) (by omega)]
      by_cases e : v = numV V.1 (i + bN b) (j - bN b - (i + bN b)) 0
      · rw [if_pos (by rw [e])]
        exact ⟨_, rfl, hfin (.inl ⟨0, .inr (.inl ⟨rfl, e, rfl⟩), rfl⟩)⟩
      · rw [if_neg (fun q => e ((nI_eq (by omega) (by omega)).mp q).symm)]
        refine ⟨_, rfl, hfin (.inr ⟨?_, rfl⟩)⟩
        rintro o (⟨q, -⟩ | ⟨-, q, -⟩ | ⟨q, -⟩ | ⟨q, -⟩ | ⟨q, -⟩ | ⟨q, -⟩)
        · omega
        · exact e q
        all_goals omega
    · rw [if_neg (hne k1 (by omega))]
      by_cases k0 : kk = 0
      · subst k0
        rw [tr_vI_0] at ev
        rw [if_pos nI_0, am_ix_nI (by omega) (by omega), hea, ev]
        by_cases e : v = V.1 (i + bN b)
        · rw [if_pos (by rw [e])]
          exact ⟨_, rfl, hfin (.inl ⟨0, .inl ⟨rfl, e, rfl⟩, rfl⟩)⟩
        · rw [if_neg (fun q => e ((nI_eq (by omega) (by omega)).mp q).symm)]
          refine ⟨_, rfl, hfin (.inr ⟨?_, rfl⟩)⟩
          rintro o (⟨-, q, -⟩ | ⟨q, -⟩ | ⟨q, -⟩ | ⟨q, -⟩ | ⟨q, -⟩ | ⟨q, -⟩)
          · exact e q
          all_goals omega
      · rw [if_neg (fun q => k0 ((nI_eq0 (by omega)).mp q)), ic_lit]
        have hxl : tr_lf x = false := by
          rcases h3 with ⟨q, -⟩ | ⟨q, -⟩ | ⟨-, -, -, p, q⟩ | ⟨-, -, p, -⟩ | ⟨-, -, p, -⟩
          · omega
          · omega
          · exact p
          · exact p
          · exact p
        by_cases k9 : kk = 9
        · subst k9
          rw [tr_vI_9] at ev
          have h9 := cP_9 hcp
          rw [if_pos rfl, am_ix_nI (by omega) (by omega), hea, ev]
          by_cases e : v = V.1 (i + bN b)
          · obtain ⟨q1, e1, p1⟩ := hX hxl (f + 2) (by omega) _ (i + bN b + 2) (j - bN b) hx (by omega) (by omega)
            rw [if_pos (by rw [e]), ic_lit, nI_add, e1, am_cl_ok]
            refine ⟨q1, rfl, hfin ?_⟩
            rcases p1 with ⟨kx, rx, rfl⟩ | ⟨nx, rfl⟩
            · exact .inl ⟨kx, .inr (.inr (.inr (.inr (.inr ⟨rfl, e, rx⟩)))), rfl⟩
            · refine .inr ⟨?_, rfl⟩
              rintro o (⟨q, -⟩ | ⟨q, -⟩ | ⟨-, q, -⟩ | ⟨q, -⟩ | ⟨q, -⟩ | ⟨-, -, q⟩)
              · omega
              · omega
              · omega
              · omega
              · omega
              · exact nx o q
          · rw [if_neg (fun q => e ((nI_eq (by omega) (by omega)).mp q).symm)]
            refine ⟨_, rfl, hfin (.inr ⟨?_, rfl⟩)⟩
            rintro o (⟨q, -⟩ | ⟨q, -⟩ | ⟨-, q, -⟩ | ⟨q, -⟩ | ⟨q, -⟩ | ⟨-, q, -⟩)
            · omega
            · omega
            · omega
            · omega
            · omega
            · exact e q
        · rw [if_neg (hne k9 (by omega)), ic_lit]
          by_cases k8 : kk = 8
          · subst k8
            have h8 := cP_8 hcp
            obtain ⟨q1, e1, p1⟩ := hX hxl (f + 2) (by omega) _ (i + bN b + 1) (j - bN b - 1) hx (by omega) (by omega)
            rw [if_pos rfl, jX6_inner_192_191_eq, jX6_inner_192_eq, nI_add, nI_subI (by omega), e1, am_cl_ok]
            refine ⟨q1, rfl, hfin ?_⟩
            rcases p1 with ⟨kx, rx, rfl⟩ | ⟨nx, rfl⟩
            · exact .inl ⟨kx, .inr (.inr (.inr (.inr (.inl ⟨rfl, rx⟩)))), rfl⟩
            · refine .inr ⟨?_, rfl⟩
              rintro o (⟨q, -⟩ | ⟨q, -⟩ | ⟨-, q, -⟩ | ⟨q, -⟩ | ⟨-, q⟩ | ⟨q, -⟩)
              · omega
              · omega
              · omega
              · omega
              · exact nx o q
              · omega
          · obtain rfl : kk = 7 := by omega
            have h7 := cP_7 hcp
            obtain ⟨q1, e1, p1⟩ := hX hxl (f + 2) (by omega) _ (i + bN b + 1) (j - bN b) hx (by omega) (by omega)
            rw [if_neg (by decide), jX6_inner_192_eq, nI_add, e1, am_cl_ok]
            refine ⟨q1, rfl, hfin ?_⟩
            rcases p1 with ⟨kx, rx, rfl⟩ | ⟨nx, rfl⟩
            · exact .inl ⟨kx, .inr (.inr (.inr (.inl ⟨rfl, rx⟩))), rfl⟩
            · refine .inr ⟨?_, rfl⟩
              rintro o (⟨q, -⟩ | ⟨q, -⟩ | ⟨-, q, -⟩ | ⟨-, q⟩ | ⟨q, -⟩ | ⟨q, -⟩)
              · omega
              · omega
              · omega
              · exact nx o q
              · omega
              · omega
/-- the lesser numbers are added -/
theorem mm_rkAdd {f i j r : Nat} (h20 : h ≤ 20) (hij : i < j) (hj : j ≤ h) (hT : mT μ V h (h + 1)) (v1 : Int32) (c : Nat) (hc : c ≤ 20) (hr : r ≤ 20000000) : ∀ (q e m : Nat), e + q = c → q < m →
    jX6_rank_97 (am_bk (mm_hop (mm_call N f)) am_no (some .long) kX6_rank m) (mm_call N f) μ v1 (nI i) (nI j) (nI c) (lN (sm (cc20 V (ct V) i j) 0 e + r)) (nI e) = some (.inl (some (.inl (.long (lN (sm (cc20 V (ct V) i j) 0 c + r))))), μ) := by
  have hl := ct_lt V (i := i) (j := j) (by omega)
  have hSS : ∀ c, c ≤ 20 → sm (cc20 V (ct V) i j) 0 c ≤ 20000000 := fun c hc => by
    have := sm_mono (f := cc20 V (ct V) i j) 0 hc
    rw [ct_eq V hij] at hl
    unfold cS at hl
    omega
  intro q
  induction q with
  | zero =>
    intro e m he hm
    obtain rfl : e = c := by omega
    have := hSS e (by omega)
    rw [jX6_rank_97_eq, if_pos (Int32.le_refl _), jX6_rank_139_104_eq, jX6_rank_139_eq, if_neg (lcn (by omega))]
  | succ q ih =>
    intro e m he hm
    obtain ⟨m, rfl⟩ : ∃ m', m = m' + 1 := ⟨m - 1, by omega⟩
    have := hSS e (by omega)
    have hs : sm (cc20 V (ct V) i j) 0 (e + 1) = sm (cc20 V (ct V) i j) 0 e + cc20 V (ct V) i j e := by
      rw [sm_app]
      simp [sm]
    have hm := (hT i j hij hj (by omega)).2 e (by omega)
    rw [jX6_rank_97_eq, if_neg (nI_ge (by omega) (by omega)), if_neg (lcn (by omega)), ic_lit, ic_lit, nI_mulI, nI_add, nI_mulI, nI_add, am_ix_nI (by omega) (by omega), hm, ic_lit, nI_add, lN_add, jX6_rank_97_bk, show sm (cc20 V (ct V) i j) 0 e + r + cc20 V (ct V) i j e = sm (cc20 V (ct V) i j) 0 (e + 1) + r by omega]
    exact ih (e + 1) m (by omega) (by omega)
theorem mm_rank (hN : 1000 ≤ N) : ∀ (t : Tr) (i j : Nat) (μ : mm_S) (lo hi : Nat) (ix : Int32) (f : Nat), tr_wf t → tr_lf t = false → mr μ lo hi t ix → hi ≤ 450 → tr_sz t < 1000 → mE μ V h → mT μ V h (h + 1) → i < j → j ≤ h → 3 * tr_dp t + 4 ≤ f →
    ∃ q, mm_call N (f) 52 [.inl (.ref 0), .inl (.int (ix)), .inl (.int (nI i)), .inl (.int (nI j))] (μ) = some (.inl (some (.inl (.long (q)))), μ) ∧ plA V t i j q := by
  intro t
  induction t with
  | leaf => intro i j μ lo hi ix f _ hn; cases hn
  | inner n kk v x y ihx ihy =>
    intro i j μ lo hi ix f hwf ht0 hr hh hsz hE hT hij hj hf
    have h20 := hE.1
    have hwv := tr_wf_v hwf
    have hr' := hr
    obtain ⟨idx, _, hidx, rfl, ek, ev, es, ed, hx, hy⟩ := hr'
    have hi9 : idx < 450 := by omega
    simp only [tr_dp] at hf
    have hszx : tr_sz x < 1000 ∧ tr_sz y < 1000 := by simp only [tr_sz] at hsz; omega
    obtain ⟨f, rfl⟩ : ∃ f', f = f' + 4 := ⟨f - 4, by omega⟩
    have hl := ct_lt V (i := i) (j := j) (by omega)
    have hin := fun (b : Bool) hp => mm_inner (N := N) (f := f) (n := n) (v := v) (b := b) hN hE hT hwf hr hh hij hj hp (fun q f' hf' ix a b hm h1 h2 => ihx a b μ lo hi ix f' hwf.1 q hm hh hszx.1 hE hT h1 h2 (by omega)) (fun q f' hf' ix a b hm h1 h2 => ihy a b μ lo hi ix f' hwf.2.1 q hm hh hszx.2 hE hT h1 h2 (by omega))
    rw [dX6_rank_eq]
    unfold dX6_rank
    rw [am_ix_nI hi9 (by omega), es, nI_subI (by omega)]
    by_cases hsj : tr_sz (.inner n kk v x y) ≤ j - i
    · rw [if_pos (nI_le hsj (by omega)), am_ix_nI hi9 (by omega), ek, ic_lit, nI_mulI]
      -- a number c
      have hc : ∀ (b : Bool) (m : Nat) (o5 o7 : Option am_V) (P : am_R mm_S → Prop), 60 ≤ m → (∀ w o, 1 ≤ w → w ≤ j - i → 0 < hv V kk b i j w → Rw V (.inner n kk v x y) (i + bN b) (j - bN b) w o → P (some (.inl (some (.inl (.long (lN (sm (cc20 V (ct V) i j) 0 (2 * kk + bN b) + (sm (hv V kk b i j) 1 (w - 1) + o)))))), μ))) → ((∀ w o, 1 ≤ w → w ≤ j - i → 0 < hv V kk b i j w → ¬ Rw V (.inner n kk v x y) (i + bN b) (j - bN b) w o) → ∀ o5 o7, P (am_bk (mm_hop (mm_call N (f + 3))) am_no (some .long) kX6_rank m 26 [some (.inl (.ref 0)), some (.inl (.int (nI idx))), some (.inl (.int (nI i))), some (.inl (.int (nI j))), some (.inl (.int (nI (2 * kk + bN b + 1)))), o5, none, o7] [] μ)) →
          P (jX6_rank_26 (am_bk (mm_hop (mm_call N (f + 3))) am_no (some .long) kX6_rank m) (mm_call N (f + 3)) μ (nI idx) (nI i) (nI j) (nI (2 * kk + bN b)) o5 o7) := by
        intro b m o5 o7 P hm hP hQ
        have hbN : bN b ≤ 1 := by cases b <;> simp [bN]
        have hmc := (hT i j hij hj (by omega)).2 (2 * kk + bN b) (by omega)
        rw [cc20_b] at hmc
        have hcl := cK_le (V := V) kk b i j hwv.1
        have hcc : cK V (ct V) kk b i j ≤ 20000000 := by
          rw [ct_eq V hij] at hl
          omega
        rw [jX6_rank_26_eq, am_ix_nI hi9 (by omega), ek, ic_lit, nI_mulI, nI_add, if_neg (nI_ge (by omega) (by omega)), ic_lit, ic_lit, nI_mulI, nI_add, nI_mulI, nI_add, am_ix_nI (by omega) (by omega), hmc]
        by_cases h0 : cK V (ct V) kk b i j = 0
        · rw [if_pos ((lcz (by omega)).mpr h0), jX6_rank_149_63_eq, jX6_rank_149_eq, ic_lit, nI_add]
          refine hQ (fun w o h1 h2 h3 h4 => ?_) _ _
          have := (Rd_of hij hwf h1 h2 h3 h4).2
          have hs := sm_mono (f := hv V kk b i j) (n := w) (m := j - i) 1 h2
          rw [hv_sum V hij, sm_last (by omega), show 1 + w - 1 = w by omega] at hs
          omega
        · rw [if_neg (fun z => h0 ((lcz (by omega)).mp z)), am_dz_nI (by omega)]
          have hrem : nI (2 * kk + bN b) - nI (2 * kk + bN b) / nI 2 * nI 2 = nI (bN b) := by rw [pk_rem (by omega) (by omega) (by omega)]; exact congrArg nI (by omega)
          rw [hrem]
          obtain ⟨r, e, hr⟩ := hin b (by omega)
          have hcont : P (jX6_rank_92 (am_bk (mm_hop (mm_call N (f + 3))) am_no (some .long) kX6_rank m) (mm_call N (f + 3)) μ (nI idx) (nI i) (nI j) (nI (2 * kk + bN b)) o5 o7 r) := by
            rw [jX6_rank_92_eq, ic_lit]
            rcases hr with ⟨w, o, h1, h2, h3, h4, rfl⟩ | ⟨h1, rfl⟩
            · have ho := (Rd_of hij hwf h1 h2 h3 h4).2
              have hs := sm_mono (f := hv V kk b i j) (n := w) (m := j - i) 1 h2
              rw [hv_sum V hij, sm_last (by omega), show 1 + w - 1 = w by omega] at hs
              have := mm_rkAdd (N := N) (f := f + 3) (V := V) (h := h) (r := sm (hv V kk b i j) 1 (w - 1) + o) h20 hij hj hT (nI idx) (2 * kk + bN b) (by omega) (by omega) (2 * kk + bN b) 0 m (by omega) (by omega)
              rw [show sm (cc20 V (ct V) i j) 0 0 = 0 from rfl, Nat.zero_add] at this
              rw [this]
              exact hP w o h1 h2 h3 h4
            · rw [jX6_rank_97_eq]
              by_cases hz : 2 * kk + bN b = 0
              · rw [if_pos (nI_le (by omega) (by omega)), jX6_rank_139_104_eq, jX6_rank_139_eq, if_pos lcm1n, jX6_rank_149_146_eq, jX6_rank_149_eq, ic_lit, nI_add]
                exact hQ h1 _ _
              · rw [if_neg (nI_ge (by omega) (by omega)), if_pos lcm1n, jX6_rank_139_111_eq, jX6_rank_139_eq, if_pos lcm1n, jX6_rank_149_146_eq, jX6_rank_149_eq, ic_lit, nI_add]
                exact hQ h1 _ _
          cases b with
          | false =>
            rw [if_neg (by decide)]
            simp only [bN_f, Nat.add_zero, Nat.sub_zero] at e
            rw [e, am_cl_ok]
            exact hcont
          | true =>
            rw [if_pos (by decide), ic_lit, nI_add, nI_subI (by omega)]
            rw [bN_t] at e
            rw [e, am_cl_ok, jX6_rank_92_85_eq]
            exact hcont
      have hfin : ∀ b w' o, w' ≥ 1 → w' ≤ j - i → 0 < hv V kk b i j w' → Rw V (.inner n kk v x y) (i + bN b) (j - bN b) w' o → ∃ q, (some (.inl (some (.inl (.long (lN (sm (cc20 V (ct V) i j) 0 (2 * kk + bN b) + (sm (hv V kk b i j) 1 (w' - 1) + o)))))), μ) : am_R mm_S) = some (.inl (some (.inl (.long (q)))), μ) ∧ plA V (.inner n kk v x y) i j q := fun b w' o h1 h2 h3 h4 => ⟨_, rfl, .inl ⟨_, (Rd_of hij hwf h1 h2 h3 h4).1, rfl⟩⟩
      refine hc false N none none (fun r => ∃ q, r = some (.inl (some (.inl (.long (q)))), μ) ∧ plA V (.inner n kk v x y) i j q) (by omega) (fun w o h1 h2 h3 h4 => hfin false w o h1 h2 h3 h4) (fun hno0 o5 o7 => ?_)
      obtain ⟨m, hm⟩ : ∃ m, N = m + 1 := ⟨N - 1, by omega⟩
      rw [hm, jX6_rank_26_bk, ← hm]
      refine hc true m o5 o7 (fun r => ∃ q, r = some (.inl (some (.inl (.long (q)))), μ) ∧ plA V (.inner n kk v x y) i j q) (by omega) (fun w o h1 h2 h3 h4 => hfin true w o h1 h2 h3 h4) (fun hno1 o5 o7 => ?_)
      obtain ⟨m, rfl⟩ : ∃ z, m = z + 1 := ⟨m - 1, by omega⟩
      rw [jX6_rank_26_bk, jX6_rank_26_eq, am_ix_nI hi9 (by omega), ek, ic_lit, nI_mulI, nI_add, if_pos (nI_le (by rw [bN_t]; omega) (by rw [bN_t]; omega))]
      refine ⟨_, rfl, .inr ⟨fun k hk => ?_, rfl⟩⟩
      obtain ⟨b, w, o, a1, a2, a3, a4, -⟩ := Rd_to hk
      cases b with
      | false => exact hno0 w o a1 a2 a3 a4
      | true => exact hno1 w o a1 a2 a3 a4
    · rw [if_neg (nI_ge (by omega) (by omega))]
      exact ⟨_, rfl, .inr ⟨fun k hk => by have := Rd_sz hk; omega, rfl⟩⟩
end
