set_option maxRecDepth 100000
/-! A CHOICE OF WHAT IS KEPT, said by the component. -/
section
variable {N : Nat} {way n : Nat}
def cs_ck (σ σ' : cs_S) : Prop := (∀ j, j ≠ 103 → j ≠ 13 → σ'.1 j = σ.1 j) ∧ (∀ c, c ≠ 123 → σ'.2.1 c = σ.2.1 c) ∧ σ'.2.2 = σ.2.2
theorem cs_ck.rf (σ : cs_S) : cs_ck σ σ := ⟨fun _ _ _ => rfl, fun _ _ => rfl, rfl⟩
theorem cs_ck.tr {σ σ' σ'' : cs_S} (h : cs_ck σ σ') (h' : cs_ck σ' σ'') : cs_ck σ σ'' := ⟨fun j a b => (h'.1 j a b).trans (h.1 j a b), fun c a => (h'.2.1 c a).trans (h.2.1 c a), h'.2.2.trans h.2.2⟩
theorem cs_kw.ck {σ σ' : cs_S} (h : cs_kw 103 σ σ') : cs_ck σ σ' := ⟨fun j a _ => h.1 j a, fun c a => h.2.1 c a, h.2.2⟩
/-- what stands ready: the words so far, the choice, how many are left -/
def cs_rdy (way q : Nat) (l : List Nat) (σ : cs_S) : Prop := cw_ σ 103 l ∧ cs_i σ 12 = nI way ∧ cs_i σ 13 = nI q
def cs_ch (way q : Nat) (l a : List Nat) (σ : cs_S) (r : am_R cs_S) : Prop :=
  ((l ++ a).length ≤ 80 → ∃ σ', r = some (.inl none, σ') ∧ cs_rdy way q (l ++ a) σ' ∧ cs_ck σ σ') ∧ (80 < (l ++ a).length → ∃ σ', r = some (.inr (143), σ') ∧ cs_ck σ σ')
theorem cs_ch.nil {q : Nat} {l : List Nat} {σ : cs_S} (h : cs_rdy way q l σ) : cs_ch way q l [] σ (some (.inl none, σ)) := by
  refine ⟨fun _ => ⟨σ, rfl, by rw [List.append_nil]; exact h, cs_ck.rf σ⟩, fun z => ?_⟩
  rw [List.append_nil] at z
  have := h.1.2.1
  omega
theorem cs_ch.seq {q q' : Nat} {l a b : List Nat} {σ : cs_S} {r : am_R cs_S} {k : cs_S → am_R cs_S} (h : cs_ch way q l a σ r) (hk : ∀ σ', cs_rdy way q (l ++ a) σ' → cs_ch way q' (l ++ a) b σ' (k σ')) : cs_ch way q' l (a ++ b) σ (am_cv r am_tx k) := by
  by_cases h1 : (l ++ a).length ≤ 80
  · obtain ⟨σ', rfl, hw, hk1⟩ := h.1 h1
    obtain ⟨h3, h4⟩ := hk σ' hw
    rw [am_cv_ok]
    refine ⟨fun z => ?_, fun z => ?_⟩
    · obtain ⟨σ2, e, hw2, hk2⟩ := h3 (by rw [List.append_assoc]; exact z)
      exact ⟨σ2, e, by rw [← List.append_assoc]; exact hw2, hk1.tr hk2⟩
    · obtain ⟨σ2, e, hk2⟩ := h4 (by rw [List.append_assoc]; exact z)
      exact ⟨σ2, e, hk1.tr hk2⟩
  · obtain ⟨σ', rfl, hk1⟩ := h.2 (by omega)
    refine ⟨fun z => ?_, fun _ => ⟨σ', rfl, hk1⟩⟩
    rw [← List.append_assoc, List.length_append] at z
    omega
theorem cs_ch.ret {q : Nat} {l a : List Nat} {σ : cs_S} {r : am_R cs_S} (h : cs_ch way q l a σ r) : cs_ch way q l a σ (am_cv r am_tx fun s => some (.inl none, s)) := by
  have := h.seq (b := []) (k := fun s => some (.inl none, s)) (fun σ' hw => cs_ch.nil hw)
  rw [List.append_nil] at this
  exact this
theorem cs_sy.ch {q : Nat} {l a : List Nat} {σ : cs_S} {r : am_R cs_S} (h : cs_sy 103 l a σ r) (hr : cs_rdy way q l σ) : cs_ch way q l a σ r := by
  refine ⟨fun z => ?_, fun z => ?_⟩
  · obtain ⟨σ', e, hw, hk⟩ := h.1 z
    exact ⟨σ', e, ⟨hw, (hk.1 12 (by omega)).trans hr.2.1, (hk.1 13 (by omega)).trans hr.2.2⟩, hk.ck⟩
  · obtain ⟨σ', l', e, hw, hk⟩ := h.2 z
    exact ⟨σ', e, hk.ck⟩
theorem ch_say {f q a : Nat} {l : List Nat} {σ : cs_S} (hr : cs_rdy way q l σ) (ha : a < 128) : cs_ch way q l [a] σ (cs_call N (f + 1) 64 [.inl (.ref 103), .inl (.int (nI a))] (σ)) := (cs_say_ (.inl rfl) hr.1 ha).ch hr
/-- if P, then a word, then on -/
theorem ch_opt {f q q' a : Nat} {P Q : Prop} [Decidable P] [Decidable Q] {l b : List Nat} {σ : cs_S} {k : cs_S → am_R cs_S} {r : am_R cs_S} (hPQ : Q ↔ P) (hr : cs_rdy way q l σ) (ha : a < 128) (hk : ∀ l σ, cs_rdy way q l σ → cs_ch way q' l b σ (k σ)) (hrk : r = k σ) :
    cs_ch way q' l ((if P then [a] else []) ++ b) σ (if Q then am_cv (cs_call N (f + 1) 64 [.inl (.ref 103), .inl (.int (nI a))] (σ)) am_tx k else r) := by
  by_cases h : P
  · rw [if_pos (hPQ.mpr h), if_pos h]
    exact (ch_say hr ha).seq fun σ' h' => hk _ σ' h'
  · rw [if_neg (fun z => h (hPQ.mp z)), if_neg h, hrk]
    exact hk l σ hr
theorem nI_iff {a b : Nat} (ha : a < 2 ^ 31) (hb : b < 2 ^ 31) : nI a = nI b ↔ a = b := nI_eq ha hb
theorem cs_tell0 {f q d nn v : Nat} {x y : Tr} {l : List Nat} {σ : cs_S} (hr : cs_rdy way q l σ) (hv : v ≤ 9) : cs_ch way q l [v] σ (cs_call N (f + 2) 77 [.inr (.inner nn 0 v x y), .inl (.ref 103), .inl (.ref 105), .inl (.int (nI d))] (σ)) := by
  rw [dX8_tells_eq]
  unfold dX8_tells
  simp (disch := omega) only [ic_lit, ic_m1, ic_m2, ic_m3, am_ix_nI, am_ci_ok, am_cl_ok, am_cv_ok, am_ct_ok, am_dz_nI, nI_inj, nI_leI', nI_ltI', nI_lt0, nI_ge0, nI_eq0, nI_le0, nI_gt0, m2lt, m2ge, m2eq, eq_m2, nI_add, nI_subI, nI_mulI, b2_eq0, b2_eq1, b2_and1, band1, band0, if_true, if_false, ite_true, ite_false, cond_true, cond_false, ↓reduceIte, Nat.reduceAdd, Nat.reduceMul, Nat.reduceSub, Nat.reduceEqDiff, lN_lt', lN_le', lN_inj, lc_lt, lc_gt, lc_le, lc_ge, lc_eq, Nat.reduceLT, Nat.reduceLeDiff, reduceCtorEq, Nat.add_zero, Nat.zero_add, show tr_in 0 1 (.inner nn 0 v x y) = true from rfl, show cs_isW 103 = true from rfl, tr_vi]
  exact (ch_say hr (by omega)).ret
theorem cs_tell1 {f q d nn v : Nat} {x y : Tr} {l : List Nat} {σ : cs_S} (hr : cs_rdy way q l σ) (hv : v ≤ 9999) (hN : 5 ≤ N) : cs_ch way q l (dgl v (dg v - 1)) σ (cs_call N (f + 2) 79 [.inr (.inner nn 1 v x y), .inl (.ref 103), .inl (.ref 105), .inl (.int (nI d))] (σ)) := by
  refine cs_sy.ch ?_ hr
  have hl := hr.1
  rw [dX9_tells_eq]
  unfold dX9_tells
  have hdg := fun e he => cs_digits (N := N) (t := .inner nn 1 v x y) (v := v) (.inl rfl) rfl rfl hv f (nI d) e N l σ he (by omega) hl
  simp (disch := omega) only [ic_lit, ic_m1, ic_m2, ic_m3, am_ix_nI, am_ci_ok, am_cl_ok, am_cv_ok, am_ct_ok, am_dz_nI, nI_inj, nI_leI', nI_ltI', nI_lt0, nI_ge0, nI_eq0, nI_le0, nI_gt0, m2lt, m2ge, m2eq, eq_m2, nI_add, nI_subI, nI_mulI, b2_eq0, b2_eq1, b2_and1, band1, band0, if_true, if_false, ite_true, ite_false, cond_true, cond_false, ↓reduceIte, Nat.reduceAdd, Nat.reduceMul, Nat.reduceSub, Nat.reduceEqDiff, lN_lt', lN_le', lN_inj, lc_lt, lc_gt, lc_le, lc_ge, lc_eq, Nat.reduceLT, Nat.reduceLeDiff, reduceCtorEq, Nat.add_zero, Nat.zero_add, show tr_in 0 1 (.inner nn 1 v x y) = true from rfl, tr_vi, jX9_tells_45_44_eq, jX9_tells_45_30_eq, jX9_tells_45_16_eq, jX9_tells_45_eq]
  by_cases c1 : v < 10
  · have e : dg v = 1 := by unfold dg; rw [if_pos c1]
    rw [if_pos (show v ≤ 999 by omega), if_pos (show v ≤ 99 by omega), if_pos (show v ≤ 9 by omega), e]
    exact hdg 0 (by omega)
  · by_cases c2 : v < 100
    · have e : dg v = 2 := by unfold dg; rw [if_neg c1, if_pos c2]
      rw [if_pos (show v ≤ 999 by omega), if_pos (show v ≤ 99 by omega), if_neg (show ¬ v ≤ 9 by omega), e]
      exact hdg 1 (by omega)
    · by_cases c3 : v < 1000
      · have e : dg v = 3 := by unfold dg; rw [if_neg c1, if_neg c2, if_pos c3]
        rw [if_pos (show v ≤ 999 by omega), if_neg (show ¬ v ≤ 99 by omega), e]
        exact hdg 2 (by omega)
      · have e : dg v = 4 := by unfold dg; rw [if_neg c1, if_neg c2, if_neg c3]
        rw [if_neg (show ¬ v ≤ 999 by omega), e]
        exact hdg 3 (by omega)
theorem cs_chooses {g : Nat → Nat → Bool} (hway : way < 2 ^ 31) (hn : n ≤ 30) (hg : ∀ k m, m < n → g m k = way.testBit (n - 1 - m)) (hN : 5 ≤ N) : ∀ (t : Tr) (m b : Nat) (l : List Nat) (σ : cs_S) (f : Nat), tr_wf t → tr_lf t = false → cs_rdy way (n - m) l σ → m + kc t ≤ n → tr_dp t ≤ b → tr_dp t + 3 ≤ f →
    cs_ch way (n - (m + kc t)) l (wsd g t m b) σ (cs_call N (f) 48 [.inl (.ref 0), .inr (t)] (σ)) := by
  intro t
  induction t with
  | leaf => intro m b l σ f _ h; cases h
  | inner nn k v x y ihx ihy =>
    intro m b l σ f hw hl hr hm hb hf
    obtain ⟨f, rfl⟩ : ∃ f', f = f' + 3 := ⟨f - 3, by omega⟩
    have hwv := tr_wf_v hw
    have hnd := tr_nd_wf hw hl
    simp only [tr_dp] at hb hf
    simp only [kc] at hm
    obtain ⟨b, rfl⟩ : ∃ b', b = b' + 1 := ⟨b - 1, by omega⟩
    have hkt : kc (.inner nn k v x y) = (if mk k then 1 else 0) + kc x + kc y := rfl
    generalize hM : m + (if mk k then 1 else 0) = M at *
    have hMk : m + kc (.inner nn k v x y) = M + kc x + kc y := by rw [hkt]; omega
    rw [hMk]
    obtain ⟨wx, wy, wk⟩ := id hw
    -- from the end
    have h210 : ∀ (kp : Bool) back l σ, cs_rdy way (n - (M + kc x + kc y)) l σ → cs_ch way (n - (M + kc x + kc y)) l (if kp then [30] else []) σ (jX1_chooses_210 back (cs_call N (f + 2)) σ (.inner nn k v x y) (b2 kp)) := by
      intro kp back l σ hr
      rw [jX1_chooses_210_eq]
      cases kp with
      | false =>
        rw [if_pos b2f0]
        exact cs_ch.nil hr
      | true =>
        rw [if_neg b2t0, show ic 30 = nI 30 from rfl]
        exact (ch_say hr (by omega)).ret
    have h192 : ∀ (kp : Bool) back l σ, cs_rdy way (n - (M + kc x + kc y)) l σ → cs_ch way (n - (M + kc x + kc y)) l ((if k = 8 then [27] else []) ++ (if kp then [30] else [])) σ (jX1_chooses_192 back (cs_call N (f + 2)) σ (.inner nn k v x y) (b2 kp)) := by
      intro kp back l σ hr
      rw [jX1_chooses_192_eq, hnd, cond_true, tr_ki, show ic 8 = nI 8 from rfl, show ic 27 = nI 27 from rfl]
      exact ch_opt (nI_iff (by omega) (by omega)) hr (by omega) (fun l σ hr => h210 kp _ l σ hr) rfl
    have h161 : ∀ (kp : Bool) back l σ, cs_rdy way (n - (M + kc x)) l σ → cs_ch way (n - (M + kc x + kc y)) l ((if tr_lf y then [] else [18 + k] ++ wsd g y (M + kc x) b) ++ ((if k = 8 then [27] else []) ++ (if kp then [30] else []))) σ (jX1_chooses_161 back (cs_call N (f + 2)) σ (.inner nn k v x y) (b2 kp)) := by
      intro kp back l σ hr
      rw [jX1_chooses_161_eq, hnd, cond_true, tr_ki, cs_vyi hw, am_ct_ok]
      cases qy : tr_lf y with
      | true =>
        have hy0 : kc y = 0 := by
          cases y with
          | leaf => rfl
          | inner _ _ _ _ _ => cases qy
        rw [cond_true, if_pos rfl, List.nil_append, jX1_chooses_192_168_eq]
        exact h192 kp _ l σ (by rw [hy0, Nat.add_zero]; exact hr)
      | false =>
        have k2 : 2 ≤ k := by rcases wk with a | a | a | a | a <;> first | omega | (rw [qy] at a; simp at a)
        rw [cond_false, cond_true, if_neg (by decide), show ic 20 = nI 20 from rfl, ic_v2, nI_add, nI_subI (by omega), show 20 + k - 2 = 18 + k by omega, List.append_assoc]
        refine (ch_say hr (by omega)).seq fun σ1 hr1 => ?_
        rw [cond_true, cs_vyi hw, am_ct_ok]
        exact (ihy (M + kc x) b _ σ1 (f + 2) wy qy hr1 (by omega) (by omega) (by omega)).seq fun σ2 hr2 => h192 kp _ _ σ2 hr2
    have h130 : ∀ (kp : Bool) back l σ, cs_rdy way (n - M) l σ → cs_ch way (n - (M + kc x + kc y)) l ((if tr_lf x then (if k = 0 then [v] else dgl v (dg v - 1)) else wsd g x M b) ++ ((if tr_lf y then [] else [18 + k] ++ wsd g y (M + kc x) b) ++ ((if k = 8 then [27] else []) ++ (if kp then [30] else [])))) σ (jX1_chooses_130 back (cs_call N (f + 2)) σ (.inner nn k v x y) (b2 kp)) := by
      intro kp back l σ hr
      rw [jX1_chooses_130_eq, hnd, cond_true, tr_ki, cs_vxi hw, am_ct_ok]
      cases qx : tr_lf x with
      | true =>
        have hx0 : kc x = 0 := by
          cases x with
          | leaf => rfl
          | inner _ _ _ _ _ => cases qx
        have k01 : (k = 0 ∧ v ≤ 9) ∨ (k = 1 ∧ v ≤ 9999) := by
          rcases wk with a | a | a | a | a
          · exact .inl ⟨a.1, a.2.1⟩
          · exact .inr ⟨a.1, a.2.1⟩
          · rw [qx] at a; simp at a
          · rw [qx] at a; simp at a
          · rw [qx] at a; simp at a
        rw [cond_true, cond_true, if_pos rfl]
        rcases k01 with ⟨rfl, hv⟩ | ⟨rfl, hv⟩
        · rw [if_pos rfl]
          refine (cs_tell0 hr hv).seq fun σ1 hr1 => ?_
          rw [jX1_chooses_161_153_eq]
          exact h161 kp _ _ σ1 (by rw [hx0, Nat.add_zero]; exact hr1)
        · rw [if_neg (by decide)]
          refine (cs_tell1 hr hv hN).seq fun σ1 hr1 => ?_
          rw [jX1_chooses_161_153_eq]
          exact h161 kp _ _ σ1 (by rw [hx0, Nat.add_zero]; exact hr1)
      | false =>
        rw [cond_false, cond_true, cs_vxi hw, am_ct_ok, if_neg (by decide)]
        exact (ihx M b l σ (f + 2) wx qx hr (by omega) (by omega) (by omega)).seq fun σ1 hr1 => h161 kp _ _ σ1 hr1
    have h112 : ∀ (kp : Bool) back l σ, cs_rdy way (n - M) l σ → cs_ch way (n - (M + kc x + kc y)) l ((if k = 8 then [26] else []) ++ ((if tr_lf x then (if k = 0 then [v] else dgl v (dg v - 1)) else wsd g x M b) ++ ((if tr_lf y then [] else [18 + k] ++ wsd g y (M + kc x) b) ++ ((if k = 8 then [27] else []) ++ (if kp then [30] else []))))) σ (jX1_chooses_112 back (cs_call N (f + 2)) σ (.inner nn k v x y) (b2 kp)) := by
      intro kp back l σ hr
      rw [jX1_chooses_112_eq, hnd, cond_true, tr_ki, show ic 8 = nI 8 from rfl, show ic 26 = nI 26 from rfl]
      exact ch_opt (nI_iff (by omega) (by omega)) hr (by omega) (fun l σ hr => h130 kp _ l σ hr) rfl
    have h94 : ∀ (kp : Bool) back l σ, cs_rdy way (n - M) l σ → cs_ch way (n - (M + kc x + kc y)) l ((if k = 7 then [25] else []) ++ ((if k = 8 then [26] else []) ++ ((if tr_lf x then (if k = 0 then [v] else dgl v (dg v - 1)) else wsd g x M b) ++ ((if tr_lf y then [] else [18 + k] ++ wsd g y (M + kc x) b) ++ ((if k = 8 then [27] else []) ++ (if kp then [30] else [])))))) σ (jX1_chooses_94 back (cs_call N (f + 2)) σ (.inner nn k v x y) (b2 kp)) := by
      intro kp back l σ hr
      rw [jX1_chooses_94_eq, hnd, cond_true, tr_ki, show ic 7 = nI 7 from rfl, show ic 25 = nI 25 from rfl]
      exact ch_opt (nI_iff (by omega) (by omega)) hr (by omega) (fun l σ hr => h112 kp _ l σ hr) rfl
    have h76 : ∀ (kp : Bool) back l σ, cs_rdy way (n - M) l σ → cs_ch way (n - (M + kc x + kc y)) l ((if k = 9 then [28] else []) ++ ((if k = 7 then [25] else []) ++ ((if k = 8 then [26] else []) ++ ((if tr_lf x then (if k = 0 then [v] else dgl v (dg v - 1)) else wsd g x M b) ++ ((if tr_lf y then [] else [18 + k] ++ wsd g y (M + kc x) b) ++ ((if k = 8 then [27] else []) ++ (if kp then [30] else []))))))) σ (jX1_chooses_76 back (cs_call N (f + 2)) σ (.inner nn k v x y) (b2 kp)) := by
      intro kp back l σ hr
      rw [jX1_chooses_76_eq, hnd, cond_true, tr_ki, show ic 9 = nI 9 from rfl, show ic 28 = nI 28 from rfl]
      exact ch_opt (nI_iff (by omega) (by omega)) hr (by omega) (fun l σ hr => h94 kp _ l σ hr) rfl
    have h56 : ∀ (kp : Bool) back l σ, cs_rdy way (n - M) l σ → cs_ch way (n - (M + kc x + kc y)) l ((if k = 9 then [v] else []) ++ ((if k = 9 then [28] else []) ++ ((if k = 7 then [25] else []) ++ ((if k = 8 then [26] else []) ++ ((if tr_lf x then (if k = 0 then [v] else dgl v (dg v - 1)) else wsd g x M b) ++ ((if tr_lf y then [] else [18 + k] ++ wsd g y (M + kc x) b) ++ ((if k = 8 then [27] else []) ++ (if kp then [30] else [])))))))) σ (jX1_chooses_56 back (cs_call N (f + 2)) σ (.inner nn k v x y) (b2 kp)) := by
      intro kp back l σ hr
      rw [jX1_chooses_56_eq, hnd, cond_true, tr_ki, show ic 9 = nI 9 from rfl]
      by_cases k9 : k = 9
      · have hv : v ≤ 9 := by rcases wk with a | a | a | a | a <;> omega
        rw [if_pos (show nI k = nI 9 by rw [k9]), if_pos k9, cond_true, cs_vvi hw, am_ci_ok, show tr_vI k v = nI v by unfold tr_vI; rw [if_pos (by omega)]]
        exact (ch_say (a := v) hr (by omega)).seq fun σ1 hr1 => h76 kp _ _ σ1 hr1
      · rw [if_neg (show ¬ nI k = nI 9 from fun z => k9 ((nI_eq (by omega) (by omega)).mp z)), if_neg k9, List.nil_append, jX1_chooses_76_65_eq]
        exact h76 kp _ l σ hr
    have h43 : ∀ (kp : Bool) back l σ, cs_rdy way (n - M) l σ → kp = (mk k && g m k) → cs_ch way (n - (M + kc x + kc y)) l (wsd g (.inner nn k v x y) m (b + 1)) σ (jX1_chooses_43 back (cs_call N (f + 2)) σ (.inner nn k v x y) (b2 kp)) := by
      intro kp back l σ hr hkp
      have hA : wsd g (.inner nn k v x y) m (b + 1) = (if kp then [29] else []) ++ ((if k = 9 then [v] else []) ++ ((if k = 9 then [28] else []) ++ ((if k = 7 then [25] else []) ++ ((if k = 8 then [26] else []) ++ ((if tr_lf x then (if k = 0 then [v] else dgl v (dg v - 1)) else wsd g x M b) ++ ((if tr_lf y then [] else [18 + k] ++ wsd g y (M + kc x) b) ++ ((if k = 8 then [27] else []) ++ (if kp then [30] else [])))))))) := by
        rw [hkp]
        simp only [wsd, hM]
        rcases wk with ⟨rfl, -, qx, qy⟩ | ⟨rfl, -, qx, qy⟩ | ⟨k2, k6, -, qx, qy⟩ | ⟨rfl | rfl, -, qx, qy⟩ | ⟨rfl, -, qx, qy⟩
        · simp [qx, qy]
        · simp [qx, qy]
        · simp [qx, qy, show ¬ k = 0 by omega, show ¬ k = 1 by omega, show ¬ k = 9 by omega, show ¬ k = 7 by omega, show ¬ k = 8 by omega, k6]
        · simp [qx, qy]
        · simp [qx, qy]
        · simp [qx, qy]
      rw [hA, jX1_chooses_43_eq]
      cases kp with
      | false =>
        rw [if_pos b2f0, jX1_chooses_56_47_eq]
        exact h56 false _ l σ hr
      | true =>
        rw [if_neg b2t0, show ic 29 = nI 29 from rfl]
        exact (ch_say hr (by omega)).seq fun σ1 hr1 => h56 true _ _ σ1 hr1
    rw [dX1_chooses_eq]
    unfold dX1_chooses
    rw [hnd, cond_true, tr_ki, cs_isKeeper, am_ci_ok, mkI_nI (by omega)]
    cases hmk : mk k with
    | false =>
      rw [hmk] at hM
      have hMm : M = m := by rw [← hM]; simp
      rw [if_pos b2f0, jX1_chooses_43_12_eq, ic_v0, ← b2_f]
      exact h43 false _ l σ (by rw [hMm]; exact hr) (by rw [hmk]; rfl)
    | true =>
      rw [hmk] at hM
      have hMm : M = m + 1 := by rw [← hM]; simp
      have e13 : cs_i σ 13 - ic 1 = nI (n - M) := by
        rw [hr.2.2, ic_v1, nI_subI (by omega), hMm]
        rfl
      have hr' : cs_rdy way (n - M) l (cs_pi σ 13 (nI (n - M))) := ⟨hr.1, hr.2.1, rfl⟩
      have hck : cs_ck σ (cs_pi σ 13 (nI (n - M))) := ⟨fun j _ h => va_up_ne _ _ h, fun _ _ => rfl, rfl⟩
      have hbit : ((cs_i (cs_pi σ 13 (nI (n - M))) 12) >>> ((cs_i (cs_pi σ 13 (nI (n - M))) 13) &&& 31)) &&& nI 1 = b2 (g m k) := by
        rw [hr'.2.1, hr'.2.2, bit_nI hway (by omega), hg k m (by omega), show n - 1 - m = n - M by omega]
      have hfin : ∀ {r : am_R cs_S}, cs_ch way (n - (M + kc x + kc y)) l (wsd g (.inner nn k v x y) m (b + 1)) (cs_pi σ 13 (nI (n - M))) r → cs_ch way (n - (M + kc x + kc y)) l (wsd g (.inner nn k v x y) m (b + 1)) σ r := by
        rintro r ⟨a1, a2⟩
        exact ⟨fun z => by obtain ⟨σ', e, q1, q2⟩ := a1 z; exact ⟨σ', e, q1, hck.tr q2⟩, fun z => by obtain ⟨σ', e, q2⟩ := a2 z; exact ⟨σ', e, hck.tr q2⟩⟩
      apply hfin
      rw [if_neg b2t0, e13, ic_v1, hbit]
      cases hgm : g m k with
      | true =>
        rw [if_pos b2_t, jX1_chooses_42_41_eq, jX1_chooses_42_eq, ← b2_t]
        exact h43 true _ l _ hr' (by rw [hmk, hgm]; rfl)
      | false =>
        rw [if_neg (show ¬ b2 false = nI 1 by decide), jX1_chooses_42_eq, ic_v0, ← b2_f]
        exact h43 false _ l _ hr' (by rw [hmk, hgm]; rfl)
end
