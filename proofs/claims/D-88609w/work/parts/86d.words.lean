set_option maxRecDepth 100000
/-! WORDS: what is said of a tree. g m k: whether the m-th node that may be kept, of kind k, is kept; b levels of it. -/
def dgl (v : Nat) : Nat → List Nat
  | 0 => [10 + v % 10]
  | e + 1 => (10 + v / 10 ^ (e + 1) % 10) :: dgl v e
def wsd (g : Nat → Nat → Bool) : Tr → Nat → Nat → List Nat
  | .leaf, _, _ => []
  | .inner _ _ _ _ _, _, 0 => [0]
  | .inner _ k v x y, m, b + 1 =>
    (if mk k && g m k then [29] else []) ++
    ((if k = 0 then [v] else if k = 1 then dgl v (dg v - 1)
      else if k ≤ 6 then wsd g x (m + if mk k then 1 else 0) b ++ ([18 + k] ++ wsd g y ((m + if mk k then 1 else 0) + kc x) b)
      else if k = 7 then [25] ++ wsd g x (m + if mk k then 1 else 0) b
      else if k = 8 then [26] ++ (wsd g x (m + if mk k then 1 else 0) b ++ [27])
      else [v] ++ ([28] ++ wsd g x (m + if mk k then 1 else 0) b)) ++
    (if mk k && g m k then [30] else []))
theorem gd_left {l r : List Nat} {j : Nat} (h : j < l.length) : (l ++ r).getD j 0 = l.getD j 0 := by
  rw [List.getD_eq_getElem?_getD, List.getD_eq_getElem?_getD, List.getElem?_append_left h]
theorem dgl_len (v e : Nat) : (dgl v e).length = e + 1 := by
  induction e with
  | zero => rfl
  | succ e ih => simp only [dgl, List.length_cons, ih]
theorem dgl_le (v e : Nat) : ∀ w ∈ dgl v e, w ≤ 30 := by
  induction e with
  | zero =>
    intro w h
    simp only [dgl, List.mem_singleton] at h
    omega
  | succ e ih =>
    intro w h
    simp only [dgl, List.mem_cons] at h
    rcases h with rfl | h
    · omega
    · exact ih w h
/-- words are below 31 -/
theorem wsd_le (g : Nat → Nat → Bool) : ∀ (t : Tr) (m b : Nat), tr_wf t → ∀ w ∈ wsd g t m b, w ≤ 30
  | .leaf, m, b, _, w, h => by simp [wsd] at h
  | .inner _ _ _ _ _, m, 0, _, w, h => by simp [wsd] at h; omega
  | .inner n k v x y, m, b + 1, hw, w, h => by
    have ihx := fun m => wsd_le g x m b hw.1 w
    have ihy := fun m => wsd_le g y m b hw.2.1 w
    have hwv := tr_wf_v hw
    have h3 := hw.2.2
    simp only [wsd, List.mem_append] at h
    rcases h with h | h | h
    · split at h <;> simp at h; omega
    · split at h
      · simp at h; omega
      · split at h
        · exact dgl_le _ _ w h
        · split at h
          · simp only [List.mem_append, List.mem_singleton] at h
            rcases h with h | h | h
            · exact ihx _ h
            · omega
            · exact ihy _ h
          · split at h
            · simp only [List.mem_append, List.mem_singleton] at h
              rcases h with h | h
              · omega
              · exact ihx _ h
            · split at h
              · simp only [List.mem_append, List.mem_singleton] at h
                rcases h with h | h | h
                · omega
                · exact ihx _ h
                · omega
              · simp only [List.mem_append, List.mem_singleton] at h
                rcases h with h | h | h
                · omega
                · omega
                · exact ihx _ h
    · split at h <;> simp at h; omega
/-- how many words -/
theorem wsd_glen (K : Nat → Bool) (hK : ∀ k, K k = true → mk k = true) : ∀ (t : Tr) (m b : Nat), tr_wf t → (wsd (fun _ k => K k) t m b).length = glen K t b
  | .leaf, m, b, _ => by simp [wsd, glen]
  | .inner _ _ _ _ _, m, 0, _ => by simp [wsd, glen]
  | .inner n k v x y, m, b + 1, hw => by
    have ihx := fun m => wsd_glen K hK x m b hw.1
    have ihy := fun m => wsd_glen K hK y m b hw.2.1
    have hkk : (mk k && K k) = K k := by
      cases q : K k with
      | false => simp
      | true => simp [hK k q]
    have h3 := hw.2.2
    have hlf : ∀ {z : Tr}, tr_lf z = true → glen K z b = 0 := fun {z} q => by
      cases z with
      | leaf => simp [glen]
      | inner _ _ _ _ _ => cases q
    have hd := dg_le v
    simp only [wsd, glen, hkk, List.length_append]
    have e29 : (if K k = true then [29] else []).length + (if K k = true then [30] else []).length = if K k = true then 2 else 0 := by split <;> rfl
    have hb : (if k = 0 then [v] else if k = 1 then dgl v (dg v - 1)
      else if k ≤ 6 then wsd (fun _ k => K k) x (m + if mk k then 1 else 0) b ++ ([18 + k] ++ wsd (fun _ k => K k) y ((m + if mk k then 1 else 0) + kc x) b)
      else if k = 7 then [25] ++ wsd (fun _ k => K k) x (m + if mk k then 1 else 0) b
      else if k = 8 then [26] ++ (wsd (fun _ k => K k) x (m + if mk k then 1 else 0) b ++ [27])
      else [v] ++ ([28] ++ wsd (fun _ k => K k) x (m + if mk k then 1 else 0) b)).length = ownW k v + glen K x b + glen K y b := by
      unfold ownW
      rcases h3 with ⟨rfl, -, hx, hy⟩ | ⟨rfl, -, hx, hy⟩ | ⟨a, c, -, -, -⟩ | ⟨a, -, -, hy⟩ | ⟨rfl, -, -, hy⟩
      · rw [hlf hx, hlf hy]; rfl
      · rw [hlf hx, hlf hy]; simp [dgl_len]; omega
      · rw [if_neg (show ¬ k = 0 by omega), if_neg (show ¬ k = 1 by omega), if_pos c, if_neg (show ¬ k = 1 by omega), if_neg (show ¬ (k = 8 ∨ k = 9) by omega)]
        simp only [List.length_append, List.length_singleton, ihx, ihy]
        omega
      · rw [hlf hy]
        rcases a with rfl | rfl
        · simp [ihx]; omega
        · simp [ihx]; omega
      · rw [hlf hy]
        simp [ihx]
        omega
    rw [hb]
    omega
theorem glen_wlen (K : Nat → Bool) : ∀ (t : Tr) (b : Nat), tr_dp t ≤ b → glen K t b = wlen K t
  | .leaf, b, _ => by simp [glen, wlen]
  | .inner n k v x y, 0, h => by simp [tr_dp] at h
  | .inner n k v x y, b + 1, h => by
    simp only [tr_dp] at h
    simp only [glen, wlen, glen_wlen K x b (by omega), glen_wlen K y b (by omega)]
/-- deep enough: all of it -/
theorem wsd_b (g : Nat → Nat → Bool) : ∀ (t : Tr) (m b b' : Nat), tr_dp t ≤ b → tr_dp t ≤ b' → wsd g t m b = wsd g t m b'
  | .leaf, m, b, b', _, _ => by simp [wsd]
  | .inner n k v x y, m, 0, _, h, _ => by simp [tr_dp] at h
  | .inner n k v x y, m, _ + 1, 0, _, h => by simp [tr_dp] at h
  | .inner n k v x y, m, b + 1, b' + 1, h, h' => by
    simp only [tr_dp] at h h'
    simp only [wsd]
    rw [wsd_b g x (m + if mk k then 1 else 0) b b' (by omega) (by omega), wsd_b g y ((m + if mk k then 1 else 0) + kc x) b b' (by omega) (by omega)]
/-- by a style: how many stand ahead is nothing to it -/
theorem wsd_m (K : Nat → Bool) : ∀ (t : Tr) (m m' b : Nat), wsd (fun _ k => K k) t m b = wsd (fun _ k => K k) t m' b
  | .leaf, m, m', b => by simp [wsd]
  | .inner n k v x y, m, m', 0 => by simp [wsd]
  | .inner n k v x y, m, m', b + 1 => by
    simp only [wsd]
    rw [wsd_m K x (m + if mk k then 1 else 0) (m' + if mk k then 1 else 0) b, wsd_m K y ((m + if mk k then 1 else 0) + kc x) ((m' + if mk k then 1 else 0) + kc x) b]
/-! a row of words in the component's state -/
def cw_ (σ : cs_S) (w : Nat) (l : List Nat) : Prop := cs_i σ w = nI l.length ∧ l.length ≤ 80 ∧ ∀ j, j < l.length → cs_a σ (w + 20) j = nI (l.getD j 0)
/-- nothing else has changed -/
def cs_kw (w : Nat) (σ σ' : cs_S) : Prop := (∀ j, j ≠ w → σ'.1 j = σ.1 j) ∧ (∀ c, c ≠ w + 20 → σ'.2.1 c = σ.2.1 c) ∧ σ'.2.2 = σ.2.2
theorem cs_kw.rf (w : Nat) (σ : cs_S) : cs_kw w σ σ := ⟨fun _ _ => rfl, fun _ _ => rfl, rfl⟩
theorem cs_kw.tr {w : Nat} {σ σ' σ'' : cs_S} (h : cs_kw w σ σ') (h' : cs_kw w σ' σ'') : cs_kw w σ σ'' := ⟨fun j q => (h'.1 j q).trans (h.1 j q), fun c q => (h'.2.1 c q).trans (h.2.1 c q), h'.2.2.trans h.2.2⟩
/-- words are said: they stand there, or they are too many -/
def cs_sy (w : Nat) (l a : List Nat) (σ : cs_S) (r : am_R cs_S) : Prop :=
  ((l ++ a).length ≤ 80 → ∃ σ', r = some (.inl none, σ') ∧ cw_ σ' w (l ++ a) ∧ cs_kw w σ σ') ∧ (80 < (l ++ a).length → ∃ σ' l', r = some (.inr (w + 40), σ') ∧ cw_ σ' w l' ∧ cs_kw w σ σ')
theorem cs_sy.nil {w : Nat} {l : List Nat} {σ : cs_S} (h : cw_ σ w l) : cs_sy w l [] σ (some (.inl none, σ)) := by
  refine ⟨fun _ => ⟨σ, rfl, by rw [List.append_nil]; exact h, cs_kw.rf w σ⟩, fun q => ?_⟩
  have := h.2.1
  rw [List.append_nil] at q
  omega
theorem cs_sy.seq {w : Nat} {l a b : List Nat} {σ : cs_S} {r : am_R cs_S} {k : cs_S → am_R cs_S} (h : cs_sy w l a σ r) (hk : ∀ σ', cw_ σ' w (l ++ a) → cs_kw w σ σ' → cs_sy w (l ++ a) b σ' (k σ')) : cs_sy w l (a ++ b) σ (am_cv r am_tx k) := by
  by_cases h1 : (l ++ a).length ≤ 80
  · obtain ⟨σ', rfl, hw, hk1⟩ := h.1 h1
    obtain ⟨h3, h4⟩ := hk σ' hw hk1
    rw [am_cv_ok]
    refine ⟨fun q => ?_, fun q => ?_⟩
    · obtain ⟨σ2, e, hw2, hk2⟩ := h3 (by rw [List.append_assoc]; exact q)
      exact ⟨σ2, e, by rw [← List.append_assoc]; exact hw2, hk1.tr hk2⟩
    · obtain ⟨σ2, l', e, hw2, hk2⟩ := h4 (by rw [List.append_assoc]; exact q)
      exact ⟨σ2, l', e, hw2, hk1.tr hk2⟩
  · obtain ⟨σ', l', rfl, hw, hk1⟩ := h.2 (by omega)
    refine ⟨fun q => ?_, fun q => ⟨σ', l', rfl, hw, hk1⟩⟩
    exfalso
    rw [← List.append_assoc, List.length_append] at q
    omega
theorem cs_sy.ret {w : Nat} {l a : List Nat} {σ : cs_S} {r : am_R cs_S} (h : cs_sy w l a σ r) : cs_sy w l a σ (am_cv r am_tx fun s => some (.inl none, s)) := by
  have := h.seq (b := []) (k := fun s => some (.inl none, s)) (fun σ' hw _ => cs_sy.nil hw)
  rw [List.append_nil] at this
  exact this
