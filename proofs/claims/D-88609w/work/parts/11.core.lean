/-! THE ABSTRACT MACHINE IS SOUND: its stack instructions, by the kit's rows. -/
/-- an abstract value is a machine's: TR for nodes, ad for the fixed cells -/
def am_vr (TR : Tr → Value → Prop) (ad : Nat → Nat) (v : am_V) (rv : Value) : Prop := match v with
  | .inl (.int x) => rv = .int x
  | .inl (.long x) => rv = .long x
  | .inl (.ref k) => rv = .ref (ad k)
  | .inr t => TR t rv
  | _ => False
def am_TRok (TR : Tr → Value → Prop) : Prop := TR .leaf .null ∧ ∀ t rv, TR t rv → (tr_lf t = true ∧ rv = .null) ∨ (tr_lf t = false ∧ ∃ a, rv = .ref a)
def am_cat (v : am_V) : Nat := match v with
  | .inl (.long _) => 2
  | _ => 1
def am_S2 (P : am_V → Value → Prop) : List am_V → List Value → Prop
  | [], [] => True
  | v :: vs, r :: rs => P v r ∧ am_S2 P vs rs
  | _, _ => False
def am_Lr (P : am_V → Value → Prop) (nL : Nat) (ls : am_L) (rls : Array Slot) : Prop := ∃ rl : List (Nat × Value), lv_has rls nL rl ∧ ls.length ≤ nL ∧ ∀ (i : Nat) (v : am_V), ls[i]? = some (some v) → ∃ rv, (i, rv) ∈ rl ∧ P v rv
theorem am_vr_cat {TR : Tr → Value → Prop} {ad : Nat → Nat} (hT : am_TRok TR) {v : am_V} {rv : Value} (h : am_vr TR ad v rv) : rv.category = am_cat v := by
  rcases v with (x | x | x | x | _ | x | x) | t
  · cases h; rfl
  · cases h; rfl
  · cases h
  · cases h
  · cases h
  · cases h; rfl
  · cases h
  · rcases hT.2 t rv h with ⟨-, rfl⟩ | ⟨-, a, rfl⟩ <;> rfl
theorem am_S2.mono {P P' : am_V → Value → Prop} (h : ∀ v rv, P v rv → P' v rv) : ∀ {vs : List am_V} {rs : List Value}, am_S2 P vs rs → am_S2 P' vs rs
  | [], [], _ => trivial
  | [], _ :: _, q => q.elim
  | _ :: _, [], q => q.elim
  | _ :: _, _ :: _, q => ⟨h _ _ q.1, am_S2.mono h q.2⟩
theorem am_Lr.mono {P P' : am_V → Value → Prop} (h : ∀ v rv, P v rv → P' v rv) {nL : Nat} {ls : am_L} {rls : Array Slot} (q : am_Lr P nL ls rls) : am_Lr P' nL ls rls := by
  obtain ⟨rl, h1, h2, h3⟩ := q
  refine ⟨rl, h1, h2, fun i v hv => ?_⟩
  obtain ⟨rv, a, b⟩ := h3 i v hv
  exact ⟨rv, a, h _ _ b⟩
theorem am_S2_c {P : am_V → Value → Prop} {v : am_V} {vs : List am_V} {rs : List Value} (h : am_S2 P (v :: vs) rs) : ∃ r rr, rs = r :: rr ∧ P v r ∧ am_S2 P vs rr := by
  cases rs with
  | nil => exact h.elim
  | cons r rr => exact ⟨r, rr, rfl, h.1, h.2⟩
theorem am_S2_n {P : am_V → Value → Prop} {rs : List Value} (h : am_S2 P [] rs) : rs = [] := by
  cases rs with
  | nil => rfl
  | cons r rr => exact h.elim
theorem am_S2_i {TR : Tr → Value → Prop} {ad : Nat → Nat} {x : Int32} {vs : List am_V} {rs : List Value} (h : am_S2 (am_vr TR ad) (.inl (.int x) :: vs) rs) : ∃ rr, rs = .int x :: rr ∧ am_S2 (am_vr TR ad) vs rr := by
  obtain ⟨r, rr, e, h1, h2⟩ := am_S2_c h
  obtain rfl : r = .int x := h1
  exact ⟨rr, e, h2⟩
theorem am_S2_l {TR : Tr → Value → Prop} {ad : Nat → Nat} {x : Int64} {vs : List am_V} {rs : List Value} (h : am_S2 (am_vr TR ad) (.inl (.long x) :: vs) rs) : ∃ rr, rs = .long x :: rr ∧ am_S2 (am_vr TR ad) vs rr := by
  obtain ⟨r, rr, e, h1, h2⟩ := am_S2_c h
  obtain rfl : r = .long x := h1
  exact ⟨rr, e, h2⟩
theorem am_vr_i (TR : Tr → Value → Prop) (ad : Nat → Nat) (x : Int32) : am_vr TR ad (.inl (.int x)) (.int x) := rfl
theorem am_vr_l (TR : Tr → Value → Prop) (ad : Nat → Nat) (x : Int64) : am_vr TR ad (.inl (.long x)) (.long x) := rfl
theorem am_vr_r (TR : Tr → Value → Prop) (ad : Nat → Nat) (x : Nat) : am_vr TR ad (.inl (.ref x)) (.ref (ad x)) := rfl
section
variable {α : Type} {res : α}
theorem am_i1_e {st : List am_V} {k : Int32 → List am_V → Option α} (h : am_i1 st k = some res) : ∃ x r, st = .inl (.int x) :: r ∧ k x r = some res := by
  unfold am_i1 at h
  split at h
  · exact ⟨_, _, rfl, h⟩
  · cases h
theorem am_i2_e {st : List am_V} {k : Int32 → Int32 → List am_V → Option α} (h : am_i2 st k = some res) : ∃ x y r, st = .inl (.int y) :: .inl (.int x) :: r ∧ k x y r = some res := by
  unfold am_i2 at h
  split at h
  · exact ⟨_, _, _, rfl, h⟩
  · cases h
theorem am_l1_e {st : List am_V} {k : Int64 → List am_V → Option α} (h : am_l1 st k = some res) : ∃ x r, st = .inl (.long x) :: r ∧ k x r = some res := by
  unfold am_l1 at h
  split at h
  · exact ⟨_, _, rfl, h⟩
  · cases h
theorem am_l2_e {st : List am_V} {k : Int64 → Int64 → List am_V → Option α} (h : am_l2 st k = some res) : ∃ x y r, st = .inl (.long y) :: .inl (.long x) :: r ∧ k x y r = some res := by
  unfold am_l2 at h
  split at h
  · exact ⟨_, _, _, rfl, h⟩
  · cases h
theorem am_il_e {st : List am_V} {k : Int64 → Int32 → List am_V → Option α} (h : am_il st k = some res) : ∃ x y r, st = .inl (.int y) :: .inl (.long x) :: r ∧ k x y r = some res := by
  unfold am_il at h
  split at h
  · exact ⟨_, _, _, rfl, h⟩
  · cases h
theorem am_a1_e {st : List am_V} {k : am_V → List am_V → Option α} (h : am_a1 st k = some res) : ∃ v r, st = v :: r ∧ ((∃ x, v = .inl (.ref x)) ∨ ∃ t, v = .inr t) ∧ k v r = some res := by
  unfold am_a1 at h
  split at h
  · exact ⟨_, _, rfl, .inl ⟨_, rfl⟩, h⟩
  · exact ⟨_, _, rfl, .inr ⟨_, rfl⟩, h⟩
  · cases h
theorem am_w1_e {st : List am_V} {k : am_V → List am_V → Option α} (h : am_w1 st k = some res) : ∃ v r, st = v :: r ∧ am_cat v = 1 ∧ k v r = some res := by
  unfold am_w1 at h
  split at h
  · exact ⟨_, _, rfl, rfl, h⟩
  · exact ⟨_, _, rfl, rfl, h⟩
  · exact ⟨_, _, rfl, rfl, h⟩
  · cases h
theorem am_ldi_e {ls : am_L} {i : Nat} {k : Int32 → Option α} (h : am_ldi ls i k = some res) : ∃ x, ls[i]? = some (some (.inl (.int x))) ∧ k x = some res := by
  unfold am_ldi at h
  split at h
  · rename_i x e
    exact ⟨x, e, h⟩
  · cases h
theorem am_ldl_e {ls : am_L} {i : Nat} {k : Int64 → Option α} (h : am_ldl ls i k = some res) : ∃ x, ls[i]? = some (some (.inl (.long x))) ∧ k x = some res := by
  unfold am_ldl at h
  split at h
  · rename_i x e
    exact ⟨x, e, h⟩
  · cases h
theorem am_lda_e {ls : am_L} {i : Nat} {k : am_V → Option α} (h : am_lda ls i k = some res) : ∃ v, ls[i]? = some (some v) ∧ ((∃ x, v = .inl (.ref x)) ∨ ∃ t, v = .inr t) ∧ k v = some res := by
  unfold am_lda at h
  split at h
  · rename_i x e
    exact ⟨_, e, .inl ⟨_, rfl⟩, h⟩
  · rename_i x e
    exact ⟨_, e, .inr ⟨_, rfl⟩, h⟩
  · cases h
theorem am_bd_e {ls : am_L} {i : Nat} {k : Option α} (h : am_bd ls i k = some res) : i < ls.length ∧ k = some res := by
  unfold am_bd at h
  split at h
  · rename_i x e
    exact ⟨(List.getElem?_eq_some_iff.mp e).1, h⟩
  · cases h
theorem am_kri_e {rt : Option FieldType} {x : Int32} {kr : Option am_V → Option α} (h : am_kri rt x kr = some res) : ∃ y, ((rt = some .int ∧ y = x) ∨ (rt = some .boolean ∧ y = x &&& 1)) ∧ kr (some (.inl (.int y))) = some res := by
  unfold am_kri at h
  split at h
  · exact ⟨_, .inl ⟨rfl, rfl⟩, h⟩
  · exact ⟨_, .inr ⟨rfl, rfl⟩, h⟩
  · cases h
theorem am_krl_e {rt : Option FieldType} {x : Int64} {kr : Option am_V → Option α} (h : am_krl rt x kr = some res) : rt = some .long ∧ kr (some (.inl (.long x))) = some res := by
  unfold am_krl at h
  split at h
  · exact ⟨rfl, h⟩
  · cases h
theorem am_kra_e {rt : Option FieldType} {v : am_V} {kr : Option am_V → Option α} (h : am_kra rt v kr = some res) : (∃ n, rt = some (.object n)) ∧ kr (some v) = some res := by
  unfold am_kra at h
  split at h
  · exact ⟨⟨_, rfl⟩, h⟩
  · cases h
theorem am_krv_e {rt : Option FieldType} {kr : Option am_V → Option α} (h : am_krv rt kr = some res) : rt = none ∧ kr none = some res := by
  unfold am_krv at h
  split at h
  · exact ⟨rfl, h⟩
  · cases h
theorem am_tg_e {tg : List Nat} {k : Nat → Option α} (h : am_tg tg k = some res) : ∃ t ts, tg = t :: ts ∧ k t = some res := by
  cases tg with
  | nil => cases h
  | cons t ts => exact ⟨t, ts, rfl, h⟩
theorem am_dz_e {y : Int32} {k : Option α} (h : am_dz y k = some res) : ¬ y = 0 ∧ k = some res := by
  unfold am_dz at h
  split at h
  · cases h
  · exact ⟨by assumption, h⟩
theorem am_dzl_e {y : Int64} {k : Option α} (h : am_dzl y k = some res) : ¬ y = 0 ∧ k = some res := by
  unfold am_dzl at h
  split at h
  · cases h
  · exact ⟨by assumption, h⟩
end
theorem am_Lr_at {P : am_V → Value → Prop} {nL : Nat} {ls : am_L} {rls : Array Slot} (h : am_Lr P nL ls rls) {i : Nat} {v : am_V} (hv : ls[i]? = some (some v)) : ∃ rv, rls[i]? = some (.val rv) ∧ P v rv := by
  obtain ⟨rl, h1, -, h3⟩ := h
  obtain ⟨rv, a, b⟩ := h3 i v hv
  exact ⟨rv, h1.2.2 _ a, b⟩
theorem am_md_len : ∀ (ls : am_L) (j : Nat), (am_md ls j).length = ls.length
  | [], _ => rfl
  | _ :: _, 0 => rfl
  | _ :: ls, j + 1 => by rw [am_md, List.length_cons, List.length_cons, am_md_len ls j]
theorem am_md_at : ∀ (ls : am_L) (i j : Nat) (v : am_V), (am_md ls i)[j]? = some (some v) → ls[j]? = some (some v) ∧ (j = i → am_cat v = 1)
  | [], i, j, v, h => by simp [am_md] at h
  | o :: ls, 0, 0, v, h => by
    simp only [am_md, List.getElem?_cons_zero, Option.some.injEq] at h ⊢
    unfold am_nl at h
    split at h
    · cases h
    · rename_i hn
      subst h
      refine ⟨rfl, fun _ => ?_⟩
      rcases v with (x | x | x | x | _ | x | x) | t
      · rfl
      · exact absurd rfl (hn x)
      · rfl
      · rfl
      · rfl
      · rfl
      · rfl
      · rfl
  | o :: ls, 0, j + 1, v, h => by
    simp only [am_md, List.getElem?_cons_succ] at h ⊢
    exact ⟨h, fun q => by omega⟩
  | o :: ls, i + 1, 0, v, h => by
    simp only [am_md, List.getElem?_cons_zero] at h ⊢
    exact ⟨h, fun q => by omega⟩
  | o :: ls, i + 1, j + 1, v, h => by
    simp only [am_md, List.getElem?_cons_succ] at h ⊢
    obtain ⟨h1, h2⟩ := am_md_at ls i j v h
    exact ⟨h1, fun q => h2 (by omega)⟩
theorem am_clr_len (ls : am_L) (i : Nat) : (am_clr ls i).length = ls.length := by
  unfold am_clr
  split
  · rfl
  · exact am_md_len _ _
theorem am_clr_at {ls : am_L} {i j : Nat} {v : am_V} (h : (am_clr ls i)[j]? = some (some v)) : ls[j]? = some (some v) ∧ (j + 1 = i → am_cat v = 1) := by
  unfold am_clr at h
  split at h
  · exact ⟨h, fun e => by omega⟩
  · obtain ⟨h1, h2⟩ := am_md_at _ _ _ _ h
    exact ⟨h1, fun q => h2 (by omega)⟩
theorem am_Lr_set1 {P : am_V → Value → Prop} (hc : ∀ v rv, P v rv → rv.category = am_cat v) {nL : Nat} {ls : am_L} {i : Nat} {v : am_V} {rv : Value} {rl : List (Nat × Value)} (hi : i < nL) (hlen : ls.length ≤ nL) (h3 : ∀ (i : Nat) (v : am_V), ls[i]? = some (some v) → ∃ rv, (i, rv) ∈ rl ∧ P v rv) (hv : P v rv) {rls' : Array Slot} (h' : lv_has rls' nL ((i, rv) :: rl.filter (fun q => !(q.1 == i) && !(q.1 + 1 == i && q.2.category == 2)))) : am_Lr P nL (am_set1 ls i v) rls' := by
  refine ⟨_, h', by unfold am_set1; rw [List.length_set, am_clr_len]; exact hlen, fun j u hu => ?_⟩
  unfold am_set1 at hu
  by_cases hj : i = j
  · subst hj
    rw [List.getElem?_set] at hu
    split at hu
    · split at hu
      · cases hu
        exact ⟨rv, List.mem_cons_self, hv⟩
      · cases hu
    · rename_i q
      exact absurd rfl q
  · rw [List.getElem?_set_ne hj] at hu
    obtain ⟨h4, h5⟩ := am_clr_at hu
    obtain ⟨ru, a, b⟩ := h3 j u h4
    refine ⟨ru, List.mem_cons_of_mem _ (List.mem_filter.mpr ⟨a, ?_⟩), b⟩
    have hc1 := hc _ _ b
    by_cases hji : j + 1 = i
    · rw [h5 hji] at hc1
      have e1 : (j == i) = false := by simpa using Ne.symm hj
      have e2 : (ru.category == 2) = false := by rw [hc1]; rfl
      simp only [e1, e2, Bool.and_false, Bool.not_false, Bool.and_self]
    · have e1 : (j == i) = false := by simpa using Ne.symm hj
      have e2 : (j + 1 == i) = false := by simpa using hji
      simp only [e1, e2, Bool.false_and, Bool.not_false, Bool.and_self]
theorem am_Lr_set2 {P : am_V → Value → Prop} (hc : ∀ v rv, P v rv → rv.category = am_cat v) {nL : Nat} {ls : am_L} {i : Nat} {v : am_V} {rv : Value} {rl : List (Nat × Value)} (hlen : ls.length ≤ nL) (h3 : ∀ (i : Nat) (v : am_V), ls[i]? = some (some v) → ∃ rv, (i, rv) ∈ rl ∧ P v rv) (hv : P v rv) {rls' : Array Slot} (h' : lv_has rls' nL ((i, rv) :: rl.filter (fun q => !(q.1 == i) && (!(q.1 == i + 1) && !(q.1 + 1 == i && q.2.category == 2))))) : am_Lr P nL (am_set2 ls i v) rls' := by
  refine ⟨_, h', by unfold am_set2; rw [List.length_set, List.length_set, am_clr_len]; exact hlen, fun j u hu => ?_⟩
  unfold am_set2 at hu
  by_cases hj1 : i + 1 = j
  · subst hj1
    rw [List.getElem?_set] at hu
    split at hu
    · split at hu
      · cases hu
      · cases hu
    · rename_i q
      exact absurd rfl q
  rw [List.getElem?_set_ne hj1] at hu
  by_cases hj : i = j
  · subst hj
    rw [List.getElem?_set] at hu
    split at hu
    · split at hu
      · cases hu
        exact ⟨rv, List.mem_cons_self, hv⟩
      · cases hu
    · rename_i q
      exact absurd rfl q
  · rw [List.getElem?_set_ne hj] at hu
    obtain ⟨h4, h5⟩ := am_clr_at hu
    obtain ⟨ru, a, b⟩ := h3 j u h4
    refine ⟨ru, List.mem_cons_of_mem _ (List.mem_filter.mpr ⟨a, ?_⟩), b⟩
    have hc1 := hc _ _ b
    have e0 : (j == i + 1) = false := by simpa using Ne.symm hj1
    have e1 : (j == i) = false := by simpa using Ne.symm hj
    by_cases hji : j + 1 = i
    · rw [h5 hji] at hc1
      have e2 : (ru.category == 2) = false := by rw [hc1]; rfl
      simp only [e0, e1, e2, Bool.and_false, Bool.not_false, Bool.and_self]
    · have e2 : (j + 1 == i) = false := by simpa using hji
      simp only [e0, e1, e2, Bool.false_and, Bool.not_false, Bool.and_self]
