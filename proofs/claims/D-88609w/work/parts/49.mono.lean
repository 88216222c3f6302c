/-! WHERE A RUN COMES FROM: what holds of a run's end, and goes back over every hop, holds of its start. -/
section
variable {α : Type} {res : α} {Φ : Prop}
theorem am_cmp_el {c : Jvm.ClassFile.Cond} {x y : Int32} {a b : Option α} (h : am_cmp c x y a b = some res) (ha : a = some res → Φ) (hb : b = some res → Φ) : Φ := by
  cases c <;> (dsimp only [am_cmp] at h; split at h <;> first | exact ha h | exact hb h)
theorem am_sw_el {x : Int32} {d : Nat} {k : Nat → Option α} (hk : ∀ t, k t = some res → Φ) : ∀ (ts : List Nat) (n : Nat), am_sw x n d ts k = some res → Φ
  | [], n, h => hk d h
  | t :: ts, n, h => by
    unfold am_sw at h
    split at h
    · exact hk t h
    · exact am_sw_el hk ts _ h
theorem am_nul_el {v : am_V} {a b : Option α} (h : am_nul v a b = some res) (ha : a = some res → Φ) (hb : b = some res → Φ) : Φ := by
  rcases v with (x | x | x | x | _ | x | x) | t
  all_goals first | (cases h; done) | exact hb h | skip
  dsimp only [am_nul] at h
  cases e : tr_lf t with
  | true => rw [e, cond_true] at h; exact ha h
  | false => rw [e, cond_false] at h; exact hb h
set_option maxHeartbeats 4000000 in
theorem am_core_el {rt : Option FieldType} {i : Instr} {np : Nat} {tg : List Nat} {ls : am_L} {st : List am_V} {kh : Option α} {kr : Option am_V → Option α} {k : Nat → am_L → List am_V → Option α} (h : am_core rt i np tg ls st kh kr k = some res)
    (h1 : kh = some res → Φ) (h2 : ∀ r, kr r = some res → Φ) (h3 : ∀ q ls st, k q ls st = some res → Φ) : Φ := by
  cases i
  all_goals (dsimp only [am_core] at h)
  all_goals first
    | exact h1 h
    | exact h3 _ _ _ h
    | (obtain ⟨_, _, h⟩ := am_ldi_e h; exact h3 _ _ _ h)
    | (obtain ⟨_, _, h⟩ := am_ldl_e h; exact h3 _ _ _ h)
    | (obtain ⟨_, _, _, h⟩ := am_lda_e h; exact h3 _ _ _ h)
    | (obtain ⟨_, _, _, h⟩ := am_i1_e h; exact h3 _ _ _ h)
    | (obtain ⟨_, _, _, h⟩ := am_i1_e h; exact h3 _ _ _ (am_bd_e h).2)
    | (obtain ⟨_, _, _, h⟩ := am_l1_e h; exact h3 _ _ _ h)
    | (obtain ⟨_, _, _, h⟩ := am_l1_e h; exact h3 _ _ _ (am_bd_e h).2)
    | (obtain ⟨_, _, _, _, h⟩ := am_a1_e h; exact h3 _ _ _ (am_bd_e h).2)
    | (obtain ⟨_, _, _, _, h⟩ := am_i2_e h; exact h3 _ _ _ h)
    | (obtain ⟨_, _, _, _, h⟩ := am_l2_e h; exact h3 _ _ _ h)
    | (obtain ⟨_, _, _, _, h⟩ := am_il_e h; exact h3 _ _ _ h)
    | (obtain ⟨_, _, _, _, h⟩ := am_i2_e h; exact h3 _ _ _ (am_dz_e h).2)
    | (obtain ⟨_, _, _, _, h⟩ := am_l2_e h; exact h3 _ _ _ (am_dzl_e h).2)
    | (obtain ⟨_, _, _, _, h⟩ := am_w1_e h; exact h3 _ _ _ h)
    | (obtain ⟨_, _, _, _, h⟩ := am_w1_e h; obtain ⟨_, _, _, _, h⟩ := am_w1_e h; exact h3 _ _ _ h)
    | (obtain ⟨_, _, _, _, h⟩ := am_i2_e h; obtain ⟨_, _, _, h⟩ := am_tg_e h; exact am_cmp_el h (h3 _ _ _) (h3 _ _ _))
    | (obtain ⟨_, _, _, h⟩ := am_i1_e h; obtain ⟨_, _, _, h⟩ := am_tg_e h; exact am_cmp_el h (h3 _ _ _) (h3 _ _ _))
    | (obtain ⟨_, _, _, _, h⟩ := am_a1_e h; obtain ⟨_, _, _, h⟩ := am_tg_e h; exact am_nul_el h (h3 _ _ _) (h3 _ _ _))
    | (obtain ⟨_, _, _, h⟩ := am_tg_e h; exact h3 _ _ _ h)
    | (obtain ⟨_, _, _, h⟩ := am_i1_e h; split at h; exact am_sw_el (fun t => h3 _ _ _) _ _ h; cases h)
    | (obtain ⟨_, _, _, h⟩ := am_i1_e h; split at h; exact (am_kri_e h).elim fun _ q => h2 _ q.2; cases h)
    | (obtain ⟨_, _, _, h⟩ := am_l1_e h; split at h; exact h2 _ (am_krl_e h).2; cases h)
    | (obtain ⟨_, _, _, _, h⟩ := am_a1_e h; split at h; exact h2 _ (am_kra_e h).2; cases h)
    | (split at h; exact h2 _ (am_krv_e h).2; cases h)
end
section
variable {S : Type} {res : am_O × S} {Φ : S → Prop} {hop : Instr → List am_V → S → (Nat → S → am_R S) → (List am_V → S → am_R S) → am_R S} {hd : Nat → Option Nat} {rt : Option FieldType}
theorem am_rs_el (hhop : ∀ i st s kx k, hop i st s kx k = some res → (∀ x s', kx x s' = some res → Φ s') → (∀ st' s', k st' s' = some res → Φ s') → Φ s) (hres : Φ res.2)
    {back : Nat → am_L → List am_V → S → am_R S} (hback : ∀ q ls st s, back q ls st s = some res → Φ s) : ∀ (is : am_C) (pc : Nat) (ls : am_L) (st : List am_V) (s : S), am_rs hop hd rt back is pc ls st s = some res → Φ s
  | [], _, _, _, _, h => by cases h
  | (p, i, len, tg) :: is, pc, ls, st, s, h => by
    have ih := am_rs_el hhop hres hback is
    unfold am_rs at h
    cases hpc : Nat.beq p pc with
    | false =>
      rw [hpc, cond_false] at h
      exact ih _ _ _ _ h
    | true =>
      rw [hpc, cond_true] at h
      refine am_core_el h (fun h => ?_) (fun r h => ?_) (fun q ls st h => ?_)
      · refine hhop _ _ _ _ _ h (fun x s' h => ?_) (fun st' s' h => ih _ _ _ _ h)
        cases e : hd p with
        | none =>
          rw [e] at h
          have : res = (.inr x, s') := (Option.some.inj h).symm
          rw [this] at hres
          exact hres
        | some q =>
          rw [e] at h
          exact ih _ _ _ _ h
      · have : res = (.inl r, s) := (Option.some.inj h).symm
        rw [this] at hres
        exact hres
      · cases e : Nat.ble q p with
        | true => rw [e, cond_true] at h; exact hback _ _ _ _ h
        | false => rw [e, cond_false] at h; exact ih _ _ _ _ h
theorem am_bk_el (hhop : ∀ i st s kx k, hop i st s kx k = some res → (∀ x s', kx x s' = some res → Φ s') → (∀ st' s', k st' s' = some res → Φ s') → Φ s) (hres : Φ res.2) (code : am_C) :
    ∀ (n q : Nat) (ls : am_L) (st : List am_V) (s : S), am_bk hop hd rt code n q ls st s = some res → Φ s := by
  intro n
  induction n with
  | zero => intro q ls st s h; cases h
  | succ n ih => intro q ls st s h; exact am_rs_el hhop hres ih code _ _ _ _ h
end
