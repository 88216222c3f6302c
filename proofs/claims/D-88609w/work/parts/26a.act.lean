/-! COMPILED ACTIONS: the machine's code as a list of small functions, so that it is evaluated cheaply. (Printed by gen/act.py.) -/
/-! a tower of names: what is wrapped by am_hh is unfolded first -/
def am_t0 : Nat := 0
def am_t1 : Nat := am_t0
def am_t2 : Nat := am_t1
def am_t3 : Nat := am_t2
def am_t4 : Nat := am_t3
def am_t5 : Nat := am_t4
def am_t6 : Nat := am_t5
def am_t7 : Nat := am_t6
def am_t8 : Nat := am_t7
def am_t9 : Nat := am_t8
def am_t10 : Nat := am_t9
def am_t11 : Nat := am_t10
def am_t12 : Nat := am_t11
def am_t13 : Nat := am_t12
def am_t14 : Nat := am_t13
def am_t15 : Nat := am_t14
def am_t16 : Nat := am_t15
def am_t17 : Nat := am_t16
def am_t18 : Nat := am_t17
def am_t19 : Nat := am_t18
def am_t20 : Nat := am_t19
def am_t21 : Nat := am_t20
def am_t22 : Nat := am_t21
def am_t23 : Nat := am_t22
def am_t24 : Nat := am_t23
def am_t25 : Nat := am_t24
def am_t26 : Nat := am_t25
def am_t27 : Nat := am_t26
def am_t28 : Nat := am_t27
def am_t29 : Nat := am_t28
def am_t30 : Nat := am_t29
def am_t31 : Nat := am_t30
def am_t32 : Nat := am_t31
def am_t33 : Nat := am_t32
def am_t34 : Nat := am_t33
def am_t35 : Nat := am_t34
def am_t36 : Nat := am_t35
def am_t37 : Nat := am_t36
def am_t38 : Nat := am_t37
def am_t39 : Nat := am_t38
def am_t40 : Nat := am_t39
def am_t41 : Nat := am_t40
def am_t42 : Nat := am_t41
def am_t43 : Nat := am_t42
def am_t44 : Nat := am_t43
def am_t45 : Nat := am_t44
def am_t46 : Nat := am_t45
def am_t47 : Nat := am_t46
def am_t48 : Nat := am_t47
def am_t49 : Nat := am_t48
def am_t50 : Nat := am_t49
def am_t51 : Nat := am_t50
def am_t52 : Nat := am_t51
def am_t53 : Nat := am_t52
def am_t54 : Nat := am_t53
def am_t55 : Nat := am_t54
def am_t56 : Nat := am_t55
def am_t57 : Nat := am_t56
def am_t58 : Nat := am_t57
def am_t59 : Nat := am_t58
def am_t60 : Nat := am_t59
def am_t61 : Nat := am_t60
def am_t62 : Nat := am_t61
def am_t63 : Nat := am_t62
def am_t64 : Nat := am_t63
def am_t65 : Nat := am_t64
def am_t66 : Nat := am_t65
def am_t67 : Nat := am_t66
def am_t68 : Nat := am_t67
def am_t69 : Nat := am_t68
def am_t70 : Nat := am_t69
def am_t71 : Nat := am_t70
def am_t72 : Nat := am_t71
def am_t73 : Nat := am_t72
def am_t74 : Nat := am_t73
def am_t75 : Nat := am_t74
def am_t76 : Nat := am_t75
def am_t77 : Nat := am_t76
def am_t78 : Nat := am_t77
def am_t79 : Nat := am_t78
def am_t80 : Nat := am_t79
def am_t81 : Nat := am_t80
def am_t82 : Nat := am_t81
def am_t83 : Nat := am_t82
def am_t84 : Nat := am_t83
def am_t85 : Nat := am_t84
def am_t86 : Nat := am_t85
def am_t87 : Nat := am_t86
def am_t88 : Nat := am_t87
def am_t89 : Nat := am_t88
def am_t90 : Nat := am_t89
def am_t91 : Nat := am_t90
def am_t92 : Nat := am_t91
def am_t93 : Nat := am_t92
def am_t94 : Nat := am_t93
def am_t95 : Nat := am_t94
def am_t96 : Nat := am_t95
def am_t97 : Nat := am_t96
def am_t98 : Nat := am_t97
def am_t99 : Nat := am_t98
def am_hh {α : Type} (x : α) : α := (fun _ => x) am_t99
section
variable {S : Type}
/-- locals, stack, state; next, jump ahead, jump back, throw -/
abbrev am_F (S : Type) : Type := am_L → List am_V → S → (am_L → List am_V → S → am_R S) → (Nat → am_L → List am_V → S → am_R S) → (Nat → am_L → List am_V → S → am_R S) → (Nat → S → am_R S) → am_R S
abbrev am_G (S : Type) : Type := List (Nat × am_F S)
/-- from the head on; from a place on -/
noncomputable def am_r2 (back : Nat → am_L → List am_V → S → am_R S) (code : am_G S) : (am_L → List am_V → S → am_R S) × (Nat → am_L → List am_V → S → am_R S) :=
  List.rec (motive := fun _ => (am_L → List am_V → S → am_R S) × (Nat → am_L → List am_V → S → am_R S)) (fun _ _ _ => none, fun _ _ _ _ => none)
    (fun q _ r => (fun ls st s => q.2 ls st s r.1 r.2 back am_tx, fun p ls st s => match Nat.beq q.1 p with | true => q.2 ls st s r.1 r.2 back am_tx | false => r.2 p ls st s)) code
def am_kk (np p : Nat) (sw : Bool) (nx : am_L → List am_V → S → am_R S) (jp bk : Nat → am_L → List am_V → S → am_R S) (s : S) (q : Nat) (ls : am_L) (st : List am_V) : am_R S :=
  bif sw then jp q ls st s else bif Nat.beq q np then nx ls st s else bif Nat.ble q p then bk q ls st s else jp q ls st s
def am_issw (i : Instr) (p : Nat) (tg : List Nat) : Bool := match i with
  | .tableswitch _ _ _ _ => tg.all fun t => Nat.blt p t
  | _ => false
def am_cF (hop : Instr → List am_V → S → (Nat → S → am_R S) → (List am_V → S → am_R S) → am_R S) (rt : Option FieldType) (q : Nat × Instr × Nat × List Nat) : Nat × am_F S :=
  (q.1, fun ls st s nx jp bk thr => am_core rt q.2.1 (q.1 + q.2.2.1) q.2.2.2 ls st (hop q.2.1 st s thr (fun st s => nx ls st s)) (fun r => some (.inl r, s)) (am_kk (q.1 + q.2.2.1) q.1 (am_issw q.2.1 q.1 q.2.2.2) nx jp bk s))
/-- one behind the other -/
def am_seq : am_C → Bool
  | [] => true
  | (p, _, len, _) :: is => Nat.blt 0 len && (match is with
    | [] => true
    | q :: _ => Nat.beq (p + len) q.1) && am_seq is
theorem am_kk_nx (np p : Nat) (nx : am_L → List am_V → S → am_R S) (jp bk : Nat → am_L → List am_V → S → am_R S) (s : S) : am_kk np p false nx jp bk s np = fun ls st => nx ls st s := by
  funext ls st
  simp only [am_kk, cond_false, Nat.beq_refl, cond_true]
theorem am_kk_f {np p t : Nat} (nx : am_L → List am_V → S → am_R S) (jp bk : Nat → am_L → List am_V → S → am_R S) (s : S) (h1 : Nat.beq t np = false) (h2 : Nat.ble t p = false) : am_kk np p false nx jp bk s t = fun ls st => jp t ls st s := by
  funext ls st
  simp only [am_kk, cond_false, h1, h2]
theorem am_kk_b {np p t : Nat} (nx : am_L → List am_V → S → am_R S) (jp bk : Nat → am_L → List am_V → S → am_R S) (s : S) (h1 : Nat.beq t np = false) (h2 : Nat.ble t p = true) : am_kk np p false nx jp bk s t = fun ls st => bk t ls st s := by
  funext ls st
  simp only [am_kk, cond_false, h1, h2, cond_true]
theorem am_core_congr {α : Type} {rt : Option FieldType} {i : Instr} {np : Nat} {tg : List Nat} {ls : am_L} {st : List am_V} {kh kh' : Option α} {kr : Option am_V → Option α} {k k' : Nat → am_L → List am_V → Option α} (h1 : kh = kh') (h2 : ∀ q, (q = np ∨ q ∈ tg) → k q = k' q) : am_core rt i np tg ls st kh kr k = am_core rt i np tg ls st kh' kr k' := by
  have hn := h2 np (.inl rfl)
  have ht : ∀ t ∈ tg, k t = k' t := fun t h => h2 t (.inr h)
  have hsw : ∀ (ts : List Nat) (x : Int32) (n d : Nat) (r : List am_V), (∀ t ∈ ts, k t = k' t) → k d = k' d → (am_sw x n d ts fun t => k t ls r) = am_sw x n d ts fun t => k' t ls r := by
    intro ts
    induction ts with
    | nil => intro x n d r _ hd; simp only [am_sw, hd]
    | cons t ts ih =>
      intro x n d r hts hd
      simp only [am_sw, hts t List.mem_cons_self]
      rw [ih x (n + 1) d r (fun t h => hts t (List.mem_cons_of_mem _ h)) hd]
  subst h1
  cases i <;> first
    | rfl
    | (dsimp only [am_core]; rw [hn]; done)
    | (dsimp only [am_core]
       cases tg with
       | nil => rfl
       | cons t ts =>
         have h0 := ht t List.mem_cons_self
         first
           | (simp only [am_tg, h0, hn]; done)
           | (dsimp only
              congr 1
              funext x r
              exact hsw ts x _ t r (fun t h => ht t (List.mem_cons_of_mem _ h)) h0))
theorem am_r2_ok (hop : Instr → List am_V → S → (Nat → S → am_R S) → (List am_V → S → am_R S) → am_R S) (rt : Option FieldType) (back : Nat → am_L → List am_V → S → am_R S) : ∀ (code : am_C), am_seq code = true →
    (∀ q ls st s, (am_r2 back (code.map (am_cF hop rt))).2 q ls st s = am_rs hop am_no rt back code q ls st s) ∧ (∀ p i len tg is, code = (p, i, len, tg) :: is → ∀ ls st s, (am_r2 back (code.map (am_cF hop rt))).1 ls st s = am_rs hop am_no rt back code p ls st s)
  | [], _ => ⟨fun _ _ _ _ => rfl, fun _ _ _ _ _ h => by cases h⟩
  | (p, i, len, tg) :: is, hseq => by
    simp only [am_seq, Bool.and_eq_true] at hseq
    obtain ⟨⟨hln0, hhd⟩, hseq'⟩ := hseq
    have hln : 0 < len := by simpa [Nat.blt_eq] using hln0
    have hnb : Nat.ble (p + len) p = false := by
      cases h4 : Nat.ble (p + len) p with
      | false => rfl
      | true => have := Nat.le_of_ble_eq_true h4; omega
    obtain ⟨ih1, ih2⟩ := am_r2_ok hop rt back is hseq'
    have hnx : ∀ ls st s, (am_r2 back (is.map (am_cF hop rt))).1 ls st s = am_rs hop am_no rt back is (p + len) ls st s := by
      intro ls st s
      cases is with
      | nil => rfl
      | cons q is =>
        obtain ⟨p', i', len', tg'⟩ := q
        have := Nat.eq_of_beq_eq_true hhd
        dsimp only at this
        subst this
        exact ih2 _ _ _ _ _ rfl ls st s
    have hF : ∀ ls st s, (am_cF hop rt (p, i, len, tg)).2 ls st s (am_r2 back (is.map (am_cF hop rt))).1 (am_r2 back (is.map (am_cF hop rt))).2 back am_tx = am_rs hop am_no rt back ((p, i, len, tg) :: is) p ls st s := by
      intro ls st s
      rw [am_rs, Nat.beq_refl, cond_true]
      dsimp only [am_cF]
      refine am_core_congr ?_ ?_
      · congr 1
        funext st s
        exact hnx ls st s
      · intro q hq
        funext ls st
        dsimp only [am_kk]
        cases hsw : am_issw i p tg with
        | true =>
          rw [cond_true, ih1]
          have hpq : Nat.ble q p = false ∨ q = p + len := by
            rcases hq with h | h
            · exact .inr h
            · left
              cases i <;> simp only [am_issw] at hsw <;> first | cases hsw | skip
              have := List.all_eq_true.mp hsw q h
              have h3 : p < q := by simpa [Nat.blt_eq] using this
              cases h4 : Nat.ble q p with
              | false => rfl
              | true => have := Nat.le_of_ble_eq_true h4; omega
          rcases hpq with h | h
          · rw [h, cond_false]
          · subst h
            rw [hnb, cond_false]
        | false =>
          rw [cond_false]
          cases hb : Nat.beq q (p + len) with
          | true =>
            have := Nat.eq_of_beq_eq_true hb
            subst this
            rw [cond_true, hnx, hnb, cond_false]
          | false =>
            rw [cond_false]
            cases h4 : Nat.ble q p with
            | true => rfl
            | false => rw [cond_false, cond_false, ih1]
    refine ⟨fun q ls st s => ?_, fun p' i' len' tg' is' h ls st s => ?_⟩
    · show (match Nat.beq p q with | true => _ | false => _) = _
      cases hb : Nat.beq p q with
      | true =>
        have := Nat.eq_of_beq_eq_true hb
        subst this
        exact hF ls st s
      | false =>
        rw [am_rs, hb, cond_false]
        exact ih1 q ls st s
    · cases h
      exact hF ls st s
end
