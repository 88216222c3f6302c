theorem tr_like_sm : ∀ {t t' : Tr}, tr_like t t' = true → tr_like t' t = true
  | .leaf, .leaf, _ => rfl
  | .leaf, .inner _ _ _ _ _, h => by simp [tr_like] at h
  | .inner _ _ _ _ _, .leaf, h => by simp [tr_like] at h
  | .inner n k v x y, .inner n' k' v' x' y', h => by
    simp only [tr_like, Bool.and_eq_true, beq_iff_eq] at h ⊢
    exact ⟨⟨⟨h.1.1.1.symm, h.1.1.2.symm⟩, tr_like_sm h.1.2⟩, tr_like_sm h.2⟩
/-! ONE TREE, ONE PLACE: of a span's readings no two are alike. -/
theorem sm_cons {f : Nat → Nat} {a n : Nat} (h : 0 < n) : sm f a n = f a + sm f (a + 1) (n - 1) := by
  obtain ⟨m, rfl⟩ : ∃ m, n = m + 1 := ⟨n - 1, by omega⟩
  rfl
theorem sm_last {f : Nat → Nat} {a n : Nat} (h : 0 < n) : sm f a n = sm f a (n - 1) + f (a + n - 1) := by
  obtain ⟨m, rfl⟩ : ∃ m, n = m + 1 := ⟨n - 1, by omega⟩
  rw [sm_app m 1 a, show m + 1 - 1 = m by omega, show a + (m + 1) - 1 = a + m by omega]
  simp [sm]
theorem sm_split {f : Nat → Nat} {a n : Nat} (w : Nat) (h : w < n) : sm f a n = sm f a w + f (a + w) + sm f (a + w + 1) (n - w - 1) := by
  have h1 := sm_app (f := f) w (n - w) a
  rw [show w + (n - w) = n by omega, sm_cons (a := a + w) (show 0 < n - w by omega)] at h1
  omega
def dg (v : Nat) : Nat := if v < 10 then 1 else if v < 100 then 2 else if v < 1000 then 3 else 4
def i29 (e : Nat → Nat) (m : Nat) : Nat := if e m = 29 then 1 else 0
def i30 (e : Nat → Nat) (m : Nat) : Nat := if e m = 30 then 1 else 0
def inb (e : Nat → Nat) (m : Nat) : Nat := if e m = 29 ∨ e m = 30 then 0 else 1
theorem i_no {e : Nat → Nat} {m : Nat} (h : e m < 29) : i29 e m = 0 ∧ i30 e m = 0 ∧ inb e m = 1 := by
  unfold i29 i30 inb
  rw [if_neg (by omega), if_neg (by omega), if_neg (by omega)]
  exact ⟨rfl, rfl, rfl⟩
theorem i_29 {e : Nat → Nat} {m : Nat} (h : e m = 29) : i29 e m = 1 ∧ i30 e m = 0 ∧ inb e m = 0 := by
  unfold i29 i30 inb
  rw [if_pos h, if_neg (by omega), if_pos (.inl h)]
  exact ⟨rfl, rfl, rfl⟩
theorem i_30 {e : Nat → Nat} {m : Nat} (h : e m = 30) : i29 e m = 0 ∧ i30 e m = 1 ∧ inb e m = 0 := by
  unfold i29 i30 inb
  rw [if_neg (by omega), if_pos h, if_pos (.inr h)]
  exact ⟨rfl, rfl, rfl⟩
def nw : Tr → Nat
  | .leaf => 0
  | .inner _ k v x y => if k = 0 then 1 else if k = 1 then dg v else if k ≤ 6 then nw x + 1 + nw y else if k = 7 then 1 + nw x else 2 + nw x
theorem nw_eq (n k v : Nat) (x y : Tr) : nw (.inner n k v x y) = if k = 0 then 1 else if k = 1 then dg v else if k ≤ 6 then nw x + 1 + nw y else if k = 7 then 1 + nw x else 2 + nw x := rfl
theorem isNum_e {e : Nat → Nat} {i j : Nat} (h : isNum e i j = true) : i < j ∧ j ≤ i + 4 ∧ (e i ≠ 10 ∨ j = i + 1) ∧ ∀ m, i ≤ m → m < j → 10 ≤ e m ∧ e m ≤ 19 := by
  unfold isNum at h
  simp only [Bool.and_eq_true, Bool.or_eq_true, List.all_eq_true, List.mem_range, decide_eq_true_eq] at h
  refine ⟨h.1.1.1, h.1.1.2, h.1.2, fun m h1 h2 => ?_⟩
  have := h.2 (m - i) (by omega)
  rw [show i + (m - i) = m by omega] at this
  exact this
theorem num_dg {e : Nat → Nat} {i j : Nat} (h : isNum e i j = true) : dg (numV e i (j - i) 0) = j - i ∧ numV e i (j - i) 0 ≤ 9999 := by
  obtain ⟨h1, h2, h3, h4⟩ := isNum_e h
  have a0 := h4 i (by omega) (by omega)
  obtain hn | hn | hn | hn : j - i = 1 ∨ j - i = 2 ∨ j - i = 3 ∨ j - i = 4 := by omega
  · rw [hn]
    simp only [numV]
    unfold dg
    rw [if_pos (by omega)]
    omega
  · rw [hn]
    have a1 := h4 (i + 1) (by omega) (by omega)
    simp only [numV]
    unfold dg
    rw [if_neg (by omega), if_pos (by omega)]
    omega
  · rw [hn]
    have a1 := h4 (i + 1) (by omega) (by omega)
    have a2 := h4 (i + 1 + 1) (by omega) (by omega)
    simp only [numV]
    unfold dg
    rw [if_neg (by omega), if_neg (by omega), if_pos (by omega)]
    omega
  · rw [hn]
    have a1 := h4 (i + 1) (by omega) (by omega)
    have a2 := h4 (i + 1 + 1) (by omega) (by omega)
    have a3 := h4 (i + 1 + 1 + 1) (by omega) (by omega)
    simp only [numV]
    unfold dg
    rw [if_neg (by omega), if_neg (by omega), if_neg (by omega)]
    omega
section
variable {V : EV}
theorem gK_t {k i j : Nat} (h : gK V k true i j = true) : i + 2 < j ∧ V.1 i = 29 ∧ V.1 (j - 1) = 30 ∧ V.2.2 k true = true := by
  unfold gK at h
  simp only [Bool.and_eq_true, Bool.not_true, Bool.false_or, decide_eq_true_eq] at h
  exact ⟨h.2.1.1, h.2.1.2, h.2.2, h.1⟩
theorem gK_f {k i j : Nat} (h : gK V k false i j = true) : V.2.2 k false = true := by
  unfold gK at h
  simp only [Bool.and_eq_true] at h
  exact h.1
theorem cP_0 {C : Nat → Nat → Nat} {i j r : Nat} (h : r < cP V C 0 i j) : j = i + 1 ∧ V.1 i < 10 ∧ V.2.1 (V.1 i) = false ∧ r = 0 := by
  unfold cP at h
  rw [if_pos rfl] at h
  split at h
  · rename_i e
    exact ⟨e.1, e.2.1, e.2.2, by omega⟩
  · omega
theorem cP_1 {C : Nat → Nat → Nat} {i j r : Nat} (h : r < cP V C 1 i j) : isNum V.1 i j = true ∧ r = 0 := by
  unfold cP at h
  rw [if_neg (by omega), if_pos rfl] at h
  split at h
  · rename_i e
    exact ⟨e, by omega⟩
  · omega
theorem cP_7 {C : Nat → Nat → Nat} {i j r : Nat} (h : r < cP V C 7 i j) : i + 1 < j ∧ V.1 i = 25 ∧ r < C (i + 1) j := by
  unfold cP at h
  rw [if_neg (by omega), if_neg (by omega), if_neg (by omega), if_pos rfl] at h
  split at h
  · rename_i e
    exact ⟨e.1, e.2, h⟩
  · omega
theorem cP_8 {C : Nat → Nat → Nat} {i j r : Nat} (h : r < cP V C 8 i j) : i + 2 < j ∧ V.1 i = 26 ∧ V.1 (j - 1) = 27 ∧ r < C (i + 1) (j - 1) := by
  unfold cP at h
  rw [if_neg (by omega), if_neg (by omega), if_neg (by omega), if_neg (by omega), if_pos rfl] at h
  split at h
  · rename_i e
    exact ⟨e.1, e.2.1, e.2.2, h⟩
  · omega
theorem cP_9 {C : Nat → Nat → Nat} {i j r : Nat} (h : r < cP V C 9 i j) : i + 2 < j ∧ V.1 i < 10 ∧ V.2.1 (V.1 i) = true ∧ V.1 (i + 1) = 28 ∧ r < C (i + 2) j := by
  unfold cP at h
  rw [if_neg (by omega), if_neg (by omega), if_neg (by omega), if_neg (by omega), if_neg (by omega)] at h
  split at h
  · rename_i e
    exact ⟨e.1, e.2.1, e.2.2.1, e.2.2.2, h⟩
  · omega
/-- with begin and end: what lies between -/
theorem sm_kept {f : Nat → Nat} {i j : Nat} (h : i + 2 < j) : sm f i (j - i) = f i + sm f (i + 1) (j - 1 - (i + 1)) + f (j - 1) := by
  rw [sm_cons (by omega), sm_last (a := i + 1) (by omega), show i + 1 + (j - i - 1) - 1 = j - 1 by omega, show j - i - 1 - 1 = j - 1 - (i + 1) by omega]
  omega
theorem Rd_w : ∀ {t : Tr} {i j k : Nat}, Rd V t i j k → sm (inb V.1) i (j - i) = nw t ∧ sm (i29 V.1) i (j - i) = sm (i30 V.1) i (j - i) := by
  intro t
  induction t with
  | leaf => intro i j k h; exact h.elim
  | inner n kk v x y ihx ihy =>
    intro i j k h
    obtain ⟨b, r, h1, h2, h3, h4, h5, h6⟩ := h
    have key : sm (inb V.1) (i + bN b) (j - bN b - (i + bN b)) = nw (.inner n kk v x y) ∧ sm (i29 V.1) (i + bN b) (j - bN b - (i + bN b)) = sm (i30 V.1) (i + bN b) (j - bN b - (i + bN b)) := by
      generalize i + bN b = a at *
      generalize j - bN b = c at *
      rcases h6 with ⟨rfl, ev, ex, ey⟩ | ⟨rfl, ev, ex, ey⟩ | ⟨e, e', ev, w, kx, ky, w1, w2, w3, w4, w5, w6⟩ | ⟨rfl, ev, ey, e1, e2⟩ | ⟨rfl, ev, ey, e1, e2, e3⟩ | ⟨rfl, ev, ey, e1, e2, e3⟩
      · obtain ⟨rfl, q2, -, -⟩ := cP_0 h5
        obtain ⟨z1, z2, z3⟩ := i_no (e := V.1) (m := a) (by omega)
        rw [show a + 1 - a = 0 + 1 by omega]
        simp only [sm, nw, z1, z2, z3]
        exact ⟨rfl, trivial⟩
      · obtain ⟨q1, -⟩ := cP_1 h5
        obtain ⟨d1, d2, d3, d4⟩ := isNum_e q1
        have hz : ∀ m, a ≤ m → m < a + (c - a) → i29 V.1 m = 0 ∧ i30 V.1 m = 0 ∧ inb V.1 m = 1 := fun m m1 m2 => i_no (by have := d4 m m1 (by omega); omega)
        rw [sm_zero (f := i29 V.1) _ _ (fun m m1 m2 => (hz m m1 m2).1), sm_zero (f := i30 V.1) _ _ (fun m m1 m2 => (hz m m1 m2).2.1), sm_ext (g := fun _ => 1) _ _ (fun m m1 m2 => (hz m m1 m2).2.2)]
        have h1' : ∀ n a, sm (fun _ => 1) a n = n := by
          intro n
          induction n with
          | zero => intro a; rfl
          | succ n ih => intro a; simp only [sm]; rw [ih]; omega
        rw [h1']
        rw [nw_eq, if_neg (by omega), if_pos rfl, ev, (num_dg q1).1]
        exact ⟨rfl, rfl⟩
      · obtain ⟨x1, x2⟩ := ihx w5
        obtain ⟨y1, y2⟩ := ihy w6
        rw [show a + w - a = w by omega] at x1 x2
        rw [show c - (a + w + 1) = c - a - w - 1 by omega] at y1 y2
        obtain ⟨z1, z2, z3⟩ := i_no (e := V.1) (m := a + w) (by omega)
        rw [sm_split w (by omega), sm_split (f := i29 V.1) w (by omega), sm_split (f := i30 V.1) w (by omega), z1, z2, z3, x1, x2, y1, y2]
        rw [nw_eq, if_neg (by omega), if_neg (by omega), if_pos e']
        exact ⟨rfl, rfl⟩
      · obtain ⟨x1, x2⟩ := ihx e2
        obtain ⟨q1, q2, -⟩ := cP_7 h5
        rw [show c - (a + 1) = c - a - 1 by omega] at x1 x2
        obtain ⟨z1, z2, z3⟩ := i_no (e := V.1) (m := a) (by omega)
        rw [sm_cons (by omega), sm_cons (f := i29 V.1) (by omega), sm_cons (f := i30 V.1) (by omega), z1, z2, z3, x1, x2]
        rw [nw_eq, if_neg (by omega), if_neg (by omega), if_neg (by omega), if_pos rfl]
        exact ⟨rfl, rfl⟩
      · obtain ⟨x1, x2⟩ := ihx e3
        obtain ⟨q1, q2, q3, -⟩ := cP_8 h5
        obtain ⟨z1, z2, z3⟩ := i_no (e := V.1) (m := a) (by omega)
        obtain ⟨y1, y2, y3⟩ := i_no (e := V.1) (m := c - 1) (by omega)
        rw [sm_kept q1, sm_kept (f := i29 V.1) q1, sm_kept (f := i30 V.1) q1, z1, z2, z3, x1, x2, y1, y2, y3]
        rw [nw_eq, if_neg (by omega), if_neg (by omega), if_neg (by omega), if_neg (by omega)]
        exact ⟨by omega, rfl⟩
      · obtain ⟨x1, x2⟩ := ihx e3
        obtain ⟨q1, q2, q3, q4, -⟩ := cP_9 h5
        rw [show c - (a + 2) = c - a - 1 - 1 by omega] at x1 x2
        obtain ⟨z1, z2, z3⟩ := i_no (e := V.1) (m := a) (by omega)
        obtain ⟨y1, y2, y3⟩ := i_no (e := V.1) (m := a + 1) (by omega)
        rw [sm_cons (by omega), sm_cons (f := i29 V.1) (n := c - a) (by omega), sm_cons (f := i30 V.1) (n := c - a) (by omega), sm_cons (f := inb V.1) (a := a + 1) (by omega), sm_cons (f := i29 V.1) (a := a + 1) (by omega), sm_cons (f := i30 V.1) (a := a + 1) (by omega), z1, z2, z3, y1, y2, y3, x1, x2]
        rw [nw_eq, if_neg (by omega), if_neg (by omega), if_neg (by omega), if_neg (by omega)]
        exact ⟨by omega, rfl⟩
    cases b with
    | false => exact key
    | true =>
      obtain ⟨g1, g2, g3, -⟩ := gK_t h3
      obtain ⟨k1, k2⟩ := key
      have k1 : sm (inb V.1) (i + 1) (j - 1 - (i + 1)) = _ := k1
      have k2 : sm (i29 V.1) (i + 1) (j - 1 - (i + 1)) = sm (i30 V.1) (i + 1) (j - 1 - (i + 1)) := k2
      obtain ⟨z1, z2, z3⟩ := i_29 g2
      obtain ⟨y1, y2, y3⟩ := i_30 g3
      rw [sm_kept g1, sm_kept (f := i29 V.1) g1, sm_kept (f := i30 V.1) g1, z1, z2, z3, y1, y2, y3, k1, k2]
      exact ⟨by omega, by omega⟩
theorem nw_like : ∀ {t t' : Tr}, tr_like t t' = true → nw t = nw t'
  | .leaf, .leaf, _ => rfl
  | .leaf, .inner _ _ _ _ _, h => by simp [tr_like] at h
  | .inner _ _ _ _ _, .leaf, h => by simp [tr_like] at h
  | .inner n k v x y, .inner n' k' v' x' y', h => by
    simp only [tr_like, Bool.and_eq_true, beq_iff_eq] at h
    obtain ⟨⟨⟨rfl, rfl⟩, h3⟩, h4⟩ := h
    simp only [nw, nw_like h3, nw_like h4]
/-- the one kept, the other not: it can't be -/
theorem Rd_no {x x' : Tr} {i w w' kx kx' : Nat} (h29 : V.1 i = 29) (ho : V.1 (i + 1 + w) < 29) (ho' : V.1 (i + w') < 29) (hx : Rd V x (i + 1) (i + 1 + w) kx) (hx' : Rd V x' i (i + w') kx') (hl : tr_like x x' = true) : False := by
  obtain ⟨a1, a2⟩ := Rd_w hx
  obtain ⟨b1, b2⟩ := Rd_w hx'
  have hl := nw_like hl
  have hw' := (Rd_lt hx').1
  rw [show i + 1 + w - (i + 1) = w by omega] at a1 a2
  obtain ⟨z1, z2, z3⟩ := i_29 h29
  rw [show i + w' - i = w' by omega, sm_cons (by omega), z3, Nat.zero_add] at b1
  rw [show i + w' - i = w' by omega, sm_cons (by omega), sm_cons (f := i30 V.1) (by omega), z1, z2, Nat.zero_add] at b2
  obtain ⟨-, -, o1⟩ := i_no ho
  obtain ⟨-, -, o2⟩ := i_no ho'
  rcases Nat.lt_trichotomy w (w' - 1) with c | c | c
  · rw [sm_split w c, o1] at b1
    omega
  · rw [← c] at b2
    omega
  · rw [sm_split (w' - 1) c, show i + 1 + (w' - 1) = i + w' by omega, o2] at a1
    omega
theorem Rd_inj : ∀ {t t' : Tr} {i j j' k k' : Nat}, Rd V t i j k → Rd V t' i j' k' → tr_like t t' = true → j = j' ∧ k = k' := by
  intro t
  induction t with
  | leaf => intro t' i j j' k k' h; exact h.elim
  | inner n kk v x y ihx ihy =>
    intro t' i j j' k k' h h' hl
    cases t' with
    | leaf => exact h'.elim
    | inner n' kk' v' x' y' =>
      simp only [tr_like, Bool.and_eq_true, beq_iff_eq] at hl
      obtain ⟨⟨⟨rfl, rfl⟩, lx⟩, ly⟩ := hl
      obtain ⟨b, r, h1, h2, h3, h4, h5, h6⟩ := h
      obtain ⟨b', r', h1', h2', h3', h4', h5', h6'⟩ := h'
      have same : b = b' → (j - bN b = j' - bN b' ∧ r = r') → j = j' ∧ k = k' := by
        rintro rfl ⟨c1, rfl⟩
        have : j = j' := by
          cases b with
          | false => exact c1
          | true =>
            have := (gK_t h3).1
            have := (gK_t h3').1
            have c1 : j - 1 = j' - 1 := c1
            omega
        subst this
        exact ⟨rfl, by rw [h4, h4']⟩
      rcases h6 with ⟨rfl, ev, ex, ey⟩ | ⟨rfl, ev, ex, ey⟩ | ⟨e, e', ev, w, kx, ky, w1, w2, w3, w4, w5, w6⟩ | ⟨rfl, ev, ey, e1, e2⟩ | ⟨rfl, ev, ey, e1, e2, e3⟩ | ⟨rfl, ev, ey, e1, e2, e3⟩ <;>
        rcases h6' with ⟨f, fv, fx, fy⟩ | ⟨f, fv, fx, fy⟩ | ⟨f, f', fv, w', kx', ky', w1', w2', w3', w4', w5', w6'⟩ | ⟨f, fv, fy, f1, f2⟩ | ⟨f, fv, fy, f1, f2, f3⟩ | ⟨f, fv, fy, f1, f2, f3⟩ <;> first | omega | skip
      · obtain ⟨q1, q2, -, q4⟩ := cP_0 h5
        obtain ⟨q1', q2', -, q4'⟩ := cP_0 h5'
        cases b <;> cases b'
        · exact same rfl ⟨by simp only [bN] at q1 q1' ⊢; simp at q1 q1' ⊢; omega, by omega⟩
        · have := (gK_t h3').2.1
          simp [bN] at q2
          omega
        · have := (gK_t h3).2.1
          simp [bN] at q2'
          omega
        · exact same rfl ⟨by rw [q1, q1'], by omega⟩
      · obtain ⟨q1, q4⟩ := cP_1 h5
        obtain ⟨q1', q4'⟩ := cP_1 h5'
        have d := num_dg q1
        have d' := num_dg q1'
        obtain ⟨m1, -, -, m4⟩ := isNum_e q1
        obtain ⟨m1', -, -, m4'⟩ := isNum_e q1'
        have m5 := m4 _ (Nat.le_refl _) m1
        have m5' := m4' _ (Nat.le_refl _) m1'
        cases b <;> cases b'
        · refine same rfl ⟨?_, by omega⟩
          rw [← ev] at d
          rw [← fv] at d'
          omega
        · have := (gK_t h3').2.1
          simp [bN] at m5
          omega
        · have := (gK_t h3).2.1
          simp [bN] at m5'
          omega
        · refine same rfl ⟨?_, by omega⟩
          rw [← ev] at d
          rw [← fv] at d'
          omega
      · have two : b = b' → j = j' ∧ k = k' := by
          rintro rfl
          obtain ⟨c1, rfl⟩ := ihx w5 w5' lx
          obtain rfl : w = w' := by omega
          obtain ⟨c2, rfl⟩ := ihy w6 w6' ly
          refine same rfl ⟨c2, ?_⟩
          rw [w4, w4', c2]
        cases b <;> cases b'
        · exact two rfl
        · exact (Rd_no (gK_t h3').2.1 (by have : V.1 (i + 1 + w') = 18 + kk := w3'; omega) (by have : V.1 (i + w) = 18 + kk := w3; omega) w5' w5 (tr_like_sm lx)).elim
        · exact (Rd_no (gK_t h3).2.1 (by have : V.1 (i + 1 + w) = 18 + kk := w3; omega) (by have : V.1 (i + w') = 18 + kk := w3'; omega) w5 w5' lx).elim
        · exact two rfl
      · cases b <;> cases b'
        · exact same rfl (ihx e2 f2 lx)
        · have := (gK_t h3').2.1
          have e1 : V.1 i = 25 := e1
          omega
        · have := (gK_t h3).2.1
          have f1 : V.1 i = 25 := f1
          omega
        · exact same rfl (ihx e2 f2 lx)
      · cases b <;> cases b'
        · obtain ⟨c1, c2⟩ := ihx e3 f3 lx
          have := (Rd_lt e3).1
          have := (Rd_lt f3).1
          exact same rfl ⟨by omega, c2⟩
        · have := (gK_t h3').2.1
          have e1 : V.1 i = 26 := e1
          omega
        · have := (gK_t h3).2.1
          have f1 : V.1 i = 26 := f1
          omega
        · obtain ⟨c1, c2⟩ := ihx e3 f3 lx
          have := (Rd_lt e3).1
          have := (Rd_lt f3).1
          exact same rfl ⟨by omega, c2⟩
      · cases b <;> cases b'
        · exact same rfl (ihx e3 f3 lx)
        · have := (gK_t h3').2.1
          have e1 : V.1 i < 10 := e1
          omega
        · have := (gK_t h3).2.1
          have f1 : V.1 i < 10 := f1
          omega
        · exact same rfl (ihx e3 f3 lx)
end
