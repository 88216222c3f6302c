/-! WHICH READING A TREE IS: the k-th one of a span. -/
theorem sm_uniq {f : Nat → Nat} {a c c' r r' : Nat} (h : sm f a c + r = sm f a c' + r') (h1 : r < f (a + c)) (h2 : r' < f (a + c')) : c = c' ∧ r = r' := by
  have key : ∀ {c c' r r' : Nat}, c < c' → r < f (a + c) → sm f a c + r = sm f a c' + r' → False := by
    intro c c' r r' hc hr e
    have h1 := sm_mono (f := f) a (show c + 1 ≤ c' from hc)
    have h2 : sm f a (c + 1) = sm f a c + f (a + c) := by
      rw [sm_app]
      simp [sm]
    omega
  rcases Nat.lt_trichotomy c c' with hc | hc | hc
  · exact (key hc h1 h).elim
  · subst hc
    exact ⟨rfl, by omega⟩
  · exact (key hc h2 h.symm).elim
theorem dm_uniq {B kx ky kx' ky' : Nat} (h : kx * B + ky = kx' * B + ky') (h1 : ky < B) (h2 : ky' < B) : kx = kx' ∧ ky = ky' := by
  have hB : 0 < B := by omega
  have e1 : (kx * B + ky) / B = kx := by
    rw [Nat.add_comm, Nat.add_mul_div_right _ _ hB, Nat.div_eq_of_lt h1, Nat.zero_add]
  have e2 : (kx' * B + ky') / B = kx' := by
    rw [Nat.add_comm, Nat.add_mul_div_right _ _ hB, Nat.div_eq_of_lt h2, Nat.zero_add]
  have e3 : kx = kx' := by rw [← e1, h, e2]
  subst e3
  exact ⟨rfl, by omega⟩
def Rd (V : EV) : Tr → Nat → Nat → Nat → Prop
  | .leaf, _, _, _ => False
  | .inner _ kk v x y, i, j, k => ∃ (b : Bool) (r : Nat), i < j ∧ kk ≤ 9 ∧ gK V kk b i j = true ∧ k = sm (cc20 V (ct V) i j) 0 (2 * kk + bN b) + r ∧ r < cP V (ct V) kk (i + bN b) (j - bN b) ∧
      ((kk = 0 ∧ v = V.1 (i + bN b) ∧ x = .leaf ∧ y = .leaf) ∨ (kk = 1 ∧ v = numV V.1 (i + bN b) (j - bN b - (i + bN b)) 0 ∧ x = .leaf ∧ y = .leaf) ∨
       (2 ≤ kk ∧ kk ≤ 6 ∧ v = 0 ∧ ∃ w kx ky, 1 ≤ w ∧ w + 2 ≤ j - bN b - (i + bN b) ∧ V.1 (i + bN b + w) = 18 + kk ∧ r = sm (tm V (ct V) kk (i + bN b) (j - bN b)) 1 (w - 1) + (kx * ct V (i + bN b + w + 1) (j - bN b) + ky) ∧ Rd V x (i + bN b) (i + bN b + w) kx ∧ Rd V y (i + bN b + w + 1) (j - bN b) ky) ∨
       (kk = 7 ∧ v = 0 ∧ y = .leaf ∧ V.1 (i + bN b) = 25 ∧ Rd V x (i + bN b + 1) (j - bN b) r) ∨
       (kk = 8 ∧ v = 0 ∧ y = .leaf ∧ V.1 (i + bN b) = 26 ∧ V.1 (j - bN b - 1) = 27 ∧ Rd V x (i + bN b + 1) (j - bN b - 1) r) ∨
       (kk = 9 ∧ v = V.1 (i + bN b) ∧ y = .leaf ∧ V.1 (i + bN b) < 10 ∧ V.1 (i + bN b + 1) = 28 ∧ Rd V x (i + bN b + 2) (j - bN b) r))
section
variable {V : EV}
theorem cc20_b {C : Nat → Nat → Nat} {i j : Nat} (k : Nat) (b : Bool) : cc20 V C i j (2 * k + bN b) = cK V C k b i j := by
  cases b
  · exact (cc20_k k).1
  · exact (cc20_k k).2
theorem cK_g {C : Nat → Nat → Nat} {i j k : Nat} {b : Bool} (h : gK V k b i j = true) : cK V C k b i j = cP V C k (i + bN b) (j - bN b) := by
  unfold cK
  rw [if_pos h]
theorem Rd_lt {t : Tr} {i j k : Nat} (h : Rd V t i j k) : i < j ∧ k < ct V i j := by
  cases t with
  | leaf => exact h.elim
  | inner n kk v x y =>
    obtain ⟨b, r, h1, h2, h3, h4, h5, -⟩ := h
    refine ⟨h1, ?_⟩
    rw [ct_eq V h1, h4]
    unfold cS
    have hs := sm_app (f := cc20 V (ct V) i j) (2 * kk + bN b) (20 - (2 * kk + bN b)) 0
    rw [show 2 * kk + bN b + (20 - (2 * kk + bN b)) = 20 by cases b <;> simp [bN] <;> omega, Nat.zero_add] at hs
    rw [hs]
    have : sm (cc20 V (ct V) i j) (2 * kk + bN b) (20 - (2 * kk + bN b)) = cP V (ct V) kk (i + bN b) (j - bN b) + sm (cc20 V (ct V) i j) (2 * kk + bN b + 1) (20 - (2 * kk + bN b) - 1) := by
      rw [show 20 - (2 * kk + bN b) = 20 - (2 * kk + bN b) - 1 + 1 by cases b <;> simp [bN] <;> omega]
      simp only [sm]
      rw [cc20_b, cK_g h3]
      rfl
    omega
theorem kb_eq {kk kk' : Nat} {b b' : Bool} (h : 2 * kk + bN b = 2 * kk' + bN b') : kk = kk' ∧ b = b' := by
  cases b <;> cases b' <;> simp only [bN, if_true, if_false, Bool.false_eq_true] at h
  · exact ⟨by omega, rfl⟩
  · omega
  · omega
  · exact ⟨by omega, rfl⟩
theorem tm_w {C : Nat → Nat → Nat} {k i j w : Nat} (h1 : 1 ≤ w) (h2 : w + 2 ≤ j - i) (h3 : V.1 (i + w) = 18 + k) : tm V C k i j w = C i (i + w) * C (i + w + 1) j := by
  unfold tm
  rw [if_pos ⟨h1, h2, h3⟩]
theorem kxy_lt {A B kx ky : Nat} (h1 : kx < A) (h2 : ky < B) : kx * B + ky < A * B := by
  have h3 : (kx + 1) * B ≤ A * B := Nat.mul_le_mul_right B h1
  rw [Nat.add_mul, Nat.one_mul] at h3
  omega
/-- one place, one tree -/
theorem Rd_like : ∀ {t t' : Tr} {i j k : Nat}, Rd V t i j k → Rd V t' i j k → tr_like t t' = true := by
  intro t
  induction t with
  | leaf => intro t' i j k h; exact h.elim
  | inner n kk v x y ihx ihy =>
    intro t' i j k h h'
    cases t' with
    | leaf => exact h'.elim
    | inner n' kk' v' x' y' =>
      obtain ⟨b, r, h1, h2, h3, h4, h5, h6⟩ := h
      obtain ⟨b', r', h1', h2', h3', h4', h5', h6'⟩ := h'
      have hu := sm_uniq (h4.symm.trans h4') (by rw [Nat.zero_add, cc20_b, cK_g h3]; exact h5) (by rw [Nat.zero_add, cc20_b, cK_g h3']; exact h5')
      obtain ⟨rfl, rfl⟩ := kb_eq hu.1
      obtain rfl := hu.2
      simp only [tr_like, Bool.and_eq_true, beq_iff_eq]
      rcases h6 with ⟨e, ev, ex, ey⟩ | ⟨e, ev, ex, ey⟩ | ⟨e, e', ev, w, kx, ky, w1, w2, w3, w4, w5, w6⟩ | ⟨e, ev, ey, e1, e2⟩ | ⟨e, ev, ey, e1, e2, e3⟩ | ⟨e, ev, ey, e1, e2, e3⟩ <;>
        rcases h6' with ⟨f, fv, fx, fy⟩ | ⟨f, fv, fx, fy⟩ | ⟨f, f', fv, w', kx', ky', w1', w2', w3', w4', w5', w6'⟩ | ⟨f, fv, fy, f1, f2⟩ | ⟨f, fv, fy, f1, f2, f3⟩ | ⟨f, fv, fy, f1, f2, f3⟩ <;> first | omega | skip
      · rw [ev, fv, ex, fx, ey, fy]
        exact ⟨⟨⟨trivial, rfl⟩, rfl⟩, rfl⟩
      · rw [ev, fv, ex, fx, ey, fy]
        exact ⟨⟨⟨trivial, rfl⟩, rfl⟩, rfl⟩
      · have q1 := sm_uniq (w4.symm.trans w4') (by rw [show 1 + (w - 1) = w by omega, tm_w w1 w2 w3]; exact kxy_lt (Rd_lt w5).2 (Rd_lt w6).2) (by rw [show 1 + (w' - 1) = w' by omega, tm_w w1' w2' w3']; exact kxy_lt (Rd_lt w5').2 (Rd_lt w6').2)
        obtain rfl : w = w' := by omega
        obtain ⟨rfl, rfl⟩ := dm_uniq q1.2 (Rd_lt w6).2 (Rd_lt w6').2
        rw [ev, fv]
        exact ⟨⟨⟨trivial, rfl⟩, ihx w5 w5'⟩, ihy w6 w6'⟩
      · rw [ev, fv, ey, fy]
        exact ⟨⟨⟨trivial, rfl⟩, ihx e2 f2⟩, rfl⟩
      · rw [ev, fv, ey, fy]
        exact ⟨⟨⟨trivial, rfl⟩, ihx e3 f3⟩, rfl⟩
      · rw [ev, fv, ey, fy]
        exact ⟨⟨⟨trivial, rfl⟩, ihx e3 f3⟩, rfl⟩
/-- a reading has no more nodes than its span has words -/
theorem Rd_sz : ∀ {t : Tr} {i j k : Nat}, Rd V t i j k → tr_sz t ≤ j - i := by
  intro t
  induction t with
  | leaf => intro i j k h; exact h.elim
  | inner n kk v x y ihx ihy =>
    intro i j k h
    obtain ⟨b, r, h1, h2, h3, h4, h5, h6⟩ := h
    simp only [tr_sz]
    rcases h6 with ⟨e, ev, ex, ey⟩ | ⟨e, ev, ex, ey⟩ | ⟨e, e', ev, w, kx, ky, w1, w2, w3, w4, w5, w6⟩ | ⟨e, ev, ey, e1, e2⟩ | ⟨e, ev, ey, e1, e2, e3⟩ | ⟨e, ev, ey, e1, e2, e3⟩
    · rw [ex, ey]
      simp only [tr_sz]
      omega
    · rw [ex, ey]
      simp only [tr_sz]
      omega
    · have a1 := ihx w5
      have a2 := ihy w6
      omega
    · have a1 := ihx e2
      have a2 := (Rd_lt e2).1
      rw [ey]
      simp only [tr_sz]
      omega
    · have a1 := ihx e3
      have a2 := (Rd_lt e3).1
      rw [ey]
      simp only [tr_sz]
      omega
    · have a1 := ihx e3
      have a2 := (Rd_lt e3).1
      rw [ey]
      simp only [tr_sz]
      omega
end
