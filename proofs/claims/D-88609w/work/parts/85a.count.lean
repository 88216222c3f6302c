/-! HOW MANY READINGS A SPAN HAS: plain Lean. An ear: its words; which letters are functions; which kinds may be kept, or not. -/
abbrev EV : Type := (Nat → Nat) × (Nat → Bool) × (Nat → Bool → Bool)
/-- f a + f (a + 1) + .. , n of them -/
def sm (f : Nat → Nat) (a : Nat) : Nat → Nat
  | 0 => 0
  | n + 1 => f a + sm f (a + 1) n
theorem sm_ext {f g : Nat → Nat} : ∀ (n a : Nat), (∀ m, a ≤ m → m < a + n → f m = g m) → sm f a n = sm g a n
  | 0, _, _ => rfl
  | n + 1, a, h => by
    simp only [sm]
    rw [h a (by omega) (by omega), sm_ext n (a + 1) (fun m h1 h2 => h m (by omega) (by omega))]
theorem sm_le {f g : Nat → Nat} : ∀ (n a b : Nat), (∀ m, m < n → f (a + m) ≤ g (b + m)) → sm f a n ≤ sm g b n
  | 0, _, _, _ => Nat.le_refl _
  | n + 1, a, b, h => by
    simp only [sm]
    have h1 := h 0 (by omega)
    have h2 := sm_le (f := f) (g := g) n (a + 1) (b + 1) (fun m hm => by
      have := h (m + 1) (by omega)
      rw [show a + 1 + m = a + (m + 1) by omega, show b + 1 + m = b + (m + 1) by omega]
      exact this)
    simp only [Nat.add_zero] at h1
    omega
theorem sm_app {f : Nat → Nat} : ∀ (n m a : Nat), sm f a (n + m) = sm f a n + sm f (a + n) m
  | 0, m, a => by simp [sm]
  | n + 1, m, a => by
    rw [show n + 1 + m = (n + m) + 1 by omega]
    simp only [sm]
    rw [sm_app n m (a + 1), show a + 1 + n = a + (n + 1) by omega]
    omega
theorem sm_zero {f : Nat → Nat} : ∀ (n a : Nat), (∀ m, a ≤ m → m < a + n → f m = 0) → sm f a n = 0
  | 0, _, _ => rfl
  | n + 1, a, h => by
    simp only [sm]
    rw [h a (by omega) (by omega), sm_zero n (a + 1) (fun m h1 h2 => h m (by omega) (by omega))]
theorem sm_one {f : Nat → Nat} (c : Nat) : ∀ (n a : Nat), a ≤ c → c < a + n → (∀ m, a ≤ m → m < a + n → m ≠ c → f m = 0) → sm f a n = f c
  | 0, a, h1, h2, _ => by omega
  | n + 1, a, h1, h2, h => by
    simp only [sm]
    by_cases e : a = c
    · subst e
      rw [sm_zero n (a + 1) (fun m h3 h4 => h m (by omega) (by omega) (by omega))]
      rfl
    · rw [h a (by omega) (by omega) e, sm_one c n (a + 1) (by omega) (by omega) (fun m h3 h4 h5 => h m (by omega) (by omega) h5)]
      omega
theorem sm_add {f g : Nat → Nat} : ∀ (n a : Nat), sm (fun m => f m + g m) a n = sm f a n + sm g a n
  | 0, _ => rfl
  | n + 1, a => by
    simp only [sm]
    rw [sm_add n (a + 1)]
    omega
theorem sm_mono {f : Nat → Nat} {n m : Nat} (a : Nat) (h : n ≤ m) : sm f a n ≤ sm f a m := by
  obtain ⟨d, rfl⟩ : ∃ d, m = n + d := ⟨m - n, by omega⟩
  rw [sm_app]
  omega
/-- a span is a number, its words 10 .. 19 digits -/
def isNum (e : Nat → Nat) (i j : Nat) : Bool := decide (i < j) && decide (j ≤ i + 4) && (decide (e i ≠ 10) || decide (j = i + 1)) && (List.range (j - i)).all fun t => decide (10 ≤ e (i + t)) && decide (e (i + t) ≤ 19)
def numV (e : Nat → Nat) : Nat → Nat → Nat → Nat
  | _, 0, v => v
  | i, n + 1, v => numV e (i + 1) n (10 * v + e i - 10)
/-- of two parts, x of w words -/
def tm (V : EV) (C : Nat → Nat → Nat) (k i j w : Nat) : Nat := if 1 ≤ w ∧ w + 2 ≤ j - i ∧ V.1 (i + w) = 18 + k then C i (i + w) * C (i + w + 1) j else 0
/-- readings as a kind, without begin and end -/
def cP (V : EV) (C : Nat → Nat → Nat) (k i j : Nat) : Nat :=
  if k = 0 then (if j = i + 1 ∧ V.1 i < 10 ∧ V.2.1 (V.1 i) = false then 1 else 0)
  else if k = 1 then (if isNum V.1 i j then 1 else 0)
  else if k ≤ 6 then sm (tm V C k i j) 1 (j - i)
  else if k = 7 then (if i + 1 < j ∧ V.1 i = 25 then C (i + 1) j else 0)
  else if k = 8 then (if i + 2 < j ∧ V.1 i = 26 ∧ V.1 (j - 1) = 27 then C (i + 1) (j - 1) else 0)
  else (if i + 2 < j ∧ V.1 i < 10 ∧ V.2.1 (V.1 i) = true ∧ V.1 (i + 1) = 28 then C (i + 2) j else 0)
/-- with begin and end, or without -/
def gK (V : EV) (k : Nat) (b : Bool) (i j : Nat) : Bool := V.2.2 k b && (!b || (decide (i + 2 < j) && decide (V.1 i = 29) && decide (V.1 (j - 1) = 30)))
def bN (b : Bool) : Nat := if b then 1 else 0
def cK (V : EV) (C : Nat → Nat → Nat) (k : Nat) (b : Bool) (i j : Nat) : Nat := if gK V k b i j then cP V C k (i + bN b) (j - bN b) else 0
/-- by a number c: the kind c / 2, kept if c is odd -/
def cc20 (V : EV) (C : Nat → Nat → Nat) (i j c : Nat) : Nat := cK V C (c / 2) (decide (c % 2 = 1)) i j
def cS (V : EV) (C : Nat → Nat → Nat) (i j : Nat) : Nat := sm (cc20 V C i j) 0 20
def ctF (V : EV) : Nat → Nat → Nat → Nat
  | 0, _, _ => 0
  | n + 1, i, j => if i < j then cS V (ctF V n) i j else 0
/-- what a count looks at -/
theorem cP_ext {V : EV} {C C' : Nat → Nat → Nat} {k i j : Nat} (h : ∀ a b, i ≤ a → b ≤ j → b - a < j - i → C a b = C' a b) : cP V C k i j = cP V C' k i j := by
  have h6 : sm (tm V C k i j) 1 (j - i) = sm (tm V C' k i j) 1 (j - i) := sm_ext _ _ fun m h1 h2 => by
    unfold tm
    by_cases e : 1 ≤ m ∧ m + 2 ≤ j - i ∧ V.1 (i + m) = 18 + k
    · rw [if_pos e, if_pos e, h i (i + m) (by omega) (by omega) (by omega), h (i + m + 1) j (by omega) (by omega) (by omega)]
    · rw [if_neg e, if_neg e]
  have h7 : (if i + 1 < j ∧ V.1 i = 25 then C (i + 1) j else 0) = if i + 1 < j ∧ V.1 i = 25 then C' (i + 1) j else 0 := by
    by_cases e : i + 1 < j ∧ V.1 i = 25
    · rw [if_pos e, if_pos e, h _ _ (by omega) (by omega) (by omega)]
    · rw [if_neg e, if_neg e]
  have h8 : (if i + 2 < j ∧ V.1 i = 26 ∧ V.1 (j - 1) = 27 then C (i + 1) (j - 1) else 0) = if i + 2 < j ∧ V.1 i = 26 ∧ V.1 (j - 1) = 27 then C' (i + 1) (j - 1) else 0 := by
    by_cases e : i + 2 < j ∧ V.1 i = 26 ∧ V.1 (j - 1) = 27
    · rw [if_pos e, if_pos e, h _ _ (by omega) (by omega) (by omega)]
    · rw [if_neg e, if_neg e]
  have h9 : (if i + 2 < j ∧ V.1 i < 10 ∧ V.2.1 (V.1 i) = true ∧ V.1 (i + 1) = 28 then C (i + 2) j else 0) = if i + 2 < j ∧ V.1 i < 10 ∧ V.2.1 (V.1 i) = true ∧ V.1 (i + 1) = 28 then C' (i + 2) j else 0 := by
    by_cases e : i + 2 < j ∧ V.1 i < 10 ∧ V.2.1 (V.1 i) = true ∧ V.1 (i + 1) = 28
    · rw [if_pos e, if_pos e, h _ _ (by omega) (by omega) (by omega)]
    · rw [if_neg e, if_neg e]
  unfold cP
  rw [h6, h7, h8, h9]
theorem cK_ext {V : EV} {C C' : Nat → Nat → Nat} {k i j : Nat} {b : Bool} (h : ∀ a c, i ≤ a → c ≤ j → c - a < j - i → C a c = C' a c) : cK V C k b i j = cK V C' k b i j := by
  unfold cK
  cases b with
  | false => rw [cP_ext (C := C) (C' := C') (i := i + bN false) (j := j - bN false) (fun a c h1 h2 h3 => h a c (by simp only [bN] at h1; simpa using h1) (by simp only [bN] at h2; simpa using h2) (by simp only [bN] at h3; simpa using h3))]
  | true =>
    by_cases e : i < j
    · rw [cP_ext (C := C) (C' := C') (i := i + bN true) (j := j - bN true) (fun a c h1 h2 h3 => by
        simp only [bN, if_true] at h1 h2 h3
        exact h a c (by omega) (by omega) (by omega))]
    · have : gK V k true i j = false := by
        unfold gK
        have : decide (i + 2 < j) = false := decide_eq_false (by omega)
        rw [this]
        simp
      rw [this]
      rfl
theorem cS_ext {V : EV} {C C' : Nat → Nat → Nat} {i j : Nat} (h : ∀ a c, i ≤ a → c ≤ j → c - a < j - i → C a c = C' a c) : cS V C i j = cS V C' i j :=
  sm_ext _ _ fun c _ _ => cK_ext h
theorem ctF_ext (V : EV) : ∀ (n m i j : Nat), j - i ≤ n → j - i ≤ m → ctF V n i j = ctF V m i j
  | 0, 0, _, _, _, _ => rfl
  | 0, m + 1, i, j, h, _ => by
    show 0 = if i < j then _ else 0
    rw [if_neg (by omega)]
  | n + 1, 0, i, j, _, h => by
    show (if i < j then _ else 0) = 0
    rw [if_neg (by omega)]
  | n + 1, m + 1, i, j, h1, h2 => by
    simp only [ctF]
    by_cases e : i < j
    · rw [if_pos e, if_pos e]
      exact cS_ext fun a c h3 h4 h5 => ctF_ext V n m a c (by omega) (by omega)
    · rw [if_neg e, if_neg e]
/-- how many readings a span has -/
def ct (V : EV) (i j : Nat) : Nat := ctF V (j - i) i j
theorem ct_nil (V : EV) {i j : Nat} (h : j ≤ i) : ct V i j = 0 := by
  unfold ct
  rw [show j - i = 0 by omega]
  rfl
theorem ct_eq (V : EV) {i j : Nat} (h : i < j) : ct V i j = cS V (ct V) i j := by
  unfold ct
  obtain ⟨n, hn⟩ : ∃ n, j - i = n + 1 := ⟨j - i - 1, by omega⟩
  rw [hn]
  show (if i < j then cS V (ctF V n) i j else 0) = _
  rw [if_pos h]
  exact cS_ext fun a c h3 h4 h5 => ctF_ext V _ _ a c (by omega) (by omega)
/-! no count comes to the bound -/
def mzL : Nat → List Nat
  | 0 => [0]
  | n + 1 => let l := mzL n; l ++ [if n = 0 then 1 else l.getD n 0 + sm (fun a => l.getD a 0 * l.getD (n - a) 0) 1 (n - 1)]
def mz (n : Nat) : Nat := (mzL 20).getD n 0
theorem mz_1 : mz 1 = 1 := by decide +kernel
theorem mz_step : ∀ n, n < 20 → mz n + sm (fun a => mz a * mz (n - a)) 1 (n - 1) ≤ mz (n + 1) := by decide +kernel
theorem mz_up : ∀ n, n < 20 → mz n ≤ mz (n + 1) := by decide +kernel
theorem mz_top : ∀ n, n ≤ 20 → mz n ≤ 20000000 := by decide +kernel
theorem mz_pos : ∀ n, n < 20 → 1 ≤ mz (n + 1) := by decide +kernel
