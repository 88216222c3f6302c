/-! TREES: what a node is, in plain Lean. -/
def tr_n : Tr → Nat
  | .leaf => 0
  | .inner n _ _ _ _ => n
def tr_k : Tr → Nat
  | .leaf => 0
  | .inner _ k _ _ _ => k
def tr_v : Tr → Nat
  | .leaf => 0
  | .inner _ _ v _ _ => v
def tr_x : Tr → Tr
  | .leaf => .leaf
  | .inner _ _ _ x _ => x
def tr_y : Tr → Tr
  | .leaf => .leaf
  | .inner _ _ _ _ y => y
def tr_sz : Tr → Nat
  | .leaf => 0
  | .inner _ _ _ x y => 1 + tr_sz x + tr_sz y
def tr_dp : Tr → Nat
  | .leaf => 0
  | .inner _ _ _ x y => 1 + max (tr_dp x) (tr_dp y)
/-- a node's value as an int: -2 where its kind has none -/
def tr_vI (k v : Nat) : Int32 := if k = 0 ∨ k = 1 ∨ k = 9 then nI v else -2
/-- a node of one of the ten kinds -/
def tr_wf : Tr → Prop
  | .leaf => True
  | .inner _ k v x y => tr_wf x ∧ tr_wf y ∧ ((k = 0 ∧ v ≤ 9 ∧ tr_lf x = true ∧ tr_lf y = true) ∨ (k = 1 ∧ v ≤ 9999 ∧ tr_lf x = true ∧ tr_lf y = true) ∨ (2 ≤ k ∧ k ≤ 6 ∧ v = 0 ∧ tr_lf x = false ∧ tr_lf y = false) ∨ ((k = 7 ∨ k = 8) ∧ v = 0 ∧ tr_lf x = false ∧ tr_lf y = true) ∨ (k = 9 ∧ v ≤ 9 ∧ tr_lf x = false ∧ tr_lf y = true))
def tr_like : Tr → Tr → Bool
  | .leaf, .leaf => true
  | .inner _ k v x y, .inner _ k' v' x' y' => k == k' && v == v' && tr_like x x' && tr_like y y'
  | _, _ => false
/-- the tree t stands in the model's rows at i, in the places from lo on and below hi -/
def mr (s : mm_S) (lo hi : Nat) : Tr → Int32 → Prop
  | .leaf, i => i = -2
  | .inner n k v x y, i => ∃ j : Nat, lo ≤ j ∧ j < hi ∧ i = nI j ∧ s.2.1 1 j = nI k ∧ s.2.1 2 j = tr_vI k v ∧ s.2.1 5 j = nI (tr_sz (.inner n k v x y)) ∧ s.2.1 6 j = nI (tr_dp (.inner n k v x y)) ∧ mr s lo hi x (s.2.1 3 j) ∧ mr s lo hi y (s.2.1 4 j)
def b2 (b : Bool) : Int32 := if b then 1 else 0
theorem am_ix_nI {α : Type} {j n : Nat} {k : Nat → Option α} (h : j < n) (hn : n < 2 ^ 31) : am_ix (nI j) n k = k j := by
  unfold am_ix
  rw [nI_clamp (by omega), if_neg]
  intro q
  rcases q with q | q
  · exact nI_pos (by omega) q
  · omega
theorem am_ci_ok {S : Type} (x : Int32) (s : S) (kx : Nat → S → am_R S) (k : Int32 → S → am_R S) : am_ci (some (.inl (some (.inl (.int x))), s)) kx k = k x s := rfl
theorem am_cl_ok {S : Type} (x : Int64) (s : S) (kx : Nat → S → am_R S) (k : Int64 → S → am_R S) : am_cl (some (.inl (some (.inl (.long x))), s)) kx k = k x s := rfl
theorem am_cv_ok {S : Type} (s : S) (kx : Nat → S → am_R S) (k : S → am_R S) : am_cv (some (.inl none, s)) kx k = k s := rfl
theorem ic_and1 : ic 1 &&& 1 = 1 := by decide
theorem ic_and0 : ic 0 &&& 1 = 0 := by decide
theorem nI_inj {a b : Nat} (ha : a < 2 ^ 31) (hb : b < 2 ^ 31) : (nI a = nI b) = (a = b) := propext (nI_eq ha hb)
theorem nI_ge0 {n : Nat} (h : n < 2 ^ 31) : (0 ≤ nI n) = True := eq_true (nI_pos' h)
theorem nI_lt0 {n : Nat} (h : n < 2 ^ 31) : (nI n < 0) = False := eq_false (nI_pos h)
