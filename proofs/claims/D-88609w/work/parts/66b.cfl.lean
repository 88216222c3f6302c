/-! A NODE's FIELDS; the entries of the tables. -/
section
variable {ad : Nat → Nat} (ι : cx_I) (t : Tr) (rx ry : Value)
theorem cx_hg4 (h1 : 0 ≤ tr_k t) (h2 : tr_k t ≤ 1) (_ : cx_TR ad ι (tr_x t) rx) (_ : cx_TR ad ι (tr_y t) ry) : ∃ v, (cx_nfs (tr_n t) (tr_k t) (tr_v t) (tr_sz t) (tr_dp t) rx ry)[4]? = some v ∧ am_vr (cx_TR ad ι) ad ((fun t => .inl (.int (nI (tr_v t)))) t) v := by
  refine ⟨.int (nI (tr_v t)), ?_, rfl⟩
  rw [cx_nfs, if_pos h2]
  rfl
theorem cx_hg5 (h1 : 2 ≤ tr_k t) (h2 : tr_k t ≤ 6) (hx : cx_TR ad ι (tr_x t) rx) (_ : cx_TR ad ι (tr_y t) ry) : ∃ v, (cx_nfs (tr_n t) (tr_k t) (tr_v t) (tr_sz t) (tr_dp t) rx ry)[4]? = some v ∧ am_vr (cx_TR ad ι) ad ((fun t => .inr (tr_x t)) t) v := by
  refine ⟨rx, ?_, hx⟩
  rw [cx_nfs, if_neg (by omega), if_pos h2]
  rfl
theorem cx_hg6 (h1 : 2 ≤ tr_k t) (h2 : tr_k t ≤ 6) (_ : cx_TR ad ι (tr_x t) rx) (hy : cx_TR ad ι (tr_y t) ry) : ∃ v, (cx_nfs (tr_n t) (tr_k t) (tr_v t) (tr_sz t) (tr_dp t) rx ry)[5]? = some v ∧ am_vr (cx_TR ad ι) ad ((fun t => .inr (tr_y t)) t) v := by
  refine ⟨ry, ?_, hy⟩
  rw [cx_nfs, if_neg (by omega), if_pos h2]
  rfl
theorem cx_hg7 (h1 : 7 ≤ tr_k t) (h2 : tr_k t ≤ 9) (hx : cx_TR ad ι (tr_x t) rx) (_ : cx_TR ad ι (tr_y t) ry) : ∃ v, (cx_nfs (tr_n t) (tr_k t) (tr_v t) (tr_sz t) (tr_dp t) rx ry)[4]? = some v ∧ am_vr (cx_TR ad ι) ad ((fun t => .inr (tr_x t)) t) v := by
  refine ⟨rx, ?_, hx⟩
  rw [cx_nfs, if_neg (by omega), if_neg (by omega)]
  split <;> rfl
theorem cx_hg8 (h1 : 9 ≤ tr_k t) (h2 : tr_k t ≤ 9) (_ : cx_TR ad ι (tr_x t) rx) (_ : cx_TR ad ι (tr_y t) ry) : ∃ v, (cx_nfs (tr_n t) (tr_k t) (tr_v t) (tr_sz t) (tr_dp t) rx ry)[5]? = some v ∧ am_vr (cx_TR ad ι) ad ((fun t => .inl (.int (nI (tr_v t)))) t) v := by
  refine ⟨.int (nI (tr_v t)), ?_, rfl⟩
  rw [cx_nfs, if_neg (by omega), if_neg (by omega), if_neg (by omega)]
  rfl
end
theorem le9 {P : Nat → Prop} (h0 : P 0) (h1 : P 1) (h2 : P 2) (h3 : P 3) (h4 : P 4) (h5 : P 5) (h6 : P 6) (h7 : P 7) (h8 : P 8) (h9 : P 9) : ∀ k, k ≤ 9 → P k
  | 0, _ => h0
  | 1, _ => h1
  | 2, _ => h2
  | 3, _ => h3
  | 4, _ => h4
  | 5, _ => h5
  | 6, _ => h6
  | 7, _ => h7
  | 8, _ => h8
  | 9, _ => h9
  | n + 10, h => by omega
def cx_own (cn : Nat) : String := match am_lk [(1, RX1), (2, RX2), (4, RX4), (7, RX7), (8, RX8), (9, RX9), (10, RX10), (12, RX12), (13, RX13), (14, RX14)] cn with
  | some s => s
  | none => ""
