def am_cokb (cc : ByteArray) (q : Nat × Instr × Nat × List Nat) : Bool := decide (decode cc q.1 = .ok (q.2.1, q.2.2.1)) && am_lnok q.2.1 q.2.2.1 && am_tgok q.2.1 q.1 q.2.2.2
theorem am_cok_all {cc : ByteArray} {l : am_C} (h : l.all (am_cokb cc) = true) : ∀ q ∈ l, am_cok cc q := by
  intro q hq
  have h1 := List.all_eq_true.mp h q hq
  simp only [am_cokb, Bool.and_eq_true, decide_eq_true_eq] at h1
  exact ⟨h1.1.1, h1.1.2, h1.2⟩
