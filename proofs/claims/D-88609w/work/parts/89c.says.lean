set_option maxRecDepth 100000
/-! A tree is said into a row of words; too many words: false. -/
section
variable {N : Nat}
theorem cs_pi_get (σ : cs_S) (j : Nat) (v : Int32) (j' : Nat) : cs_i (cs_pi σ j v) j' = if j' = j then v else cs_i σ j' := rfl
theorem saysSo_103 (call : cs_ct) (back : cs_bt) (σ : cs_S) (t : Tr) : am_rs (cs_hop 1 call) (cs_hd 17) (some .boolean) back kX1_saysSo 0 [some (.inl (.ref 0)), some (.inl (.ref 103)), some (.inr t), none] [] σ =
    am_cv (call 63 [.inl (.ref 103)] σ) am_tx fun s => bif tr_nd t then am_cv (call (cs_sel [72, 72, 72, 72, 72, 72, 72, 72, 72, 72] (tr_k t)) [.inr t, .inl (.ref 103), .inl (.ref 105), .inl (.int (ic 0))] s) (fun _ s => some (.inl (some (.inl (.int (ic 0 &&& 1)))), s)) fun s => some (.inl (some (.inl (.int (ic 1 &&& 1)))), s) else none := rfl
theorem saysSo_104 (call : cs_ct) (back : cs_bt) (σ : cs_S) (t : Tr) : am_rs (cs_hop 1 call) (cs_hd 17) (some .boolean) back kX1_saysSo 0 [some (.inl (.ref 0)), some (.inl (.ref 104)), some (.inr t), none] [] σ =
    am_cv (call 63 [.inl (.ref 104)] σ) am_tx fun s => bif tr_nd t then am_cv (call (cs_sel [72, 72, 72, 72, 72, 72, 72, 72, 72, 72] (tr_k t)) [.inr t, .inl (.ref 104), .inl (.ref 105), .inl (.int (ic 0))] s) (fun _ s => some (.inl (some (.inl (.int (ic 0 &&& 1)))), s)) fun s => some (.inl (some (.inl (.int (ic 1 &&& 1)))), s) else none := rfl
theorem cs_saysSo {f w : Nat} (hw : w = 103 ∨ w = 104) (σ : cs_S) {t : Tr} (ht : tr_ok t) : cs_call N (f + 2) 17 [.inl (.ref 0), .inl (.ref w), .inr (t)] (σ) = am_cv (cs_call N (f + 1) 72 [.inr (t), .inl (.ref w), .inl (.ref 105), .inl (.int (nI 0))] (cs_pi σ w (nI 0))) (fun _ s => some (.inl (some (.inl (.int (b2 false)))), s)) fun s => some (.inl (some (.inl (.int (b2 true)))), s) := by
  have h : ∀ w, (w = 103 ∨ w = 104) → cs_call N (f + 2) 17 [.inl (.ref 0), .inl (.ref w), .inr t] σ = am_rs (cs_hop 1 (cs_call N (f + 1))) (cs_hd 17) (some .boolean) (am_bk (cs_hop 1 (cs_call N (f + 1))) (cs_hd 17) (some .boolean) kX1_saysSo N) kX1_saysSo 0 [some (.inl (.ref 0)), some (.inl (.ref w)), some (.inr t), none] [] σ := fun w _ => rfl
  rw [h w hw]
  have h72 := cs_s72 _ (tr_k9 ht.2.1 ht.1)
  have hnd := tr_nd_wf ht.2.1 ht.1
  rcases hw with rfl | rfl
  · rw [saysSo_103, dX2_clear_eq]
    unfold dX2_clear
    rw [show cs_isW 103 = true from rfl, cond_true, am_cv_ok, hnd, cond_true, h72]
    rfl
  · rw [saysSo_104, dX2_clear_eq]
    unfold dX2_clear
    rw [show cs_isW 104 = true from rfl, cond_true, am_cv_ok, hnd, cond_true, h72]
    rfl
/-- nothing but the row and how it is said -/
theorem cs_says2 {f w st D : Nat} {K : Nat → Nat → Bool} {σ : cs_S} {μ : mm_S} {t : Tr} (hw : w = 103 ∨ w = 104) (hN : 5 ≤ N) (hk : cm_kp K σ μ) (hst : st < 8) (hD : D ≤ 1000) (ht : tr_ok t) (hf : 100 ≤ f) :
    ∃ σ' b, cs_call N (f) 16 [.inl (.ref 0), .inl (.ref w), .inr (t), .inl (.int (nI st)), .inl (.int (nI D))] (σ) = some (.inl (some (.inl (.int (b2 b)))), σ') ∧ b = decide (glen (K st) t (D + 1) ≤ 80) ∧ (b = true → cw_ σ' w (wsd (fun _ k => K st k) t 0 (D + 1))) ∧
      (∀ j, j ≠ w → j ≠ 105 → j ≠ 125 → σ'.1 j = σ.1 j) ∧ (∀ c, c ≠ w + 20 → σ'.2.1 c = σ.2.1 c) ∧ σ'.2.2 = σ.2.2 := by
  obtain ⟨f, rfl⟩ : ∃ f', f = f' + 3 := ⟨f - 3, by omega⟩
  obtain ⟨⟨m, hm, e102, hb⟩, hkm⟩ := hk st hst
  have hdp := ht.dp
  rw [dX1_says_eq]
  unfold dX1_says
  rw [am_ix_nI hst (by omega), e102, cs_saysSo hw _ ht]
  have hgl := wsd_glen (K st) hkm t 0 (D + 1) ht.2.1
  have hne : w ≠ 105 ∧ w ≠ 125 := by omega
  have hc0 : cw_ (cs_pi (cs_pi (cs_pi σ 105 (nI m)) 125 (nI D)) w (nI 0)) w [] := ⟨va_up_self _ _ _, by simp, fun j hj => by simp at hj⟩
  have h105 : cs_i (cs_pi (cs_pi (cs_pi σ 105 (nI m)) 125 (nI D)) w (nI 0)) 105 = nI m := by
    rw [cs_pi_get, if_neg (by omega), cs_pi_get, if_neg (by omega), cs_pi_get, if_pos rfl]
  have h125 : cs_i (cs_pi (cs_pi (cs_pi σ 105 (nI m)) 125 (nI D)) w (nI 0)) 125 = nI D := by
    rw [cs_pi_get, if_neg (by omega), cs_pi_get, if_pos rfl]
  obtain ⟨hyes, hno⟩ := cs_says_ (N := N) (K := K st) (mask := m) (D := D) (w := w) hm (fun k hk => (hb k hk).1) hD hw hN t 0 (D + 1) 0 [] _ (f + 1) ht.2.1 ht.1 hc0 h105 h125 (by omega) (by omega)
  rw [List.nil_append, hgl] at hyes hno
  have hfr : ∀ {σ'}, cs_kw w (cs_pi (cs_pi (cs_pi σ 105 (nI m)) 125 (nI D)) w (nI 0)) σ' → (∀ j, j ≠ w → j ≠ 105 → j ≠ 125 → σ'.1 j = σ.1 j) ∧ (∀ c, c ≠ w + 20 → σ'.2.1 c = σ.2.1 c) ∧ σ'.2.2 = σ.2.2 := by
    intro σ' hk
    refine ⟨fun j h1 h2 h3 => ?_, fun c hc => hk.2.1 c hc, hk.2.2⟩
    rw [hk.1 j h1]
    show cs_i (cs_pi (cs_pi (cs_pi σ 105 (nI m)) 125 (nI D)) w (nI 0)) j = cs_i σ j
    rw [cs_pi_get, if_neg h1, cs_pi_get, if_neg h3, cs_pi_get, if_neg h2]
  by_cases hl : glen (K st) t (D + 1) ≤ 80
  · obtain ⟨σ', e, hcw, hkw⟩ := hyes hl
    rw [e, am_cv_ok, am_ci_ok, b2_and1, decide_eq_true hl]
    exact ⟨σ', true, rfl, rfl, fun _ => hcw, hfr hkw⟩
  · obtain ⟨σ', l', e, hcw, hkw⟩ := hno (by omega)
    rw [e, decide_eq_false hl]
    exact ⟨σ', false, rfl, rfl, (fun q => by cases q), hfr hkw⟩
end
