set_option maxRecDepth 100000
section
variable {N : Nat}
theorem isSure_rs (call : cs_ct) (back : cs_bt) (σ : cs_S) (t : Tr) (v : Int32) : am_rs (cs_hop 1 call) (cs_hd 47) (some .boolean) back kX1_isSure 0 [some (.inl (.ref 0)), some (.inr t), some (.inl (.int v)), none] [] σ =
    am_cv (call 63 [.inl (.ref 103)] σ) am_tx fun s => am_cv (call 48 [.inl (.ref 0), .inr t] (cs_pi s 13 v)) (fun _ s => some (.inl (some (.inl (.int (ic 0 &&& 1)))), s)) fun s =>
      if cs_i s 103 ≤ ic 20 then am_cv (call 25 [.inl (.ref 0), .inl (.ref 103)] s) am_tx fun s => am_cl (call 30 [.inl (.ref 0), .inl (.int (ic 8))] s) am_tx fun r s => if lg_cmp r (lN 1) = 0 then some (.inl (some (.inl (.int (ic 1 &&& 1)))), s) else some (.inl (some (.inl (.int (ic 0 &&& 1)))), s) else some (.inl (some (.inl (.int (ic 0 &&& 1)))), s) := rfl
theorem cs_enter {N f mt nL cn : Nat} {rt : Option FieldType} {code : am_C} {z : MethodName} {zc : ByteArray} {args : List am_V} {ls : am_L} {s : cs_S} (h : am_lk cs_T mt = some (nL, rt, code, z, zc, cn)) (hb : Nat.ble (am_lay args).length nL = true) (he : am_ent args nL = ls) :
    cs_call N (f + 1) mt args s = am_rs (cs_hop cn (cs_call N f)) (cs_hd mt) rt (am_bk (cs_hop cn (cs_call N f)) (cs_hd mt) rt code N) code 0 ls [] s := by
  subst he
  rw [cs_call, h]
  dsimp only
  rw [hb, cond_true]
/-- isSure: too long, or the choice is in the ear and its readings are counted -/
theorem cs_isSure {way n f b : Nat} {g : Nat → Nat → Bool} {σ : cs_S} {t : Tr} (hway : way < 2 ^ 31) (hn : n ≤ 30) (hg : ∀ k m, m < n → g m k = way.testBit (n - 1 - m)) (hN : 5 ≤ N) (ht : tr_ok t) (h12 : cs_i σ 12 = nI way) (hk : kc t ≤ n) (hf : 60 ≤ f) (hb : tr_dp t ≤ b) :
    (20 < (wsd g t 0 b).length ∧ ∃ σ', cs_call N (f + 2) 47 [.inl (.ref 0), .inr (t), .inl (.int (nI n))] (σ) = some (.inl (some (.inl (.int (b2 false)))), σ') ∧ cs_ck σ σ') ∨
    ((wsd g t 0 b).length ≤ 20 ∧ ∃ σ', cw_ σ' 103 (wsd g t 0 b) ∧ cs_ck σ σ' ∧ cs_call N (f + 2) 47 [.inl (.ref 0), .inr (t), .inl (.int (nI n))] (σ) = am_cl (cs_call N (f + 1) 30 [.inl (.ref 0), .inl (.int (ic 8))] (cs_pi (cs_pf σ' 108 (va_cpy (σ'.2.1 123) (σ'.2.1 108) 0 0 (wsd g t 0 b).length)) 9 (nI (wsd g t 0 b).length))) am_tx fun r s => if lg_cmp r (lN 1) = 0 then some (.inl (some (.inl (.int (ic 1 &&& 1)))), s) else some (.inl (some (.inl (.int (ic 0 &&& 1)))), s)) := by
  have h := cs_enter (N := N) (f := f + 1) (mt := 47) (nL := 4) (args := [.inl (.ref 0), .inr t, .inl (.int (nI n))]) (ls := [some (.inl (.ref 0)), some (.inr t), some (.inl (.int (nI n))), none]) (s := σ) (rt := some .boolean) (code := kX1_isSure) rfl rfl rfl
  have h63 : cs_call N (f + 1) 63 [.inl (.ref 103)] σ = some (.inl none, cs_pi σ 103 (ic 0)) := by
    rw [dX2_clear_eq]
    unfold dX2_clear
    rw [show cs_isW 103 = true from rfl, cond_true]
  have hdp := ht.dp
  have hr : cs_rdy way (n - 0) [] (cs_pi (cs_pi σ 103 (ic 0)) 13 (nI n)) := ⟨⟨rfl, by simp, fun j hj => by simp at hj⟩, h12, rfl⟩
  have hck : cs_ck σ (cs_pi (cs_pi σ 103 (ic 0)) 13 (nI n)) := ⟨fun j a b => by
    show cs_i (cs_pi (cs_pi σ 103 (ic 0)) 13 (nI n)) j = cs_i σ j
    rw [cs_pi_get, if_neg b, cs_pi_get, if_neg a], fun _ _ => rfl, rfl⟩
  obtain ⟨c1, c2⟩ := cs_chooses (N := N) hway hn hg hN t 0 b [] _ (f + 1) ht.2.1 ht.1 hr (by omega) (by omega) (by omega)
  rw [List.nil_append] at c1 c2
  rw [h, isSure_rs, h63, am_cv_ok]
  by_cases h80 : (wsd g t 0 b).length ≤ 80
  · obtain ⟨σ', e, q1, q2⟩ := c1 h80
    rw [e, am_cv_ok, q1.1.1, show ic 20 = nI 20 from rfl]
    by_cases h20 : (wsd g t 0 b).length ≤ 20
    · rw [if_pos (nI_le h20 (by omega)), cs_takes q1.1.1 h20, am_cv_ok]
      exact .inr ⟨h20, σ', q1.1, hck.tr q2, rfl⟩
    · rw [if_neg (nI_ge (by omega) (by omega))]
      exact .inl ⟨by omega, σ', rfl, hck.tr q2⟩
  · obtain ⟨σ', e, q2⟩ := c2 (by omega)
    rw [e]
    exact .inl ⟨by omega, σ', rfl, hck.tr q2⟩
end
