set_option maxRecDepth 100000
/-! THE NODES' FAILURES. -/
section
variable {l : Launch} {D : va_G} {cl : List vw_C}
def fa_Pc (D : va_G) (cl : List vw_C) (x k sz : Nat) (fs : List Value) : Array Value → State → Prop := fun a U => a = [.ref x].toArray ∧ U.heap.size = sz ∧ va_at D cl (x, .inr (cx_ci k, fs)) U.heap ∧ va_K D cl [] U ∧ sx_N U ∧ ex_ZL (fun q => sz ≤ q) U U.heap
def fa_Qc (D : va_G) (cl : List vw_C) (sz v : Nat) : Array Value → State → Outcome → State → Prop := fun _ st o t => ∃ q fs', o = .returned (some (.ref q)) ∧ sz ≤ q ∧ fs'[6]? = some (.int (nI v)) ∧ va_at D cl (q, .inr (14, fs')) t.heap ∧ va_F (fun q => sz ≤ q) st t
def fa_Q0 (sz : Nat) : Array Value → State → Outcome → State → Prop := fun _ st o t => o = .returned (some .null) ∧ t.heap = st.heap
theorem fa_blind {x k sz : Nat} {fs : List Value} : FrameBlind (fa_Pc D cl x k sz fs) := fun a U gg mk q => ⟨q.1, q.2.1, q.2.2.1, va_K.moved (u := U) (U := U.calling gg mk a) (Vm.Alike.refl U.vm) q.2.2.2.1, sx_N.warm (s := U) (U := U.calling gg mk a) (State.WarmedH.refl U) q.2.2.2.2.1, ex_ZL.moved (u := U) (U := U.calling gg mk a) (Vm.Alike.refl U.vm) q.2.2.2.2.2⟩
theorem to_blind {x sz : Nat} {v : Int32} : FrameBlind (to_Pc x sz v D cl) := fun a U gg mk q => ⟨q.1, q.2.1, q.2.2.1, va_K.moved (u := U) (U := U.calling gg mk a) (Vm.Alike.refl U.vm) q.2.2.2.1, sx_N.warm (s := U) (U := U.calling gg mk a) (State.WarmedH.refl U) q.2.2.2.2.1, ex_ZL.moved (u := U) (U := U.calling gg mk a) (Vm.Alike.refl U.vm) q.2.2.2.2.2⟩
theorem cb_fa : cx_cb yX7_failure (ws_ yX7_failure cX7_failure 1 (some (.object "FormulaVoice$Tossed"))) 1 := cx_cb.of q1130 q77 ⟨by decide, by decide⟩ (by decide)
theorem fa_node (x k sz : Nat) (fs : List Value) : xm_Met l yX7_failure (ws_ yX7_failure cX7_failure 1 (some (.object "FormulaVoice$Tossed"))) { frames := 10, cells := 1, slots := 7, locals := 400 } (fa_Pc D cl x k sz fs) (fa_Q0 sz) 1 7 (fun q => sz ≤ q) := by
  refine sx_ofW (cc := cX7_failure) (maxL := 1) (ret := some (.object "FormulaVoice$Tossed")) (hh := []) (by decide) (.inl ⟨rfl, rfl⟩) ?_
  intro p e s m args below meth c hadm hx hb hml hret hlocks hnm hts hown hex hP
  obtain ⟨rfl, rfl, -⟩ := hP
  have hl := lv_entry ([.ref x]) (n := 1) (Nat.le_of_ble_eq_true rfl)
  rw [lg_entry_eq]
  generalize (lg_sl ([.ref x]) ++ List.replicate (1 - (lg_sl ([.ref x])).length) Slot.unset).toArray = ls at hl ⊢
  refine lv_null hx hb dX7_failure_0 ?_
  -- 1: .areturn
  refine W.up (cells' := 1) (slots' := 7) ?_ (Nat.zero_le _) (Nat.zero_le _)
  exact xm_W (W.aret hx hb hret (.inl ⟨_, rfl⟩) (.inl rfl) (fun t ht hWm => ⟨rfl, ht⟩) (fun _ h => by cases h) dX7_failure_1 hlocks) (fun t => xm_MQ.of)
theorem cb_faX8 : cx_cb yX8_failure (ws_ yX8_failure cX8_failure 1 (some (.object "FormulaVoice$Tossed"))) 1 := cx_cb.of q1122 q78 ⟨by decide, by decide⟩ (by decide)
theorem fa_X8 (hfl : l.flags = flags0) (hcl : cx_clok cl) (h14 : cl[14]? = some (RX15, TX15, 7)) {k : Nat} (hk : k = 0 ∨ k = 1) (x n v z dp sz : Nat) (rx ry : Value) : xm_Met l yX8_failure (ws_ yX8_failure cX8_failure 1 (some (.object "FormulaVoice$Tossed"))) { frames := 10, cells := 1, slots := 7, locals := 400 } (fa_Pc D cl x k sz (cx_nfs n k v z dp rx ry)) (fa_Qc D cl sz v) 1 7 (fun q => sz ≤ q) := by
  refine sx_ofW (cc := cX8_failure) (maxL := 1) (ret := some (.object "FormulaVoice$Tossed")) (hh := []) (by decide) (.inl ⟨rfl, rfl⟩) ?_
  intro p e s m args below meth c hadm hx hb hml hret hlocks hnm hts hown hex hP
  obtain ⟨rfl, rfl, hat, hK, hN, hZ⟩ := hP
  have hk9 : k ≤ 9 := by omega
  obtain ⟨hin, hq⟩ := cx_q_in _ hk9
  have hl := lv_entry ([.ref x]) (n := 1) (Nat.le_of_ble_eq_true rfl)
  rw [lg_entry_eq]
  generalize (lg_sl ([.ref x]) ++ List.replicate (1 - (lg_sl ([.ref x])).length) Slot.unset).toArray = ls at hl ⊢
  have hl : lv_has ls 1 [(0, .ref x)] := hl
  obtain ⟨cX, kX, hfX, hkX, -⟩ := Cond.instantiable_spec (hts _ q1102)
  refine W.newcK hx hb hown (hts _ q1123) (hts _ q1102) (hts _ q99) rfl dX8_failure_0 (by decide) (by decide) hfX rfl fun H1 kC hkC e1 z1 o1 => ?_
  have hxl : x < s.heap.size := va_at.lt hat
  have hat1 : va_at D cl (x, .inr (cx_ci k, cx_nfs n k v z dp rx ry)) H1 := va_at.kept hat (o1 x hxl)
  refine lv_dup hx hb dX8_failure_3 rfl ?_
  refine lv_aload_n hx hb dX8_failure_4 rfl (lv_at hl 0 rfl) ?_
  -- 5: .getfield 7
  have hget : W p l e { frames := 10, cells := 1, slots := 7, locals := 400 } s m [.ref x].toArray below meth c H1 [] (0 + 1) (0 + 7) (xm_MQ below (fa_Qc D cl s.heap.size v) [.ref x].toArray s 1 7 (fun q => s.heap.size ≤ q)) (F0 m 8 ls [.int (nI v), .ref s.heap.size, .ref s.heap.size]) := by
    have hz1 : s.heap.size ≤ H1.size := by omega
    have hsub : ∀ q, to_A s.heap.size H1.size q → s.heap.size ≤ q := by
      rintro q (rfl | h)
      · exact Nat.le_refl _
      · omega
    refine am_callR (va_runI (own := RX8) (n := 1) (Ts := lw_all) (b := s.heap.size) (As := [.int (nI v)]) (rest := [.ref s.heap.size]) ⟨hx, hb, hml, hown, hts⟩ ((to_init (l := l) (D := D) (cl := cl) hfl h14 s.heap.size H1.size (nI v)).met (fun a st o t h => ⟨_, h.1⟩)) (cwI 1 hts (lw_meth q1112) rfl rfl rfl (hts _ q99) (hts _ q1124) (hts _ q1111) rfl ⟨by decide, by decide, by decide +kernel⟩ ⟨Nat.le_of_ble_eq_true rfl, Nat.le_of_ble_eq_true rfl⟩) ⟨to_blind, fun U hU hW => ?_⟩ rfl rfl hl.1 rfl (lv_room (Nat.le_of_ble_eq_true rfl)) dX8_failure_8 ⟨Nat.le_of_ble_eq_true rfl, Nat.le_of_ble_eq_true rfl⟩) (fun v1 st₀ t L h0 hWm hq1 hL => ?_)
    · obtain ⟨k', hk', ek⟩ := hW.alike.2.2 _ _ hkC
      refine ⟨rfl, by rw [hU], ⟨cX, k', by rw [hW.alike.findClass]; exact hfX, hk', ?_⟩, va_K.moved hW.alike hK, hN.warm hW, ?_⟩
      · rw [hU, ek]
        exact e1
      · rw [hU]
        exact ((hZ.moved hW.alike).kept (fun q g1 g2 => o1 q g1)).narrow hsub
    · obtain ⟨hv, ⟨fs, hf6, hat2⟩, hF1, hF2⟩ := hq1
      cases hv
      rw [h0] at hF1 hF2
      refine xm_W (W.aret hx hb hret (.inl ⟨_, rfl⟩) (.inr ⟨_, rfl⟩) (fun t2 ht hWm => ⟨s.heap.size, fs, rfl, Nat.le_refl _, hf6, by rw [ht]; exact hat2, by rw [ht]; omega, fun q g1 g2 => ?_⟩) (fun q hq => hsub _ (hL q hq)) dX8_failure_11 hlocks) (fun t => xm_MQ.of)
      rw [ht, hF2 q (by omega) (fun z => g2 (hsub q z))]
      exact o1 q g1
  rcases hk with rfl | rfl
  · refine va_get (C := (cx_q 0).1) (T := (cx_q 0).2.1) (N := (cx_q 0).2.2) (ref := "FormulaVoice$Letter") hx hb hts hin hown hK (va_P1 hat1) 0 rfl (hcl _ _ hq) 4 (by decide) (hts _ q127) (fun _ h => h) (v := .int (nI v)) rfl dX8_failure_5 hget
  · refine va_get (C := (cx_q 1).1) (T := (cx_q 1).2.1) (N := (cx_q 1).2.2) (ref := "FormulaVoice$Letter") hx hb hts hin hown hK (va_P1 hat1) 0 rfl (hcl _ _ hq) 4 (by decide) (hts _ q127) (fun _ h => h) (v := .int (nI v)) rfl dX8_failure_5 hget
theorem cb_faX14 : cx_cb yX14_failure (ws_ yX14_failure cX14_failure 1 (some (.object "FormulaVoice$Tossed"))) 1 := cx_cb.of q1100 q85 ⟨by decide, by decide⟩ (by decide)
theorem fa_X14 (hfl : l.flags = flags0) (hcl : cx_clok cl) (h14 : cl[14]? = some (RX15, TX15, 7)) {k : Nat} (hk : k = 9) (x n v z dp sz : Nat) (rx ry : Value) : xm_Met l yX14_failure (ws_ yX14_failure cX14_failure 1 (some (.object "FormulaVoice$Tossed"))) { frames := 10, cells := 1, slots := 7, locals := 400 } (fa_Pc D cl x k sz (cx_nfs n k v z dp rx ry)) (fa_Qc D cl sz v) 1 7 (fun q => sz ≤ q) := by
  refine sx_ofW (cc := cX14_failure) (maxL := 1) (ret := some (.object "FormulaVoice$Tossed")) (hh := []) (by decide) (.inl ⟨rfl, rfl⟩) ?_
  intro p e s m args below meth c hadm hx hb hml hret hlocks hnm hts hown hex hP
  obtain ⟨rfl, rfl, hat, hK, hN, hZ⟩ := hP
  have hk9 : k ≤ 9 := by omega
  obtain ⟨hin, hq⟩ := cx_q_in _ hk9
  have hl := lv_entry ([.ref x]) (n := 1) (Nat.le_of_ble_eq_true rfl)
  rw [lg_entry_eq]
  generalize (lg_sl ([.ref x]) ++ List.replicate (1 - (lg_sl ([.ref x])).length) Slot.unset).toArray = ls at hl ⊢
  have hl : lv_has ls 1 [(0, .ref x)] := hl
  obtain ⟨cX, kX, hfX, hkX, -⟩ := Cond.instantiable_spec (hts _ q1102)
  refine W.newcK hx hb hown (hts _ q1101) (hts _ q1102) (hts _ q99) rfl dX14_failure_0 (by decide) (by decide) hfX rfl fun H1 kC hkC e1 z1 o1 => ?_
  have hxl : x < s.heap.size := va_at.lt hat
  have hat1 : va_at D cl (x, .inr (cx_ci k, cx_nfs n k v z dp rx ry)) H1 := va_at.kept hat (o1 x hxl)
  refine lv_dup hx hb dX14_failure_3 rfl ?_
  refine lv_aload_n hx hb dX14_failure_4 rfl (lv_at hl 0 rfl) ?_
  -- 5: .getfield 9
  have hget : W p l e { frames := 10, cells := 1, slots := 7, locals := 400 } s m [.ref x].toArray below meth c H1 [] (0 + 1) (0 + 7) (xm_MQ below (fa_Qc D cl s.heap.size v) [.ref x].toArray s 1 7 (fun q => s.heap.size ≤ q)) (F0 m 8 ls [.int (nI v), .ref s.heap.size, .ref s.heap.size]) := by
    have hz1 : s.heap.size ≤ H1.size := by omega
    have hsub : ∀ q, to_A s.heap.size H1.size q → s.heap.size ≤ q := by
      rintro q (rfl | h)
      · exact Nat.le_refl _
      · omega
    refine am_callR (va_runI (own := RX14) (n := 1) (Ts := lw_all) (b := s.heap.size) (As := [.int (nI v)]) (rest := [.ref s.heap.size]) ⟨hx, hb, hml, hown, hts⟩ ((to_init (l := l) (D := D) (cl := cl) hfl h14 s.heap.size H1.size (nI v)).met (fun a st o t h => ⟨_, h.1⟩)) (cwI 1 hts (lw_meth q1112) rfl rfl rfl (hts _ q99) (hts _ q1110) (hts _ q1111) rfl ⟨by decide, by decide, by decide +kernel⟩ ⟨Nat.le_of_ble_eq_true rfl, Nat.le_of_ble_eq_true rfl⟩) ⟨to_blind, fun U hU hW => ?_⟩ rfl rfl hl.1 rfl (lv_room (Nat.le_of_ble_eq_true rfl)) dX14_failure_8 ⟨Nat.le_of_ble_eq_true rfl, Nat.le_of_ble_eq_true rfl⟩) (fun v1 st₀ t L h0 hWm hq1 hL => ?_)
    · obtain ⟨k', hk', ek⟩ := hW.alike.2.2 _ _ hkC
      refine ⟨rfl, by rw [hU], ⟨cX, k', by rw [hW.alike.findClass]; exact hfX, hk', ?_⟩, va_K.moved hW.alike hK, hN.warm hW, ?_⟩
      · rw [hU, ek]
        exact e1
      · rw [hU]
        exact ((hZ.moved hW.alike).kept (fun q g1 g2 => o1 q g1)).narrow hsub
    · obtain ⟨hv, ⟨fs, hf6, hat2⟩, hF1, hF2⟩ := hq1
      cases hv
      rw [h0] at hF1 hF2
      refine xm_W (W.aret hx hb hret (.inl ⟨_, rfl⟩) (.inr ⟨_, rfl⟩) (fun t2 ht hWm => ⟨s.heap.size, fs, rfl, Nat.le_refl _, hf6, by rw [ht]; exact hat2, by rw [ht]; omega, fun q g1 g2 => ?_⟩) (fun q hq => hsub _ (hL q hq)) dX14_failure_11 hlocks) (fun t => xm_MQ.of)
      rw [ht, hF2 q (by omega) (fun z => g2 (hsub q z))]
      exact o1 q g1
  subst hk
  refine va_get (C := (cx_q 9).1) (T := (cx_q 9).2.1) (N := (cx_q 9).2.2) (ref := "FormulaVoice$Call") hx hb hts hin hown hK (va_P1 hat1) 0 rfl (hcl _ _ hq) 5 (by decide) (hts _ q232) (fun _ h => h) (v := .int (nI v)) rfl dX14_failure_5 hget
end
