set_option maxRecDepth 100000
/-! THE NODES' WEIGHTS. -/
section
variable {l : Launch} {D : va_G} {cl : List vw_C}
def wg_Pc (D : va_G) (cl : List vw_C) (x k : Nat) (fs : List Value) : Array Value → State → Prop := fun a U => a = [.ref x].toArray ∧ va_at D cl (x, .inr (cx_ci k, fs)) U.heap ∧ va_K D cl [] U
def wg_Qc (r : Int32) : Array Value → State → Outcome → State → Prop := fun _ st o t => o = .returned (some (.int r)) ∧ t.heap = st.heap
theorem wg_blind {x k : Nat} {fs : List Value} : FrameBlind (wg_Pc D cl x k fs) := fun a U gg mk q => ⟨q.1, q.2.1, va_K.moved (u := U) (U := U.calling gg mk a) (Vm.Alike.refl U.vm) q.2.2⟩
theorem cb_wg : cx_cb yX7_weight (ws_ yX7_weight cX7_weight 1 (some .int)) 1 := cx_cb.of q1089 q77 ⟨by decide, by decide⟩ (by decide)
theorem wg_node (hcl : cx_clok cl) {k : Nat} (hk : k ≤ 9) (x n v z dp : Nat) (rx ry : Value) : xm_Met l yX7_weight (ws_ yX7_weight cX7_weight 1 (some .int)) { frames := 0, cells := 0, slots := 0, locals := 0 } (wg_Pc D cl x k (cx_nfs n k v z dp rx ry)) (wg_Qc (nI z + 10)) 0 0 (fun _ => False) := by
  refine sx_ofW (cc := cX7_weight) (maxL := 1) (ret := some .int) (hh := []) (by decide) (.inl ⟨rfl, rfl⟩) ?_
  intro p e s m args below meth c hadm hx hb hml hret hlocks hnm hts hown hex hP
  obtain ⟨rfl, hat, hK⟩ := hP
  obtain ⟨hin, hq⟩ := cx_q_in _ hk
  have hT : ∀ k, k ≤ 9 → 2 < (cx_q k).2.2 ∧ ((cx_q k).2.1 2).2.1 = "size" ∧ ((cx_q k).2.1 2).2.2.1 = "I" ∧ ((cx_q k).2.1 2).1 = "FormulaVoice$Node" := le9 ⟨by decide, rfl, rfl, rfl⟩ ⟨by decide, rfl, rfl, rfl⟩ ⟨by decide, rfl, rfl, rfl⟩ ⟨by decide, rfl, rfl, rfl⟩ ⟨by decide, rfl, rfl, rfl⟩ ⟨by decide, rfl, rfl, rfl⟩ ⟨by decide, rfl, rfl, rfl⟩ ⟨by decide, rfl, rfl, rfl⟩ ⟨by decide, rfl, rfl, rfl⟩ ⟨by decide, rfl, rfl, rfl⟩
  obtain ⟨t1, t2, t3, t4⟩ := hT _ hk
  have hl := lv_entry ([.ref x]) (n := 1) (Nat.le_of_ble_eq_true rfl)
  rw [lg_entry_eq]
  generalize (lg_sl ([.ref x]) ++ List.replicate (1 - (lg_sl ([.ref x])).length) Slot.unset).toArray = ls at hl ⊢
  have hl : lv_has ls 1 [(0, .ref x)] := hl
  refine lv_aload_n hx hb dX7_weight_0 rfl (lv_at hl 0 rfl) ?_
  -- 1: .getfield 18
  refine va_get (C := (cx_q k).1) (T := (cx_q k).2.1) (N := (cx_q k).2.2) (ref := "FormulaVoice$Node") hx hb hts hin hown hK (va_P1 hat) 0 rfl (hcl _ _ hq) 2 t1 (by rw [t2, t3]; exact hts _ q138) (by rw [t4]; exact fun _ h => h) (v := .int (nI z)) rfl dX7_weight_1 ?_
  refine lv_bipush hx hb dX7_weight_4 rfl ?_
  refine lv_iadd hx hb dX7_weight_6 ?_
  -- 7: .ireturn
  exact xm_W (W.iret hx hb hret (fun t ht hWm => ⟨rfl, ht⟩) (fun _ h => by cases h) dX7_weight_7 hlocks) (fun t => xm_MQ.of)
theorem cb_wgX9 : cx_cb yX9_weight (ws_ yX9_weight cX9_weight 1 (some .int)) 1 := cx_cb.of q1074 q79 ⟨by decide, by decide⟩ (by decide)
theorem wg_X9 (hcl : cx_clok cl) (x n v z dp : Nat) (rx ry : Value) : xm_Met l yX9_weight (ws_ yX9_weight cX9_weight 1 (some .int)) { frames := 1, cells := 0, slots := 0, locals := 40 } (wg_Pc D cl x 1 (cx_nfs n 1 v z dp rx ry)) (wg_Qc (nI z + 10 + nI v)) 0 0 (fun _ => False) := by
  refine sx_ofW (cc := cX9_weight) (maxL := 1) (ret := some .int) (hh := []) (by decide) (.inl ⟨rfl, rfl⟩) ?_
  intro p e s m args below meth c hadm hx hb hml hret hlocks hnm hts hown hex hP
  obtain ⟨rfl, hat, hK⟩ := hP
  have hk9 : 1 ≤ 9 := by omega
  obtain ⟨hin, hq⟩ := cx_q_in _ hk9
  have hl := lv_entry ([.ref x]) (n := 1) (Nat.le_of_ble_eq_true rfl)
  rw [lg_entry_eq]
  generalize (lg_sl ([.ref x]) ++ List.replicate (1 - (lg_sl ([.ref x])).length) Slot.unset).toArray = ls at hl ⊢
  have hl : lv_has ls 1 [(0, .ref x)] := hl
  refine lv_aload_n hx hb dX9_weight_0 rfl (lv_at hl 0 rfl) ?_
  -- 1: .invokespecial 21
  refine xm_callR (xm_runP (own := RX9) (C := (cx_q 1).1) (owner := RX7) (x := ⟨"FormulaVoice$Letter", "weight", "()I"⟩) (n := 0) (Ts := lw_all) (b := x) (As := []) (rest := []) (hK.1 _ _ (hcl _ _ hq)).2 ⟨hx, hb, hml, hown, hts⟩ (wg_node (D := D) (cl := cl) hcl hk9 x n v z dp rx ry) (cx_B (f := 0) hts cb_wg ⟨Nat.le_refl _, Nat.le_refl _⟩) rfl (hts _ q1075) (hts _ q1076) (hts _ q166) (hts _ q154) (hts _ q1064) (by decide) (by decide +kernel) ⟨wg_blind, va_recv hK (va_P1 hat) (hcl _ _ hq) (q0 := 0) rfl, fun U hU hWm => ⟨rfl, by rw [hU]; exact hat, va_K.moved hWm.alike hK⟩⟩ rfl hl.1 rfl (Nat.le_of_ble_eq_true rfl) dX9_weight_1 ⟨Nat.le_refl _, Nat.le_refl _⟩) (fun v1 st₀ t1 L h0 hWm hq1 hL => ?_) (fun y st₀ t1 L h0 hWm hq1 hL => by obtain ⟨h, -⟩ := hq1; cases h)
  obtain ⟨hv, hH⟩ := hq1
  cases hv
  rw [h0] at hH
  rw [hH]
  refine lv_aload_n hx hb dX9_weight_4 rfl (lv_at hl 0 rfl) ?_
  -- 5: .getfield 9
  refine va_get (C := (cx_q 1).1) (T := (cx_q 1).2.1) (N := (cx_q 1).2.2) (ref := "FormulaVoice$Digits") hx hb hts hin hown hK (va_P1 hat) 0 rfl (hcl _ _ hq) 4 (by decide) (hts _ q128) (u_same (hts _ q129)) (v := .int (nI v)) rfl dX9_weight_5 ?_
  refine lv_iadd hx hb dX9_weight_8 ?_
  -- 9: .ireturn
  exact xm_W (W.iret hx hb hret (fun t ht hWm => ⟨rfl, ht⟩) (fun q h => by rw [List.nil_append] at h; exact hL q h) dX9_weight_9 hlocks) (fun t => xm_MQ.of)
theorem cb_wgX11 : cx_cb yX11_weight (ws_ yX11_weight cX11_weight 1 (some .int)) 1 := cx_cb.of q1085 q82 ⟨by decide, by decide⟩ (by decide)
theorem wg_X11 (hcl : cx_clok cl) {k : Nat} (hk : k = 5 ∨ k = 6) (x n v z dp : Nat) (rx ry : Value) : xm_Met l yX11_weight (ws_ yX11_weight cX11_weight 1 (some .int)) { frames := 1, cells := 0, slots := 0, locals := 40 } (wg_Pc D cl x k (cx_nfs n k v z dp rx ry)) (wg_Qc (nI z + 10 + 100)) 0 0 (fun _ => False) := by
  refine sx_ofW (cc := cX11_weight) (maxL := 1) (ret := some .int) (hh := []) (by decide) (.inl ⟨rfl, rfl⟩) ?_
  intro p e s m args below meth c hadm hx hb hml hret hlocks hnm hts hown hex hP
  obtain ⟨rfl, hat, hK⟩ := hP
  have hk9 : k ≤ 9 := by omega
  obtain ⟨hin, hq⟩ := cx_q_in _ hk9
  have hl := lv_entry ([.ref x]) (n := 1) (Nat.le_of_ble_eq_true rfl)
  rw [lg_entry_eq]
  generalize (lg_sl ([.ref x]) ++ List.replicate (1 - (lg_sl ([.ref x])).length) Slot.unset).toArray = ls at hl ⊢
  have hl : lv_has ls 1 [(0, .ref x)] := hl
  refine lv_aload_n hx hb dX11_weight_0 rfl (lv_at hl 0 rfl) ?_
  -- 1: .invokespecial 7
  refine xm_callR (xm_runP (own := RX11) (C := (cx_q k).1) (owner := RX7) (x := ⟨"FormulaVoice$Two", "weight", "()I"⟩) (n := 0) (Ts := lw_all) (b := x) (As := []) (rest := []) (hK.1 _ _ (hcl _ _ hq)).2 ⟨hx, hb, hml, hown, hts⟩ (wg_node (D := D) (cl := cl) hcl hk9 x n v z dp rx ry) (cx_B (f := 0) hts cb_wg ⟨Nat.le_refl _, Nat.le_refl _⟩) rfl (hts _ q1086) (hts _ q1087) (hts _ q199) (hts _ q186) (hts _ q1064) (by decide) (by decide +kernel) ⟨wg_blind, va_recv hK (va_P1 hat) (hcl _ _ hq) (q0 := 0) rfl, fun U hU hWm => ⟨rfl, by rw [hU]; exact hat, va_K.moved hWm.alike hK⟩⟩ rfl hl.1 rfl (Nat.le_of_ble_eq_true rfl) dX11_weight_1 ⟨Nat.le_refl _, Nat.le_refl _⟩) (fun v1 st₀ t1 L h0 hWm hq1 hL => ?_) (fun y st₀ t1 L h0 hWm hq1 hL => by obtain ⟨h, -⟩ := hq1; cases h)
  obtain ⟨hv, hH⟩ := hq1
  cases hv
  rw [h0] at hH
  rw [hH]
  refine lv_bipush hx hb dX11_weight_4 rfl ?_
  refine lv_iadd hx hb dX11_weight_6 ?_
  -- 7: .ireturn
  exact xm_W (W.iret hx hb hret (fun t ht hWm => ⟨rfl, ht⟩) (fun q h => by rw [List.nil_append] at h; exact hL q h) dX11_weight_7 hlocks) (fun t => xm_MQ.of)
theorem cb_wgX13 : cx_cb yX13_weight (ws_ yX13_weight cX13_weight 1 (some .int)) 1 := cx_cb.of q1079 q84 ⟨by decide, by decide⟩ (by decide)
theorem wg_X13 (hcl : cx_clok cl) (x n v z dp : Nat) (rx ry : Value) : xm_Met l yX13_weight (ws_ yX13_weight cX13_weight 1 (some .int)) { frames := 1, cells := 0, slots := 0, locals := 40 } (wg_Pc D cl x 8 (cx_nfs n 8 v z dp rx ry)) (wg_Qc (2 * (nI z + 10))) 0 0 (fun _ => False) := by
  refine sx_ofW (cc := cX13_weight) (maxL := 1) (ret := some .int) (hh := []) (by decide) (.inl ⟨rfl, rfl⟩) ?_
  intro p e s m args below meth c hadm hx hb hml hret hlocks hnm hts hown hex hP
  obtain ⟨rfl, hat, hK⟩ := hP
  have hk9 : 8 ≤ 9 := by omega
  obtain ⟨hin, hq⟩ := cx_q_in _ hk9
  have hl := lv_entry ([.ref x]) (n := 1) (Nat.le_of_ble_eq_true rfl)
  rw [lg_entry_eq]
  generalize (lg_sl ([.ref x]) ++ List.replicate (1 - (lg_sl ([.ref x])).length) Slot.unset).toArray = ls at hl ⊢
  have hl : lv_has ls 1 [(0, .ref x)] := hl
  refine lv_iconst hx hb dX13_weight_0 rfl ?_
  refine lv_aload_n hx hb dX13_weight_1 rfl (lv_at hl 0 rfl) ?_
  -- 2: .invokespecial 27
  refine xm_callR (xm_runP (own := RX13) (C := (cx_q 8).1) (owner := RX7) (x := ⟨"FormulaVoice$Root", "weight", "()I"⟩) (n := 0) (Ts := lw_all) (b := x) (As := []) (rest := [.int (2)]) (hK.1 _ _ (hcl _ _ hq)).2 ⟨hx, hb, hml, hown, hts⟩ (wg_node (D := D) (cl := cl) hcl hk9 x n v z dp rx ry) (cx_B (f := 0) hts cb_wg ⟨Nat.le_refl _, Nat.le_refl _⟩) rfl (hts _ q1080) (hts _ q1070) (hts _ q225) (hts _ q213) (hts _ q1064) (by decide) (by decide +kernel) ⟨wg_blind, va_recv hK (va_P1 hat) (hcl _ _ hq) (q0 := 0) rfl, fun U hU hWm => ⟨rfl, by rw [hU]; exact hat, va_K.moved hWm.alike hK⟩⟩ rfl hl.1 rfl (Nat.le_of_ble_eq_true rfl) dX13_weight_2 ⟨Nat.le_refl _, Nat.le_refl _⟩) (fun v1 st₀ t1 L h0 hWm hq1 hL => ?_) (fun y st₀ t1 L h0 hWm hq1 hL => by obtain ⟨h, -⟩ := hq1; cases h)
  obtain ⟨hv, hH⟩ := hq1
  cases hv
  rw [h0] at hH
  rw [hH]
  refine lv_imul hx hb dX13_weight_5 ?_
  -- 6: .ireturn
  exact xm_W (W.iret hx hb hret (fun t ht hWm => ⟨rfl, ht⟩) (fun q h => by rw [List.nil_append] at h; exact hL q h) dX13_weight_6 hlocks) (fun t => xm_MQ.of)
theorem cb_wgX14 : cx_cb yX14_weight (ws_ yX14_weight cX14_weight 1 (some .int)) 1 := cx_cb.of q1068 q85 ⟨by decide, by decide⟩ (by decide)
theorem wg_X14 (hcl : cx_clok cl) (x n v z dp : Nat) (rx ry : Value) : xm_Met l yX14_weight (ws_ yX14_weight cX14_weight 1 (some .int)) { frames := 1, cells := 0, slots := 0, locals := 40 } (wg_Pc D cl x 9 (cx_nfs n 9 v z dp rx ry)) (wg_Qc (nI z + 10 + 1000)) 0 0 (fun _ => False) := by
  refine sx_ofW (cc := cX14_weight) (maxL := 1) (ret := some .int) (hh := []) (by decide) (.inl ⟨rfl, rfl⟩) ?_
  intro p e s m args below meth c hadm hx hb hml hret hlocks hnm hts hown hex hP
  obtain ⟨rfl, hat, hK⟩ := hP
  have hk9 : 9 ≤ 9 := by omega
  obtain ⟨hin, hq⟩ := cx_q_in _ hk9
  have hl := lv_entry ([.ref x]) (n := 1) (Nat.le_of_ble_eq_true rfl)
  rw [lg_entry_eq]
  generalize (lg_sl ([.ref x]) ++ List.replicate (1 - (lg_sl ([.ref x])).length) Slot.unset).toArray = ls at hl ⊢
  have hl : lv_has ls 1 [(0, .ref x)] := hl
  refine lv_aload_n hx hb dX14_weight_0 rfl (lv_at hl 0 rfl) ?_
  -- 1: .invokespecial 35
  refine xm_callR (xm_runP (own := RX14) (C := (cx_q 9).1) (owner := RX7) (x := ⟨"FormulaVoice$Root", "weight", "()I"⟩) (n := 0) (Ts := lw_all) (b := x) (As := []) (rest := []) (hK.1 _ _ (hcl _ _ hq)).2 ⟨hx, hb, hml, hown, hts⟩ (wg_node (D := D) (cl := cl) hcl hk9 x n v z dp rx ry) (cx_B (f := 0) hts cb_wg ⟨Nat.le_refl _, Nat.le_refl _⟩) rfl (hts _ q1069) (hts _ q1070) (hts _ q240) (hts _ q213) (hts _ q1064) (by decide) (by decide +kernel) ⟨wg_blind, va_recv hK (va_P1 hat) (hcl _ _ hq) (q0 := 0) rfl, fun U hU hWm => ⟨rfl, by rw [hU]; exact hat, va_K.moved hWm.alike hK⟩⟩ rfl hl.1 rfl (Nat.le_of_ble_eq_true rfl) dX14_weight_1 ⟨Nat.le_refl _, Nat.le_refl _⟩) (fun v1 st₀ t1 L h0 hWm hq1 hL => ?_) (fun y st₀ t1 L h0 hWm hq1 hL => by obtain ⟨h, -⟩ := hq1; cases h)
  obtain ⟨hv, hH⟩ := hq1
  cases hv
  rw [h0] at hH
  rw [hH]
  refine lv_sipush hx hb dX14_weight_4 rfl ?_
  refine lv_iadd hx hb dX14_weight_7 ?_
  -- 8: .ireturn
  exact xm_W (W.iret hx hb hret (fun t ht hWm => ⟨rfl, ht⟩) (fun q h => by rw [List.nil_append] at h; exact hL q h) dX14_weight_8 hlocks) (fun t => xm_MQ.of)
end
