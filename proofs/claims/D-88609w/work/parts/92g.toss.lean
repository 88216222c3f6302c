set_option maxRecDepth 100000
/-! toss, by hand. -/
theorem ex_3 {c : Code} {q1 q2 q3 : Nat × Nat × Nat × Nat} (hex : c.exceptionTable.toList.map (fun x => (x.startPc, x.endPc, x.handlerPc, x.catchType)) = [q1, q2, q3]) : ∃ x1 x2 x3 : ExceptionTableEntry, c.exceptionTable.toList = [x1, x2, x3] ∧ (x1.startPc, x1.endPc, x1.handlerPc, x1.catchType) = q1 ∧ (x2.startPc, x2.endPc, x2.handlerPc, x2.catchType) = q2 ∧ (x3.startPc, x3.endPc, x3.handlerPc, x3.catchType) = q3 := by
  obtain ⟨x1, r1, h1, g1, k1⟩ := List.map_eq_cons_iff.mp hex
  obtain ⟨x2, r2, h2, g2, k2⟩ := List.map_eq_cons_iff.mp k1
  obtain ⟨x3, r3, h3, g3, k3⟩ := List.map_eq_cons_iff.mp k2
  rw [List.map_eq_nil_iff.mp k3] at h3
  rw [h3] at h2
  rw [h2] at h1
  exact ⟨x1, x2, x3, h1, g1, g2, g3⟩
theorem sx_anull {p : Program} {l : Launch} {e : Env} {R : Room} {s : State} {m : MethodId} {args : Array Value} {below : List Frame} {meth : Method} {c : Code} {H : Heap} {locs : List Loc} {cells slots : Nat} {Q : State → Prop} {pc : Nat} {ls : Array Slot} {cc : ByteArray} {rest : List Value} (hx : p.tables.exec = Jvm.exec) (hb : c.code = cc) (hdg : decode cc pc = .ok (.athrow, 1)) (h : ex_N p l e R s m args below meth c H locs cells slots Q (F0 m pc ls rest) "java/lang/NullPointerException" none) : W p l e R s m args below meth c H locs cells slots Q (F0 m pc ls (.null :: rest)) := by
  intro T hT X
  obtain ⟨t, a, b⟩ := h T hT X
  exact ⟨t, X.athrowNull hx (g := F0 m pc ls (.null :: rest)) rfl (rest := rest) rfl (by rw [hb]; exact hdg) t a, b⟩
section
variable {l : Launch} {D : va_G} {cl : List vw_C} {ad : Nat → Nat} {d : Nat → ClassId}
theorem fa_sel (hfl : l.flags = flags0) (hcl : cx_clok cl) (h14 : cl[14]? = some (RX15, TX15, 7)) (x n v z dp sz : Nat) (rx ry : Value) : ∀ k, k ≤ 9 → ∃ (y : MethodName) (ws : List Cond), cx_cb y ws 1 ∧ Cond.selects (cx_q k).1 yX7_failure y ∈ lw_all ∧ Cond.instanceMethod y ∈ lw_all ∧
    (((k = 0 ∨ k = 1 ∨ k = 9) ∧ xm_Met l y ws { frames := 10, cells := 1, slots := 7, locals := 400 } (fa_Pc D cl x k sz (cx_nfs n k v z dp rx ry)) (fa_Qc D cl sz v) 1 7 (fun q => sz ≤ q)) ∨ (¬ (k = 0 ∨ k = 1 ∨ k = 9) ∧ xm_Met l y ws { frames := 10, cells := 1, slots := 7, locals := 400 } (fa_Pc D cl x k sz (cx_nfs n k v z dp rx ry)) (fa_Q0 sz) 1 7 (fun q => sz ≤ q))) :=
  le9 ⟨_, _, cb_faX8, q1126, q1121, .inl ⟨.inl rfl, fa_X8 hfl hcl h14 (.inl rfl) x n v z dp sz rx ry⟩⟩ ⟨_, _, cb_faX8, q1120, q1121, .inl ⟨.inr (.inl rfl), fa_X8 hfl hcl h14 (.inr rfl) x n v z dp sz rx ry⟩⟩ ⟨_, _, cb_fa, q1129, q1096, .inr ⟨by decide, fa_node x _ sz _⟩⟩ ⟨_, _, cb_fa, q1129, q1096, .inr ⟨by decide, fa_node x _ sz _⟩⟩ ⟨_, _, cb_fa, q1129, q1096, .inr ⟨by decide, fa_node x _ sz _⟩⟩ ⟨_, _, cb_fa, q1128, q1096, .inr ⟨by decide, fa_node x _ sz _⟩⟩ ⟨_, _, cb_fa, q1128, q1096, .inr ⟨by decide, fa_node x _ sz _⟩⟩ ⟨_, _, cb_fa, q1127, q1096, .inr ⟨by decide, fa_node x _ sz _⟩⟩ ⟨_, _, cb_fa, q1125, q1096, .inr ⟨by decide, fa_node x _ sz _⟩⟩ ⟨_, _, cb_faX14, q1098, q1099, .inl ⟨.inr (.inr rfl), fa_X14 hfl hcl h14 rfl x n v z dp sz rx ry⟩⟩
theorem sx_toss (hfl : l.flags = flags0) (hcl : cx_clok cl) (h14 : cl[14]? = some (RX15, TX15, 7)) (SH : Nat → sh_T) (σ : cs_S) (x : Int32) :
    sx_Met l D cl ad d 20 11000 yX1_toss (wsW_ yX1_toss cX1_toss 3 (some .int) [(24, 40, 40, 396), (24, 40, 46, 377), (24, 40, 50, 379)]) [.inl (.ref 0), .inl (.int x)] σ SH (.inl (.inl (some (.inl (.int (sh_ts SH x)))))) (cs_mk σ 10 1000) SH := by
  intro ι κ sz rargs hra
  obtain ⟨r0, rr0, rfl, q0, hra0⟩ := am_S2_c hra
  obtain rfl : r0 = .ref (ad 0) := q0
  obtain ⟨rr1, rfl, hra1⟩ := am_S2_i hra0
  obtain rfl := am_S2_n hra1
  obtain ⟨em1, em2⟩ := cs_mk_1 σ 10 1000
  rw [em1, em2]
  refine sx_ofW (cc := cX1_toss) (maxL := 3) (ret := some .int) (hh := [(24, 40, 40, 396), (24, 40, 46, 377), (24, 40, 50, 379)]) (by decide) (.inr rfl) ?_
  intro p e s m args below meth c hadm hx hb hml hret hlocks hnm hts hown hex hP
  obtain ⟨rfl, rfl, hW, hV, hK, hN, hZ⟩ := hP
  have htr : e.platform.stackTraces = false := Launch.traces_off hfl hadm
  have hA2 : ∀ q, s.heap.size ≤ q → sx_A ι κ SH s.heap.size q := fun q h => .inl (.inr h)
  have hC : sx_C p { frames := 20, cells := 10, slots := 1000, locals := 11000 } s m [.ref (ad 0), .int x].toArray c D cl ad d 3 cX1_toss (sx_A ι κ SH s.heap.size) := ⟨hx, hb, hml, hown, hts, hcl, hK, hA2, by decide, by decide⟩
  have hG := sx_G.start hW hV
  have hl := lv_entry ([.ref (ad 0), .int x]) (n := 3) (Nat.le_of_ble_eq_true rfl)
  rw [lg_entry_eq]
  generalize (lg_sl ([.ref (ad 0), .int x]) ++ List.replicate (3 - (lg_sl ([.ref (ad 0), .int x])).length) Slot.unset).toArray = ls at hl ⊢
  have hl : lv_has ls 3 [(0, .ref (ad 0)), (1, .int x)] := hl
  refine lv_iload_n hx hb dX1_toss_0 rfl (lv_at hl 1 rfl) ?_
  -- 1: .invokestatic 361
  refine sx_isShelf (rr := []) hC hG dX1_toss_1 hl.1 (by decide) ⟨Nat.zero_le _, Nat.zero_le _⟩ (fun ι1 H1 locs1 hG1 hle1 => ?_)
  cases h1 : inR 0 7 x with
  | false =>
    refine lv_if_ne hx hb dX1_toss_4 rfl (fun h => absurd b2f0 h) (fun _ => ?_)
    rw [show sh_ts SH x = ic (-1) by unfold sh_ts; rw [if_neg (by rw [h1]; decide)]]
    refine lv_iconst hx hb dX1_toss_7 rfl ?_
    -- 8: .ireturn
    refine W.up (cells' := 10) (slots' := 1000) ?_ (Nat.zero_le _) (Nat.zero_le _)
    exact xm_W (W.iret hx hb hret (fun t ht hWm => hG1.ret ht _) hG1.2.2.2.2.2.2.2 dX1_toss_8 hlocks) (fun t => xm_MQ.of)
  | true =>
    refine lv_if_ne hx hb dX1_toss_4 rfl (fun _ => ?_) (fun h => absurd h b2t0)
    obtain ⟨i, -, hi7, rfl⟩ := inR_t (by omega) (by omega) h1
    have hi8 : i < 8 := by omega
    have hts' : sh_ts SH (nI i) = if (SH i).1 = 0 then ic (-11) else if (SH i).1 = 1 then tr_ts (SH i).2.1 else ic (-12) := by unfold sh_ts; rw [if_pos h1, nI_clamp (by omega)]
    obtain ⟨x1, x2, x3, hxt, g1, g2, g3⟩ := ex_3 hex
    obtain ⟨a1, a2, a3, a4⟩ := ex_q g1
    obtain ⟨b1, b2', b3, b4⟩ := ex_q g2
    obtain ⟨c1, c2, c3, c4⟩ := ex_q g3
    refine lv_aload_n hx hb dX1_toss_9 rfl (lv_at hl 0 rfl) ?_
    -- 10: .getfield 352
    refine sx_shelves hC hG1 dX1_toss_10 ?_
    refine lv_iload_n hx hb dX1_toss_13 rfl (lv_at hl 1 rfl) ?_
    -- 14: .aaload
    refine sx_shelf hC hG1 dX1_toss_14 hi8 ?_
    refine sx_held hC hG1 dX1_toss_15 hi8 ?_
    obtain ⟨-, hheld⟩ := hG1.2.1.2.2.2.2.2 i hi8
    rcases hheld with ⟨t0, hv⟩ | ⟨t1, hnd, hT⟩ | ⟨t3, hv, hrow⟩
    · -- nothing
      rw [hv, hts', if_pos t0]
      refine lv_ifnonnullN hx hb dX1_toss_18 ?_
      refine lv_bipush hx hb dX1_toss_21 rfl ?_
      -- 23: .ireturn
      refine W.up (cells' := 10) (slots' := 1000) ?_ (Nat.zero_le _) (Nat.zero_le _)
      exact xm_W (W.iret hx hb hret (fun t ht hWm => hG1.ret ht _) hG1.2.2.2.2.2.2.2 dX1_toss_23 hlocks) (fun t => xm_MQ.of)
    · -- a node
      rw [hts', if_neg (by omega), if_pos t1]
      obtain ⟨cb, -, -, hv⟩ := cx_nid hnd hT
      rw [hv] at hT ⊢
      refine lv_ifnonnull hx hb dX1_toss_18 rfl ?_
      refine lv_aload_n hx hb dX1_toss_24 rfl (lv_at hl 0 rfl) ?_
      -- 25: .getfield 352
      refine sx_shelves hC hG1 dX1_toss_25 ?_
      refine lv_iload_n hx hb dX1_toss_28 rfl (lv_at hl 1 rfl) ?_
      -- 29: .aaload
      refine sx_shelf hC hG1 dX1_toss_29 hi8 ?_
      refine sx_held hC hG1 dX1_toss_30 hi8 ?_
      rw [hv]
      refine sx_castN hC hG1.1 dX1_toss_33 hnd hT ?_
      obtain ⟨a', q0, rx, ry, he, hk9, hat, -, -⟩ := cx_nat (d := d) hG1.1 hnd hT
      cases he
      have hat' : va_at D cl (ι1.2.1 cb, .inr (cx_ci (tr_k (SH i).2.1), cx_nfs (tr_n (SH i).2.1) (tr_k (SH i).2.1) (tr_v (SH i).2.1) (tr_sz (SH i).2.1) (tr_dp (SH i).2.1) rx ry)) H1 := cw_P hG1.1.1 q0 _ hat
      obtain ⟨-, hq⟩ := cx_q_in _ hk9
      have hs1 : s.heap.size ≤ H1.size := hG1.2.2.2.2.2.1
      have hPre : ∀ U : State, U.heap = H1 → s.WarmedH U.vm → fa_Pc D cl (ι1.2.1 cb) (tr_k (SH i).2.1) H1.size (cx_nfs (tr_n (SH i).2.1) (tr_k (SH i).2.1) (tr_v (SH i).2.1) (tr_sz (SH i).2.1) (tr_dp (SH i).2.1) rx ry) [.ref (ι1.2.1 cb)].toArray U := by
        intro U hU hWm
        refine ⟨rfl, by rw [hU], by rw [hU]; exact hat', va_K.nil (va_K.moved hWm.alike hK.1), hN.warm hWm, ?_⟩
        rw [hU]
        exact ((hZ.moved hWm.alike).kept (fun q g1 g2 => hG1.2.2.2.2.2.2.1 q g1 g2)).narrow (fun q hq => hA2 q (Nat.le_trans hs1 hq))
      obtain ⟨y, ws, w1, w2, w3, w4⟩ := fa_sel (l := l) (D := D) hfl hcl h14 (ι1.2.1 cb) (tr_n (SH i).2.1) (tr_v (SH i).2.1) (tr_sz (SH i).2.1) (tr_dp (SH i).2.1) H1.size rx ry _ hk9
      rcases w4 with ⟨hk3, w4⟩ | ⟨hk3, w4⟩
      · -- it throws
        rw [show tr_ts (SH i).2.1 = nI (tr_v (SH i).2.1) by unfold tr_ts; rw [if_pos hk3]]
        refine xm_callR (xm_runU (own := RX1) (C := (cx_q (tr_k (SH i).2.1)).1) (owner := "FormulaVoice$Node") (x := yX7_failure) (n := 0) (Ts := lw_all) (b := ι1.2.1 cb) (As := []) (rest := []) ⟨hx, hb, hml, hown, hts⟩ w4 (cx_B (f := 10) hts w1 ⟨by decide, by decide⟩) (hts _ q1095) (hts _ q1097) (va_Decl.of (hts _ q1096) (hts _ q1130)) ⟨by decide, by decide⟩ (hts _ w2) (hts _ w3) (by decide +kernel) ⟨fa_blind, va_recv hK.1 (cw_P hG1.1.1) (hcl _ _ hq) hat, hPre⟩ rfl hl.1 rfl (by decide) dX1_toss_36 ⟨by decide, by decide⟩) (fun v1 st₀ t1 L h0 hWm hq1 hL => ?_) (fun y st₀ t1 L h0 hWm hq1 hL => by obtain ⟨_, _, h, -⟩ := hq1; cases h)
        obtain ⟨q, fs', hv1, hqz, hf6, hat2, hF1, hF2⟩ := hq1
        cases hv1
        rw [h0] at hF1 hF2
        have hG2 := hG1.growL (L := L) hA2 hF1 (fun q h => hF2 q h (by omega)) hL
        obtain ⟨cell, e1, e2, e3⟩ := va_recv hK.1 (va_P1 hat2) h14 (q0 := 0) rfl
        obtain ⟨cT, tT, f1, f2, f3⟩ := Cond.castable_spec (va_Nw.use (A := [.ref (ad 0), .int (nI i)].toArray) rfl (hN.1 _ q1103 rfl))
        cases f1.symm.trans f2
        cases e3.symm.trans f1
        refine sx_athrow hx hb dX1_toss_39 ?_
        refine ct_catch hown (name := RX15) [] x1 [x2, x3] hxt (ex_cov a1 a2 (by decide) (by decide)) (by rw [a4]; decide) (by rw [a4]; exact hts _ q1094) f1 e1 e2 f3 (fun pl hpl y hy => by cases hy) ?_
        rw [a3]
        refine lv_astore_n hx hb dX1_toss_40 rfl hl (by decide) rfl (fun ls' hl' => ?_)
        refine lv_aload_n hx hb dX1_toss_41 rfl (lv_at hl' 0 rfl) ?_
        refine va_get (C := RX15) (T := TX15) (N := 7) (ref := "FormulaVoice$Tossed") hx hb hts in_X15 hown hK.1 (va_P1 hat2) 0 rfl h14 6 (by decide) (hts _ q1115) (fun _ h => h) hf6 dX1_toss_42 ?_
        refine W.up (cells' := 10) (slots' := 1000) ?_ (by decide) (by decide)
        exact xm_W (W.iret hx hb hret (fun t ht hWm => hG2.ret ht _) hG2.2.2.2.2.2.2.2 dX1_toss_45 hlocks) (fun t => xm_MQ.of)
      · -- it has nothing to throw
        rw [show tr_ts (SH i).2.1 = ic (-15) by unfold tr_ts; rw [if_neg hk3]]
        refine xm_callR (xm_runU (own := RX1) (C := (cx_q (tr_k (SH i).2.1)).1) (owner := "FormulaVoice$Node") (x := yX7_failure) (n := 0) (Ts := lw_all) (b := ι1.2.1 cb) (As := []) (rest := []) ⟨hx, hb, hml, hown, hts⟩ w4 (cx_B (f := 10) hts w1 ⟨by decide, by decide⟩) (hts _ q1095) (hts _ q1097) (va_Decl.of (hts _ q1096) (hts _ q1130)) ⟨by decide, by decide⟩ (hts _ w2) (hts _ w3) (by decide +kernel) ⟨fa_blind, va_recv hK.1 (cw_P hG1.1.1) (hcl _ _ hq) hat, hPre⟩ rfl hl.1 rfl (by decide) dX1_toss_36 ⟨by decide, by decide⟩) (fun v1 st₀ t1 L h0 hWm hq1 hL => ?_) (fun y st₀ t1 L h0 hWm hq1 hL => by obtain ⟨h, -⟩ := hq1; cases h)
        obtain ⟨hv1, hH⟩ := hq1
        cases hv1
        rw [h0] at hH
        rw [hH]
        have hG2 : sx_G D cl ad d ι (sx_A ι κ SH s.heap.size) s.heap σ SH ι1 κ H1 (locs1 ++ L) := hG1.growL hA2 (Nat.le_refl _) (fun q _ => rfl) hL
        refine sx_anull hx hb dX1_toss_39 ?_
        refine sx_npe hx htr hts hN hZ hG2.2.2.2.2.2 (by rw [hml]; exact hl.1) ⟨by decide, by decide⟩ ⟨by decide, by decide⟩ ?_
        refine sx_catch hown (name := "java/lang/NullPointerException") [x1] x2 [x3] hxt (ex_cov b1 b2' (by decide) (by decide)) (by rw [b4]; decide) (by rw [b4]; exact hts _ q1030) (va_Nw.use (A := _) rfl (hN.1 _ q1046 rfl)) (fun y hy => ?_) (fun H3 L3 a hz hk ha hL3 => ?_)
        · rw [List.mem_singleton.mp hy]
          exact .inr ⟨"FormulaVoice$Tossed", by rw [a4]; decide, by rw [a4]; exact hts _ q1094, hN.2.1 ("java/lang/NullPointerException", "FormulaVoice$Tossed") (by decide +kernel)⟩
        · rw [b3]
          have hG3 := hG2.growL hA2 (by omega) hk hL3
          refine lv_astore_n hx hb dX1_toss_46 rfl hl (by decide) rfl (fun ls' hl' => ?_)
          refine lv_bipush hx hb dX1_toss_47 rfl ?_
          refine W.up (cells' := 10) (slots' := 1000) ?_ (by decide) (by decide)
          exact xm_W (W.iret hx hb hret (fun t ht hWm => hG3.ret ht _) hG3.2.2.2.2.2.2.2 dX1_toss_49 hlocks) (fun t => xm_MQ.of)
    · -- a row
      rw [hv, hts', if_neg (by omega), if_neg (by omega)]
      refine lv_ifnonnull hx hb dX1_toss_18 rfl ?_
      refine lv_aload_n hx hb dX1_toss_24 rfl (lv_at hl 0 rfl) ?_
      -- 25: .getfield 352
      refine sx_shelves hC hG1 dX1_toss_25 ?_
      refine lv_iload_n hx hb dX1_toss_28 rfl (lv_at hl 1 rfl) ?_
      -- 29: .aaload
      refine sx_shelf hC hG1 dX1_toss_29 hi8 ?_
      refine sx_held hC hG1 dX1_toss_30 hi8 ?_
      rw [hv]
      refine sx_castX hx hb hN (C := if (SH i).1 = 3 then "[B" else "[C") hown (hts _ q338) (by
        rcases t3 with e | e
        · rw [e]; exact hN.2.1 ("[B", "FormulaVoice$Node") (by decide +kernel)
        · rw [e]; exact hN.2.1 ("[C", "FormulaVoice$Node") (by decide +kernel)) (sx_rrow hK t3 hrow) (by rcases t3 with e | e <;> rw [e] <;> decide +kernel) (by decide +kernel) dX1_toss_33 (fun text ht1 ht2 => ?_)
      refine sx_msg hx htr hts hN hZ hG1.2.2.2.2.2 (by rw [hml]; exact hl.1) (names := [Bundle.rN, Bundle.eN]) (n := 810) (by decide +kernel) (by decide +kernel) (by decide +kernel) (by decide +kernel) exCC_in (by decide) ht1 ht2 (by decide) ⟨by decide, Nat.le_of_ble_eq_true rfl⟩ ⟨by decide, by decide⟩ ?_
      refine sx_catch hown (name := "java/lang/ClassCastException") [x1, x2] x3 [] hxt (ex_cov c1 c2 (by decide) (by decide)) (by rw [c4]; decide) (by rw [c4]; exact hts _ q1049) (va_Nw.use (A := _) rfl (hN.1 _ (exCC_in _ (by simp [exM])).1 rfl)) (fun y hy => ?_) (fun H3 L a hz hk ha hL => ?_)
      · simp only [List.mem_cons, List.not_mem_nil, or_false] at hy
        rcases hy with rfl | rfl
        · exact .inr ⟨"FormulaVoice$Tossed", by rw [a4]; decide, by rw [a4]; exact hts _ q1094, hN.2.1 ("java/lang/ClassCastException", "FormulaVoice$Tossed") (by decide +kernel)⟩
        · exact .inr ⟨"java/lang/NullPointerException", by rw [b4]; decide, by rw [b4]; exact hts _ q1030, hN.2.1 ("java/lang/ClassCastException", "java/lang/NullPointerException") (by decide +kernel)⟩
      · rw [c3]
        have hG3 := hG1.growL hA2 (by omega) hk hL
        refine lv_astore_n hx hb dX1_toss_50 rfl hl (by decide) rfl (fun ls' hl' => ?_)
        refine lv_bipush hx hb dX1_toss_51 rfl ?_
        refine W.up (cells' := 10) (slots' := 1000) ?_ (by omega) (by omega)
        exact xm_W (W.iret hx hb hret (fun t ht hWm => hG3.ret ht _) hG3.2.2.2.2.2.2.2 dX1_toss_53 hlocks) (fun t => xm_MQ.of)
end
