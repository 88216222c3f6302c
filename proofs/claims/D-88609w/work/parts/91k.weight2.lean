set_option maxRecDepth 100000
/-! weight, by hand. -/
theorem xm_room {l : Launch} {y : MethodName} {ws : List Cond} {rm R : Room} {Pc : Array Value → State → Prop} {Qc : Array Value → State → Outcome → State → Prop} {mc ms : Nat} {free : Addr → Prop} (hM : xm_Met l y ws rm Pc Qc mc ms free) (hr : rm.frames ≤ R.frames ∧ rm.cells ≤ R.cells ∧ rm.slots ≤ R.slots ∧ rm.locals ≤ R.locals) : xm_Met l y ws R Pc Qc mc ms free := by
  intro p e ha hc hk s m args below hf happ hP hK
  obtain ⟨a1, a2, a3, a4, a5, a6, a7, a8⟩ := (Spec.appliesLoose_iff hf).mp happ
  exact hM p e ha hc hk s m args below hf ((Spec.appliesLoose_iff hf).mpr ⟨a1, a2, a3, a4, a5, a6, rm_mono a7 hr, a8⟩) hP hK
theorem ex_2 {c : Code} {a b h t a' b' h' t' : Nat} (hex : c.exceptionTable.toList.map (fun x => (x.startPc, x.endPc, x.handlerPc, x.catchType)) = [(a, b, h, t), (a', b', h', t')]) : ∃ x y : ExceptionTableEntry, c.exceptionTable.toList = [x, y] ∧ (x.startPc = a ∧ x.endPc = b ∧ x.handlerPc = h ∧ x.catchType = t) ∧ (y.startPc = a' ∧ y.endPc = b' ∧ y.handlerPc = h' ∧ y.catchType = t') := by
  obtain ⟨x, r, h1, h2, h3⟩ := List.map_eq_cons_iff.mp hex
  obtain ⟨y, r', h4, h5, h6⟩ := List.map_eq_cons_iff.mp h3
  rw [List.map_eq_nil_iff.mp h6] at h4
  rw [h4] at h1
  simp only [Prod.mk.injEq] at h2 h5
  exact ⟨x, y, h1, h2, h5⟩
section
variable {p : Program} {l : Launch} {e : Env} {R : Room} {s : State} {m : MethodId} {args : Array Value} {below : List Frame} {meth : Method} {c : Code} {H : Heap} {locs : List Loc} {cells slots : Nat} {Q : State → Prop} {pc : Nat} {ls : Array Slot} {cc : ByteArray} {rest : List Value}
/-- a call through null -/
theorem sx_nullV (hx : p.tables.exec = Jvm.exec) (hb : c.code = cc) {own owner : String} {index : Nat} {x : MethodName} (hown : s.vm.findClass own = some m.cls) (hlink : (Cond.methodLink own index x).before args s = true) (hsame : (Cond.sameMethod x.cls owner x.name x.desc).before args s = true) (hdecl : (Cond.declares ⟨owner, x.name, x.desc⟩).before args s = true) (howner : owner ≠ "java/lang/invoke/MethodHandle" ∧ owner ≠ "java/lang/invoke/VarHandle") (hlen : ∀ sig, parseMethodDescriptor x.desc = some sig → 0 = sig.parameters.length) (hdg : decode cc pc = .ok (.invokevirtual index, 3))
    (h : ex_N p l e R s m args below meth c H locs cells slots Q (F0 m pc ls rest) "java/lang/NullPointerException" none) : W p l e R s m args below meth c H locs cells slots Q (F0 m pc ls (.null :: rest)) := by
  intro T hT X
  obtain ⟨vm', X', st⟩ := X.virtualNullUp hx hown hlink hsame hdecl howner (g := F0 m pc ls (.null :: rest)) rfl (argsL := []) (rest := rest) hlen rfl (by rw [hb]; exact hdg)
  obtain ⟨t, a, b⟩ := h (T.setVm vm') hT X'
  exact ⟨t, st t a, b⟩
end
theorem sig_w : ∀ sig, parseMethodDescriptor yX7_weight.desc = some sig → 0 = sig.parameters.length := by
  intro sig h
  have h2 : (parseMethodDescriptor yX7_weight.desc).map (fun d => d.parameters.length) = some 0 := by decide +kernel
  rw [h] at h2
  exact (Option.some.inj h2).symm
theorem va_K.nil {D : va_G} {cl : List vw_C} {tys : List (ClassId × FieldType)} {U : State} (h : va_K D cl tys U) : va_K D cl [] U := ⟨h.1, fun k q hk => by cases hk⟩
def wgv (k v z : Nat) : Nat := match k with
  | 1 => z + 10 + v
  | 5 => z + 10 + 100
  | 6 => z + 10 + 100
  | 8 => 2 * (z + 10)
  | 9 => z + 10 + 1000
  | _ => z + 10
section
variable {l : Launch} {D : va_G} {cl : List vw_C} {ad : Nat → Nat} {d : Nat → ClassId}
theorem wg_sel (hcl : cx_clok cl) (x n v z dp : Nat) (rx ry : Value) : ∀ k, k ≤ 9 → ∃ (y : MethodName) (ws : List Cond), cx_cb y ws 1 ∧ Cond.selects (cx_q k).1 yX7_weight y ∈ lw_all ∧ Cond.instanceMethod y ∈ lw_all ∧ xm_Met l y ws { frames := 1, cells := 0, slots := 0, locals := 40 } (wg_Pc D cl x k (cx_nfs n k v z dp rx ry)) (wg_Qc (nI (wgv k v z))) 0 0 (fun _ => False) := by
  have e0 : nI z + 10 = nI (z + 10) := nI_add z 10
  have hnd : ∀ k, k ≤ 9 → wgv k v z = z + 10 → xm_Met l yX7_weight (ws_ yX7_weight cX7_weight 1 (some .int)) { frames := 1, cells := 0, slots := 0, locals := 40 } (wg_Pc D cl x k (cx_nfs n k v z dp rx ry)) (wg_Qc (nI (wgv k v z))) 0 0 (fun _ => False) := by
    intro k hk he
    rw [he, ← e0]
    exact xm_room (wg_node hcl hk x n v z dp rx ry) ⟨Nat.zero_le _, Nat.le_refl _, Nat.le_refl _, Nat.zero_le _⟩
  have h9 : xm_Met l yX9_weight (ws_ yX9_weight cX9_weight 1 (some .int)) { frames := 1, cells := 0, slots := 0, locals := 40 } (wg_Pc D cl x 1 (cx_nfs n 1 v z dp rx ry)) (wg_Qc (nI (z + 10 + v))) 0 0 (fun _ => False) := by
    have := wg_X9 (l := l) (D := D) hcl x n v z dp rx ry
    rw [e0, nI_add] at this
    exact this
  have h11 : ∀ k, k = 5 ∨ k = 6 → xm_Met l yX11_weight (ws_ yX11_weight cX11_weight 1 (some .int)) { frames := 1, cells := 0, slots := 0, locals := 40 } (wg_Pc D cl x k (cx_nfs n k v z dp rx ry)) (wg_Qc (nI (z + 10 + 100))) 0 0 (fun _ => False) := by
    intro k hk
    have := wg_X11 (l := l) (D := D) hcl hk x n v z dp rx ry
    rw [e0, show (100 : Int32) = nI 100 from rfl, nI_add] at this
    exact this
  have h13 : xm_Met l yX13_weight (ws_ yX13_weight cX13_weight 1 (some .int)) { frames := 1, cells := 0, slots := 0, locals := 40 } (wg_Pc D cl x 8 (cx_nfs n 8 v z dp rx ry)) (wg_Qc (nI (2 * (z + 10)))) 0 0 (fun _ => False) := by
    have := wg_X13 (l := l) (D := D) hcl x n v z dp rx ry
    rw [e0, show (2 : Int32) = nI 2 from rfl, nI_mulI] at this
    exact this
  have h14 : xm_Met l yX14_weight (ws_ yX14_weight cX14_weight 1 (some .int)) { frames := 1, cells := 0, slots := 0, locals := 40 } (wg_Pc D cl x 9 (cx_nfs n 9 v z dp rx ry)) (wg_Qc (nI (z + 10 + 1000))) 0 0 (fun _ => False) := by
    have := wg_X14 (l := l) (D := D) hcl x n v z dp rx ry
    rw [e0, show (1000 : Int32) = nI 1000 from rfl, nI_add] at this
    exact this
  exact le9 ⟨_, _, cb_wg, q1081, q1064, hnd 0 (by omega) rfl⟩ ⟨_, _, cb_wgX9, q1072, q1073, h9⟩ ⟨_, _, cb_wg, q1088, q1064, hnd 2 (by omega) rfl⟩ ⟨_, _, cb_wg, q1088, q1064, hnd 3 (by omega) rfl⟩ ⟨_, _, cb_wg, q1088, q1064, hnd 4 (by omega) rfl⟩ ⟨_, _, cb_wgX11, q1083, q1084, h11 5 (.inl rfl)⟩ ⟨_, _, cb_wgX11, q1083, q1084, h11 6 (.inr rfl)⟩ ⟨_, _, cb_wg, q1082, q1064, hnd 7 (by omega) rfl⟩ ⟨_, _, cb_wgX13, q1077, q1078, h13⟩ ⟨_, _, cb_wgX14, q1066, q1067, h14⟩
/-- a row's class -/
theorem sx_rrow {s : State} {A0 : Nat → Prop} (hK : cx_K D cl ad d A0 s) {H : Heap} {r : Nat} {q : sh_T} (hq : q.1 = 3 ∨ q.1 = 4) (h : va_at D cl (r, sx_row d q) H) : ∃ cell : Cell, H[r]? = some cell ∧ cell.vm.isStatics = false ∧ s.vm.findClass (if q.1 = 3 then "[B" else "[C") = some cell.cls := by
  refine ⟨_, h, rfl, ?_⟩
  rcases hq with e | e
  · rw [if_pos e]
    show _ = some (d q.1)
    rw [e]
    exact va_nm_byte (hK.1.2 3 _ rfl).2
  · rw [if_neg (by omega)]
    show _ = some (d q.1)
    rw [e]
    exact va_nm_char (hK.1.2 4 _ rfl).2
theorem sx_weight (hfl : l.flags = flags0) (hcl : cx_clok cl) (SH : Nat → sh_T) (σ : cs_S) (x : Int32) :
    sx_Met l D cl ad d 20 11000 yX1_weight (wsW_ yX1_weight cX1_weight 3 (some .int) [(9, 24, 25, 377), (9, 24, 29, 379)]) [.inl (.ref 0), .inl (.int x)] σ SH (.inl (.inl (some (.inl (.int (sh_wg SH x)))))) (cs_mk σ 10 1000) SH := by
  intro ι κ sz rargs hra
  obtain ⟨r0, rr0, rfl, q0, hra0⟩ := am_S2_c hra
  obtain rfl : r0 = .ref (ad 0) := q0
  obtain ⟨rr1, rfl, hra1⟩ := am_S2_i hra0
  obtain rfl := am_S2_n hra1
  obtain ⟨em1, em2⟩ := cs_mk_1 σ 10 1000
  rw [em1, em2]
  refine sx_ofW (cc := cX1_weight) (maxL := 3) (ret := some .int) (hh := [(9, 24, 25, 377), (9, 24, 29, 379)]) (by decide) (.inr rfl) ?_
  intro p e s m args below meth c hadm hx hb hml hret hlocks hnm hts hown hex hP
  obtain ⟨rfl, rfl, hW, hV, hK, hN, hZ⟩ := hP
  have htr : e.platform.stackTraces = false := Launch.traces_off hfl hadm
  have hA2 : ∀ q, s.heap.size ≤ q → sx_A ι κ SH s.heap.size q := fun q h => .inl (.inr h)
  have hC : sx_C p { frames := 20, cells := 10, slots := 1000, locals := 11000 } s m [.ref (ad 0), .int x].toArray c D cl ad d 3 cX1_weight (sx_A ι κ SH s.heap.size) := ⟨hx, hb, hml, hown, hts, hcl, hK, hA2, by decide, by decide⟩
  have hG := sx_G.start hW hV
  have hl := lv_entry ([.ref (ad 0), .int x]) (n := 3) (Nat.le_of_ble_eq_true rfl)
  rw [lg_entry_eq]
  generalize (lg_sl ([.ref (ad 0), .int x]) ++ List.replicate (3 - (lg_sl ([.ref (ad 0), .int x])).length) Slot.unset).toArray = ls at hl ⊢
  have hl : lv_has ls 3 [(0, .ref (ad 0)), (1, .int x)] := hl
  refine lv_iload_n hx hb dX1_weight_0 rfl (lv_at hl 1 rfl) ?_
  -- 1: .invokestatic 361
  refine sx_isShelf (rr := []) hC hG dX1_weight_1 hl.1 (by decide) ⟨Nat.zero_le _, Nat.zero_le _⟩ (fun ι1 H1 locs1 hG1 hle1 => ?_)
  cases h1 : inR 0 7 x with
  | false =>
    refine lv_if_ne hx hb dX1_weight_4 rfl (fun h => absurd b2f0 h) (fun _ => ?_)
    rw [show sh_wg SH x = ic (-1) by unfold sh_wg; rw [if_neg (by rw [h1]; decide)]]
    refine lv_iconst hx hb dX1_weight_7 rfl ?_
    -- 8: .ireturn
    refine W.up (cells' := 10) (slots' := 1000) ?_ (Nat.zero_le _) (Nat.zero_le _)
    exact xm_W (W.iret hx hb hret (fun t ht hWm => hG1.ret ht _) hG1.2.2.2.2.2.2.2 dX1_weight_8 hlocks) (fun t => xm_MQ.of)
  | true =>
    refine lv_if_ne hx hb dX1_weight_4 rfl (fun _ => ?_) (fun h => absurd h b2t0)
    obtain ⟨i, -, hi7, rfl⟩ := inR_t (by omega) (by omega) h1
    have hi8 : i < 8 := by omega
    have hwg : sh_wg SH (nI i) = if (SH i).1 = 0 then ic (-11) else if (SH i).1 = 1 then nI (tr_wg (SH i).2.1) else ic (-12) := by unfold sh_wg; rw [if_pos h1, nI_clamp (by omega)]
    obtain ⟨x1, x2, hxt, ⟨a1, a2, a3, a4⟩, ⟨b1, b2', b3, b4⟩⟩ := ex_2 hex
    refine lv_aload_n hx hb dX1_weight_9 rfl (lv_at hl 0 rfl) ?_
    -- 10: .getfield 352
    refine sx_shelves hC hG1 dX1_weight_10 ?_
    refine lv_iload_n hx hb dX1_weight_13 rfl (lv_at hl 1 rfl) ?_
    -- 14: .aaload
    refine sx_shelf hC hG1 dX1_weight_14 hi8 ?_
    refine sx_held hC hG1 dX1_weight_15 hi8 ?_
    obtain ⟨-, hheld⟩ := hG1.2.1.2.2.2.2.2 i hi8
    rcases hheld with ⟨t0, hv⟩ | ⟨t1, hnd, hT⟩ | ⟨t3, hv, hrow⟩
    · -- nothing
      rw [hv, hwg, if_pos t0]
      refine lv_castN hx hb dX1_weight_18 ?_
      refine sx_nullV hx hb hown (hts _ q1063) (owner := "FormulaVoice$Node") (hts _ q1065) (va_Nw.use (A := _) rfl (hN.1 _ q1071 rfl)) ⟨by decide, by decide⟩ sig_w dX1_weight_21 ?_
      refine sx_npe hx htr hts hN hZ hG1.2.2.2.2.2 (by rw [hml]; exact hl.1) ⟨by decide, by decide⟩ ⟨by decide, by decide⟩ ?_
      refine sx_catch hown (name := "java/lang/NullPointerException") [] x1 [x2] hxt (ex_cov a1 a2 (by decide) (by decide)) (by rw [a4]; decide) (by rw [a4]; exact hts _ q1030) (va_Nw.use (A := _) rfl (hN.1 _ q1046 rfl)) (fun y hy => by cases hy) (fun H3 L a hz hk ha hL => ?_)
      rw [a3]
      have hG3 := hG1.growL hA2 (by omega) hk hL
      refine lv_astore_n hx hb dX1_weight_25 rfl hl (by decide) rfl (fun ls' hl' => ?_)
      refine lv_bipush hx hb dX1_weight_26 rfl ?_
      refine W.up (cells' := 10) (slots' := 1000) ?_ (by omega) (by omega)
      exact xm_W (W.iret hx hb hret (fun t ht hWm => hG3.ret ht _) hG3.2.2.2.2.2.2.2 dX1_weight_28 hlocks) (fun t => xm_MQ.of)
    · -- a node
      rw [hwg, if_neg (by omega), if_pos t1]
      obtain ⟨cb, -, -, hv⟩ := cx_nid hnd hT
      rw [hv] at hT ⊢
      refine sx_castN hC hG1.1 dX1_weight_18 hnd hT ?_
      obtain ⟨a', q0, rx, ry, he, hk9, hat, -, -⟩ := cx_nat (d := d) hG1.1 hnd hT
      cases he
      have hat' : va_at D cl (ι1.2.1 cb, .inr (cx_ci (tr_k (SH i).2.1), cx_nfs (tr_n (SH i).2.1) (tr_k (SH i).2.1) (tr_v (SH i).2.1) (tr_sz (SH i).2.1) (tr_dp (SH i).2.1) rx ry)) H1 := cw_P hG1.1.1 q0 _ hat
      obtain ⟨-, hq⟩ := cx_q_in _ hk9
      obtain ⟨y, ws, w1, w2, w3, w4⟩ := wg_sel (l := l) (D := D) hcl (ι1.2.1 cb) (tr_n (SH i).2.1) (tr_v (SH i).2.1) (tr_sz (SH i).2.1) (tr_dp (SH i).2.1) rx ry _ hk9
      refine xm_callR (xm_runU (own := RX1) (C := (cx_q (tr_k (SH i).2.1)).1) (owner := "FormulaVoice$Node") (x := yX7_weight) (n := 0) (Ts := lw_all) (b := ι1.2.1 cb) (As := []) (rest := []) ⟨hx, hb, hml, hown, hts⟩ w4 (cx_B (f := 1) hts w1 ⟨by decide, by decide⟩) (hts _ q1063) (hts _ q1065) (va_Decl.of (hts _ q1064) (hts _ q1089)) ⟨by decide, by decide⟩ (hts _ w2) (hts _ w3) (by decide +kernel) ⟨wg_blind, va_recv hK.1 (cw_P hG1.1.1) (hcl _ _ hq) hat, fun U hU hWm => ⟨rfl, by rw [hU]; exact hat', va_K.nil (va_K.moved hWm.alike hK.1)⟩⟩ rfl hl.1 rfl (by decide) dX1_weight_21 ⟨by decide, by decide⟩) (fun v1 st₀ t1 L h0 hWm hq1 hL => ?_) (fun y st₀ t1 L h0 hWm hq1 hL => by obtain ⟨h, -⟩ := hq1; cases h)
      obtain ⟨hv1, hH⟩ := hq1
      cases hv1
      rw [h0] at hH
      rw [hH]
      have e : wgv (tr_k (SH i).2.1) (tr_v (SH i).2.1) (tr_sz (SH i).2.1) = tr_wg (SH i).2.1 := rfl
      rw [← e]
      refine W.up (cells' := 10) (slots' := 1000) ?_ (by decide) (by decide)
      exact xm_W (W.iret hx hb hret (fun t ht hWm => hG1.ret ht _) (fun q hq => by
        rcases List.mem_append.mp hq with h | h
        · exact hG1.2.2.2.2.2.2.2 q h
        · exact absurd (hL q h) id) dX1_weight_24 hlocks) (fun t => xm_MQ.of)
    · -- a row
      rw [hv, hwg, if_neg (by omega), if_neg (by omega)]
      refine sx_castX hx hb hN (C := if (SH i).1 = 3 then "[B" else "[C") hown (hts _ q338) (by
        rcases t3 with e | e
        · rw [e]; exact hN.2.1 ("[B", "FormulaVoice$Node") (by decide +kernel)
        · rw [e]; exact hN.2.1 ("[C", "FormulaVoice$Node") (by decide +kernel)) (sx_rrow hK t3 hrow) (by rcases t3 with e | e <;> rw [e] <;> decide +kernel) (by decide +kernel) dX1_weight_18 (fun text ht1 ht2 => ?_)
      refine sx_msg hx htr hts hN hZ hG1.2.2.2.2.2 (by rw [hml]; exact hl.1) (names := [Bundle.rN, Bundle.eN]) (n := 810) (by decide +kernel) (by decide +kernel) (by decide +kernel) (by decide +kernel) exCC_in (by decide) ht1 ht2 (by decide) ⟨by decide, Nat.le_of_ble_eq_true rfl⟩ ⟨by decide, by decide⟩ ?_
      refine sx_catch hown (name := "java/lang/ClassCastException") [x1] x2 [] hxt (ex_cov b1 b2' (by decide) (by decide)) (by rw [b4]; decide) (by rw [b4]; exact hts _ q1049) (va_Nw.use (A := _) rfl (hN.1 _ (exCC_in _ (by simp [exM])).1 rfl)) (fun y hy => ?_) (fun H3 L a hz hk ha hL => ?_)
      · rw [List.mem_singleton.mp hy]
        exact .inr ⟨"java/lang/NullPointerException", by rw [a4]; decide, by rw [a4]; exact hts _ q1030, hN.2.1 ("java/lang/ClassCastException", "java/lang/NullPointerException") (by decide +kernel)⟩
      · rw [b3]
        have hG3 := hG1.growL hA2 (by omega) hk hL
        refine lv_astore_n hx hb dX1_weight_29 rfl hl (by decide) rfl (fun ls' hl' => ?_)
        refine lv_bipush hx hb dX1_weight_30 rfl ?_
        refine W.up (cells' := 10) (slots' := 1000) ?_ (by omega) (by omega)
        exact xm_W (W.iret hx hb hret (fun t ht hWm => hG3.ret ht _) hG3.2.2.2.2.2.2.2 dX1_weight_32 hlocks) (fun t => xm_MQ.of)
end
