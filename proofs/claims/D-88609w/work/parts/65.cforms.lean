/-! THE COMPONENT's CALLS, by their forms. -/
/-- what a callee brings: its words, its locals -/
def cx_cb (y : MethodName) (ws : List Cond) (maxL : Nat) : Prop := GoodIn lw_all ws ∧ ((∃ b r, Cond.code y b maxL r ∈ ws) ∨ ∃ b r hh, Cond.codeWith y b maxL r hh ∈ ws) ∧ Cond.initialized y.cls ∈ lw_all ∧ (y.cls ≠ "java/lang/invoke/MethodHandle" ∧ y.cls ≠ "java/lang/invoke/VarHandle") ∧ maxL ≤ 21
theorem cx_cb.of {y : MethodName} {b : ByteArray} {maxL : Nat} {r : Option FieldType} (h : Cond.code y b maxL r ∈ lw_all) (hi : Cond.initialized y.cls ∈ lw_all) (hy : y.cls ≠ "java/lang/invoke/MethodHandle" ∧ y.cls ≠ "java/lang/invoke/VarHandle") (hm : maxL ≤ 21) : cx_cb y (ws_ y b maxL r) maxL := ⟨lw_meth h, .inl ⟨b, r, List.mem_cons_self⟩, hi, hy, hm⟩
theorem cx_cb.ofW {y : MethodName} {b : ByteArray} {maxL : Nat} {r : Option FieldType} {hh : List (Nat × Nat × Nat × Nat)} (h : Cond.codeWith y b maxL r hh ∈ lw_all) (hi : Cond.initialized y.cls ∈ lw_all) (hy : y.cls ≠ "java/lang/invoke/MethodHandle" ∧ y.cls ≠ "java/lang/invoke/VarHandle") (hm : maxL ≤ 21) : cx_cb y (wsW_ y b maxL r hh) maxL := ⟨lw_methW h, .inr ⟨b, r, hh, List.mem_cons_self⟩, hi, hy, hm⟩
section
variable {p : Program} {l : Launch} {e : Env} {R : Room} {s : State} {m : MethodId} {args : Array Value} {below : List Frame} {meth : Method} {c : Code} {Q : State → Prop} {res : am_O × cs_S} {D : va_G} {cl : List vw_C} {ad : Nat → Nat} {d : Nat → ClassId} {ι0 : cx_I} {σ0 : cs_S} {nL pc : Nat} {cc : ByteArray} {own ref : String} {idx f : Nat}
theorem cx_cb.is {y : MethodName} {ws : List Cond} {maxL : Nat} (h : cx_cb y ws maxL) (hts : ∀ w ∈ lw_all, w.before args s = true) : ∀ U : State, s.WarmedH U.vm → xm_is y maxL U := by
  intro U hW
  rcases h.2.1 with ⟨b, r, hc⟩ | ⟨b, r, hh, hc⟩
  · exact xm_is.code (pay_in hts h.1 _ hc #[] U hW)
  · exact xm_is.codeW (pay_in hts h.1 _ hc #[] U hW)
theorem cx_B {y : MethodName} {ws : List Cond} {maxL mc ms : Nat} (hts : ∀ w ∈ lw_all, w.before args s = true) (h : cx_cb y ws maxL) (hR : f + 1 ≤ R.frames ∧ 40 * (f + 1) ≤ R.locals) : xm_B R s y maxL ws { frames := f, cells := mc, slots := ms, locals := 40 * f } mc ms := by
  refine ⟨rfl, rfl, hR.1, ?_, pay_in hts h.1, h.is hts, fun a' U hW => word_at hW (Or.inl (by first | rfl | simp [Cond.onTables, Cond.keeps, Cond.steady])) (hts _ h.2.2.1)⟩
  have := h.2.2.2.2
  have := hR.2
  show 8 + (maxL + 11) + 40 * f ≤ R.locals
  omega
variable {call : cs_ct} {mt n rk maxL : Nat} {y : MethodName} {ws : List Cond}
theorem cx_s_static (hC : cx_ctx p R s m args c res D cl ad d ι0 σ0 nL cc own f) (hcall : ∀ as σ o σ1, call mt as σ = some (o, σ1) → cx_Met l D cl ad d f y ws as σ o σ1 ∧ cs_n1 σ ≤ cs_n1 σ1 ∧ cs_n2 σ ≤ cs_n2 σ1) (hcb : cx_cb y ws maxL) (hl : Cond.methodLink own idx y ∈ lw_all) (hstat : Cond.static y ∈ lw_all) (hnp : (parseMethodDescriptor y.desc).map (fun d => d.parameters.length) = some n) (hdg : decode cc pc = .ok (.invokestatic idx, 3)) : cx_step p l e R s m args below meth c Q res D cl ad d ι0 σ0 nL pc 3 (cs_cl call 0 mt n rk) := by
  obtain ⟨hx, hb, hts, hown, hK, hcl, hml, hR⟩ := hC
  intro st σ ι H locs cells slots rls rst kx k hG hsz hst he hm1 hm2 hkx hk
  unfold cs_cl at he
  obtain ⟨as0, r, hst1, hlen, he⟩ := am_tk_e he
  rw [List.append_nil] at he
  obtain ⟨hcond, he⟩ := bif_e he
  obtain ⟨hble, -⟩ := (Bool.and_eq_true _ _).mp hcond
  refine cx_go hK hR.2.2 hcall hG (by rw [List.reverse_reverse]; exact hst1) hst hble he hm1 hm2 hkx hk ?_
  intro o σ1 rargs rr mc ms Pc Qc hc1 hrst hra h8 hc hs hM hro hbl hPc
  have hnm : ∃ mk, s.methodNamed? y = some mk := by
    rcases hcb.2.1 with ⟨b, r, hc⟩ | ⟨b, r, hh, hc⟩
    · exact Cond.code_named (hts _ (hcb.1 _ hc).1)
    · obtain ⟨mk, _, _, h, -⟩ := Cond.codeWith_spec (hts _ (hcb.1 _ hc).1)
      exact ⟨mk, h⟩
  obtain ⟨mk, hnamed⟩ := hnm
  exact xm_runS ⟨hx, hb, hml, hown, hts⟩ hM (cx_B hts hcb ⟨hR.1, hR.2.1⟩) (hts _ hl) (hts _ hstat) hnamed hcb.2.2.2.1 hnp ⟨hbl, hPc⟩ (by rw [am_S2_len hra, List.length_reverse, hlen]) hsz hrst h8 hdg ⟨hc, hs⟩
/-- the receiver of a call through a fixed cell -/
theorem cx_rcv {mode ci : Nat} {σ : cs_S} {ι : cx_I} {H : Heap} (hW : cx_W D cl ad d ι σ H) {as : List am_V} (h : cs_rc mode as = true) (hmode : mode = 1 ∧ ci = 0 ∨ mode = 2 ∧ ci = 1 ∨ mode = 3 ∧ ci = 2) : ∃ w tl fs, ∃ q0 : Nat, as = .inl (.ref w) :: tl ∧ (cw ι.1 ι.2.1 (cx_E ad d ι σ))[q0]? = some (ad w, .inr (ci, fs)) := by
  rcases hmode with ⟨rfl, rfl⟩ | ⟨rfl, rfl⟩ | ⟨rfl, rfl⟩
  · have h : (match (generalizing := false) as with | .inl (.ref c) :: _ => Nat.beq c 0 | _ => false) = true := h
    split at h
    · obtain rfl := Nat.eq_of_beq_eq_true h
      obtain ⟨q0, -, hat⟩ := cx_at hW (c := 0) (by decide)
      exact ⟨0, _, _, q0, rfl, hat⟩
    · cases h
  · have h : (match (generalizing := false) as with | .inl (.ref c) :: _ => cs_isW c | _ => false) = true := h
    split at h
    · obtain ⟨q0, -, hat⟩ := cx_wat hW h
      exact ⟨_, _, _, q0, rfl, hat⟩
    · cases h
  · have h : (match (generalizing := false) as with | .inl (.ref c) :: _ => Nat.beq c 105 | _ => false) = true := h
    split at h
    · obtain rfl := Nat.eq_of_beq_eq_true h
      obtain ⟨q0, -, hat⟩ := cx_at hW (c := 105) (by decide)
      exact ⟨105, _, _, q0, rfl, hat⟩
    · cases h
theorem cx_s_virt (hC : cx_ctx p R s m args c res D cl ad d ι0 σ0 nL cc own f) (hcall : ∀ as σ o σ1, call mt as σ = some (o, σ1) → cx_Met l D cl ad d f y ws as σ o σ1 ∧ cs_n1 σ ≤ cs_n1 σ1 ∧ cs_n2 σ ≤ cs_n2 σ1) {mode ci : Nat} {q : vw_C} (hmode : mode = 1 ∧ ci = 0 ∨ mode = 2 ∧ ci = 1 ∨ mode = 3 ∧ ci = 2) (hq : cx_cl[ci]? = some q) (hcb : cx_cb y ws maxL) (hl : Cond.methodLink own idx y ∈ lw_all) (hinst : Cond.instanceMethod y ∈ lw_all) (hsel : Cond.selects q.1 y y ∈ lw_all) (hnp : (parseMethodDescriptor y.desc).map (fun d => d.parameters.length) = some n) (hdg : decode cc pc = .ok (.invokevirtual idx, 3)) : cx_step p l e R s m args below meth c Q res D cl ad d ι0 σ0 nL pc 3 (cs_cl call mode mt (n + 1) rk) := by
  obtain ⟨hx, hb, hts, hown, hK, hcl, hml, hR⟩ := hC
  intro st σ ι H locs cells slots rls rst kx k hG hsz hst he hm1 hm2 hkx hk
  unfold cs_cl at he
  obtain ⟨as0, r, hst1, hlen, he⟩ := am_tk_e he
  rw [List.append_nil] at he
  obtain ⟨hcond, he⟩ := bif_e he
  obtain ⟨hble, hrc⟩ := (Bool.and_eq_true _ _).mp hcond
  obtain ⟨w, tl, fs, q0, has, hat⟩ := cx_rcv hG.1 hrc hmode
  refine cx_go hK hR.2.2 hcall hG (by rw [List.reverse_reverse]; exact hst1) hst hble he hm1 hm2 hkx hk ?_
  intro o σ1 rargs rr mc ms Pc Qc hc1 hrst hra h8 hc hs hM hro hbl hPc
  have hl1 := congrArg List.length has
  rw [List.length_reverse, hlen, List.length_cons] at hl1
  rw [has] at hra
  obtain ⟨r0, rt0, rfl, h0, hrt⟩ := am_S2_c hra
  obtain rfl : r0 = .ref (ad w) := h0
  refine xm_runV (C := q.1) (b := ad w) (As := rt0) ⟨hx, hb, hml, hown, hts⟩ hM (cx_B hts hcb ⟨hR.1, hR.2.1⟩) (hts _ hl) (hts _ hinst) (hts _ hsel) hcb.2.2.2.1 hnp ⟨hbl, va_recv hK.1 (cw_P hG.1.1) (hcl _ _ hq) hat, hPc⟩ (by rw [am_S2_len hrt]; omega) hsz ?_ h8 hdg ⟨hc, hs⟩
  rw [hrst, List.reverse_cons, List.append_assoc]
  rfl
/-- through a node: what its class selects -/
theorem cx_s_tree (hC : cx_ctx p R s m args c res D cl ad d ι0 σ0 nL cc own f) {ms0 : List Nat} {x : MethodName} {owner : String} {yk : Nat → MethodName × List Cond × Nat} (hcalls : ∀ k, k ≤ 9 → ∀ as σ o σ1, call (cs_sel ms0 k) as σ = some (o, σ1) → cx_Met l D cl ad d f (yk k).1 (yk k).2.1 as σ o σ1 ∧ cs_n1 σ ≤ cs_n1 σ1 ∧ cs_n2 σ ≤ cs_n2 σ1)
    (hk9 : ∀ k, k ≤ 9 → cx_cb (yk k).1 (yk k).2.1 (yk k).2.2 ∧ Cond.selects (cx_q k).1 x (yk k).1 ∈ lw_all ∧ Cond.instanceMethod (yk k).1 ∈ lw_all)
    (hl : Cond.methodLink own idx x ∈ lw_all) (hsame : Cond.sameMethod x.cls owner x.name x.desc ∈ lw_all) (hd0 : va_Decl s ⟨owner, x.name, x.desc⟩) (howner : owner ≠ "java/lang/invoke/MethodHandle" ∧ owner ≠ "java/lang/invoke/VarHandle") (hnp : (parseMethodDescriptor x.desc).map (fun d => d.parameters.length) = some n) (hdg : decode cc pc = .ok (.invokevirtual idx, 3)) : cx_step p l e R s m args below meth c Q res D cl ad d ι0 σ0 nL pc 3 (cs_vt call ms0 (n + 1) rk) := by
  obtain ⟨hx, hb, hts, hown, hK, hcl, hml, hR⟩ := hC
  intro st σ ι H locs cells slots rls rst kx k hG hsz hst he hm1 hm2 hkx hk
  unfold cs_vt at he
  obtain ⟨as0, r, hst1, hlen, he⟩ := am_tk_e he
  rw [List.append_nil] at he
  split at he
  · rename_i t tl has
    obtain ⟨hcond, he⟩ := bif_e he
    obtain ⟨hble, ht⟩ := (Bool.and_eq_true _ _).mp hcond
    have hk1 : tr_k t ≤ 9 := by
      cases t with
      | leaf => cases ht
      | inner a k v b c => exact Nat.le_of_ble_eq_true ht
    obtain ⟨hcb, hsel, hinst⟩ := hk9 _ hk1
    refine cx_go hK hR.2.2 (hcalls _ hk1) hG (by rw [List.reverse_reverse]; exact hst1) hst hble he hm1 hm2 hkx hk ?_
    intro o σ1 rargs rr mc ms Pc Qc hc1 hrst hra h8 hc hs hM hro hbl hPc
    have hl1 := congrArg List.length has
    rw [List.length_reverse, hlen, List.length_cons] at hl1
    rw [has] at hra
    obtain ⟨r0, rt0, rfl, h0, hrt⟩ := am_S2_c hra
    obtain ⟨a, q0, rx, ry, rfl, -, hat, -, -⟩ := cx_nat hG.1 ht h0
    obtain ⟨-, hq9⟩ := cx_q_in _ hk1
    refine xm_runU (C := (cx_q (tr_k t)).1) (owner := owner) (b := a) (As := rt0) ⟨hx, hb, hml, hown, hts⟩ hM (cx_B hts hcb ⟨hR.1, hR.2.1⟩) (hts _ hl) (hts _ hsame) hd0 howner (hts _ hsel) (hts _ hinst) hnp ⟨hbl, va_recv hK.1 (cw_P hG.1.1) (hcl _ _ hq9) hat, hPc⟩ (by rw [am_S2_len hrt]; omega) hsz ?_ h8 hdg ⟨hc, hs⟩
    rw [hrst, List.reverse_cons, List.append_assoc]
    rfl
  · cases he
/-- a superclass's method -/
theorem cx_s_super (hC : cx_ctx p R s m args c res D cl ad d ι0 σ0 nL cc own f) (hcall : ∀ as σ o σ1, call mt as σ = some (o, σ1) → cx_Met l D cl ad d f y ws as σ o σ1 ∧ cs_n1 σ ≤ cs_n1 σ1 ∧ cs_n2 σ ≤ cs_n2 σ1) {lo hi : Nat} (h9 : hi ≤ 9) {x : MethodName} {owner : String} (hcb : cx_cb y ws maxL) (hyx : y = ⟨owner, x.name, x.desc⟩) (hl : Cond.methodLink own idx x ∈ lw_all) (hsame : Cond.sameMethod x.cls owner x.name x.desc ∈ lw_all) (hsup : Cond.superclass own x.cls ∈ lw_all) (hsup2 : Cond.superclass x.cls owner ∈ lw_all) (hinst : Cond.instanceMethod y ∈ lw_all) (hno : x.name ≠ "<init>") (hnp : (parseMethodDescriptor x.desc).map (fun d => d.parameters.length) = some n) (hdg : decode cc pc = .ok (.invokespecial idx, 3)) : cx_step p l e R s m args below meth c Q res D cl ad d ι0 σ0 nL pc 3 (cs_su call lo hi mt (n + 1) rk) := by
  obtain ⟨hx, hb, hts, hown, hK, hcl, hml, hR⟩ := hC
  intro st σ ι H locs cells slots rls rst kx k hG hsz hst he hm1 hm2 hkx hk
  unfold cs_su at he
  obtain ⟨as0, r, hst1, hlen, he⟩ := am_tk_e he
  rw [List.append_nil] at he
  split at he
  · rename_i t tl has
    obtain ⟨hcond, he⟩ := bif_e he
    obtain ⟨hble, ht⟩ := (Bool.and_eq_true _ _).mp hcond
    obtain ⟨hnd, h1, h2⟩ := tr_in_e ht h9
    refine cx_go hK hR.2.2 hcall hG (by rw [List.reverse_reverse]; exact hst1) hst hble he hm1 hm2 hkx hk ?_
    intro o σ1 rargs rr mc ms Pc Qc hc1 hrst hra h8 hc hs hM hro hbl hPc
    have hl1 := congrArg List.length has
    rw [List.length_reverse, hlen, List.length_cons] at hl1
    rw [has] at hra
    obtain ⟨r0, rt0, rfl, h0, hrt⟩ := am_S2_c hra
    obtain ⟨a, q0, rx, ry, rfl, hk9, hat, -, -⟩ := cx_nat hG.1 hnd h0
    obtain ⟨-, hq9⟩ := cx_q_in _ hk9
    refine xm_runP (C := (cx_q (tr_k t)).1) (owner := owner) (x := x) (b := a) (As := rt0) (hK.1.1 _ _ (hcl _ _ hq9)).2 ⟨hx, hb, hml, hown, hts⟩ hM (cx_B hts hcb ⟨hR.1, hR.2.1⟩) hyx (hts _ hl) (hts _ hsame) (hts _ hsup) (hts _ hsup2) (hts _ hinst) hno hnp ⟨hbl, va_recv hK.1 (cw_P hG.1.1) (hcl _ _ hq9) hat, hPc⟩ (by rw [am_S2_len hrt]; omega) hsz ?_ h8 hdg ⟨hc, hs⟩
    rw [hrst, List.reverse_cons, List.append_assoc]
    rfl
  · cases he
end
