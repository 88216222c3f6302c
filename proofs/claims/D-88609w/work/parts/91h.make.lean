set_option maxRecDepth 100000
/-! EXCEPTIONS ARE CAUGHT; a row is made (make). -/
section
variable {p : Program} {l : Launch} {e : Env} {R : Room} {s : State} {m : MethodId} {args : Array Value} {below : List Frame} {meth : Method} {c : Code} {H : Heap} {locs : List Loc} {cells slots : Nat} {Q : State → Prop} {pc : Nat} {ls : Array Slot} {A0 : Nat → Prop} {cc : ByteArray} {rest : List Value}
/-- the exception goes on at its handler -/
theorem sx_catch (hown : s.vm.findClass RX1 = some m.cls) {cls name : String} {k n : Nat} (pre : List ExceptionTableEntry) (x : ExceptionTableEntry) (post : List ExceptionTableEntry) (hsplit : c.exceptionTable.toList = pre ++ x :: post) (hcov : covers x pc = true) (h0 : x.catchType ≠ 0) (hlink : (Cond.classLink RX1 x.catchType name).before args s = true) (hcast : (Cond.castable cls name).before args s = true)
    (hpass : ∀ y ∈ pre, covers y pc = false ∨ ∃ nm, y.catchType ≠ 0 ∧ (Cond.classLink RX1 y.catchType nm).before args s = true ∧ va_Nc cls nm s)
    (kk : ∀ (H' : Heap) (L : List Loc) (a : Nat), H'.size = H.size + k → (∀ q, q < H.size → H'[q]? = H[q]?) → H.size ≤ a → (∀ y ∈ L, H.size ≤ y.base) → W p l e R s m args below meth c H' (locs ++ L) (cells + k) (slots + n) Q (F0 m x.handlerPc ls [.ref a])) : ex_A p l e R s m args below meth c H locs cells slots Q pc ls cls k n := by
  rintro H' L a h1 h2 ⟨ce, c1, c2, c3⟩ h3 h4
  obtain ⟨cc', t, f1, f2, f3⟩ := Cond.castable_spec hcast
  cases f1.symm.trans c2
  refine ct_catch hown pre x post hsplit hcov h0 hlink f2 c1 (by rw [c3]; rfl) f3 (fun pl hpl y hy => ?_) (kk H' L a h1 h2 h3 h4)
  rcases hpass y hy with h | ⟨nm, q1, q2, c', t', g1, g2, g3⟩
  · exact .inl h
  · obtain ⟨c'', hc'', hl⟩ := Cond.classLink_spec hown q2 pl hpl
    cases g1.symm.trans c2
    cases g2.symm.trans hc''
    exact .inr ⟨q1, _, hl, g3⟩
/-- an array's length is negative -/
theorem sx_neg (hx : p.tables.exec = Jvm.exec) (hb : c.code = cc) {n : Int32} (hn : n < 0) {atype : ArrayType} (hdg : decode cc pc = .ok (.newarray atype, 2)) (h : ex_N p l e R s m args below meth c H locs cells slots Q (F0 m pc ls rest) "java/lang/NegativeArraySizeException" (some (toString n))) : W p l e R s m args below meth c H locs cells slots Q (F0 m pc ls (.int n :: rest)) := by
  intro T hT X
  obtain ⟨t, a, b⟩ := h T hT X
  exact ⟨t, X.newarrayNegative hx (g := F0 m pc ls (.int n :: rest)) rfl hn rfl (by rw [hb]; exact hdg) t a, b⟩
end
theorem sx_G.growL {D : va_G} {cl : List vw_C} {ad : Nat → Nat} {d : Nat → ClassId} {ι0 ι : cx_I} {κ : sx_I} {A0 : Nat → Prop} {H0 H H1 : Heap} {σ : cs_S} {SH : Nat → sh_T} {locs L : List Loc} (hG : sx_G D cl ad d ι0 A0 H0 σ SH ι κ H locs) (hA2 : ∀ q, H0.size ≤ q → A0 q) (hz : H.size ≤ H1.size) (hk : ∀ q, q < H.size → H1[q]? = H[q]?) (hL : ∀ y ∈ L, H.size ≤ y.base) : sx_G D cl ad d ι0 A0 H0 σ SH ι κ H1 (locs ++ L) := by
  obtain ⟨g1, g2, g3, g4, g5, g6⟩ := hG.grow hz hk
  refine ⟨g1, g2, g3, g4, g5, g6.1, g6.2.1, fun q hq => ?_⟩
  rcases List.mem_append.mp hq with h | h
  · exact g6.2.2 q h
  · exact hA2 _ (Nat.le_trans hG.2.2.2.2.2.1 (hL q h))
/-- one handler -/
theorem ex_1 {c : Code} {a b h t : Nat} (hex : c.exceptionTable.toList.map (fun x => (x.startPc, x.endPc, x.handlerPc, x.catchType)) = [(a, b, h, t)]) : ∃ x : ExceptionTableEntry, c.exceptionTable.toList = [x] ∧ x.startPc = a ∧ x.endPc = b ∧ x.handlerPc = h ∧ x.catchType = t := by
  obtain ⟨x, r, h1, h2, h3⟩ := List.map_eq_cons_iff.mp hex
  rw [List.map_eq_nil_iff.mp h3] at h1
  simp only [Prod.mk.injEq] at h2
  exact ⟨x, h1, h2.1, h2.2.1, h2.2.2.1, h2.2.2.2⟩
theorem ex_cov {x : ExceptionTableEntry} {a b pc : Nat} (h1 : x.startPc = a) (h2 : x.endPc = b) (ha : a ≤ pc) (hb : pc < b) : covers x pc = true := by
  show (decide (x.startPc ≤ pc) && decide (pc < x.endPc)) = true
  rw [h1, h2, decide_eq_true ha, decide_eq_true hb]
  rfl
theorem ex_cov0 {x : ExceptionTableEntry} {a b pc : Nat} (h1 : x.startPc = a) (h2 : x.endPc = b) (h : pc < a ∨ b ≤ pc) : covers x pc = false := by
  show (decide (x.startPc ≤ pc) && decide (pc < x.endPc)) = false
  rw [h1, h2]
  rcases h with h | h
  · rw [decide_eq_false (by omega), Bool.false_and]
  · rw [decide_eq_false (p := pc < b) (by omega), Bool.and_false]
theorem sx_make {l : Launch} (hfl : l.flags = flags0) {D : va_G} {cl : List vw_C} {ad : Nat → Nat} {d : Nat → ClassId} (hcl : cx_clok cl) (SH : Nat → sh_T) (σ : cs_S) (x w n : Int32) :
    sx_Met l D cl ad d 20 11000 yX1_make (wsW_ yX1_make cX1_make 5 (some .int) [(29, 59, 60, 372)]) [.inl (.ref 0), .inl (.int x), .inl (.int w), .inl (.int n)] σ SH (.inl (.inl (some (.inl (.int (sh_mk x w n)))))) (cs_mk σ 10 1000) (sh_mq SH x w n) := by
  intro ι κ sz rargs hra
  obtain ⟨r0, rr0, rfl, q0, hra0⟩ := am_S2_c hra
  obtain rfl : r0 = .ref (ad 0) := q0
  obtain ⟨rr1, rfl, hra1⟩ := am_S2_i hra0
  obtain ⟨rr2, rfl, hra2⟩ := am_S2_i hra1
  obtain ⟨rr3, rfl, hra3⟩ := am_S2_i hra2
  obtain rfl := am_S2_n hra3
  obtain ⟨em1, em2⟩ := cs_mk_1 σ 10 1000
  rw [em1, em2]
  refine sx_ofW (cc := cX1_make) (maxL := 5) (ret := some .int) (hh := [(29, 59, 60, 372)]) (by decide) (.inr rfl) ?_
  intro p e s m args below meth c hadm hx hb hml hret hlocks hnm hts hown hex hP
  obtain ⟨rfl, rfl, hW, hV, hK, hN, hZ⟩ := hP
  have htr : e.platform.stackTraces = false := Launch.traces_off hfl hadm
  have hA2 : ∀ q, s.heap.size ≤ q → sx_A ι κ SH s.heap.size q := fun q h => .inl (.inr h)
  have hC : sx_C p { frames := 20, cells := 10, slots := 1000, locals := 11000 } s m [.ref (ad 0), .int x, .int w, .int n].toArray c D cl ad d 5 cX1_make (sx_A ι κ SH s.heap.size) := ⟨hx, hb, hml, hown, hts, hcl, hK, hA2, by decide, by decide⟩
  have hG := sx_G.start hW hV
  have hl := lv_entry ([.ref (ad 0), .int x, .int w, .int n]) (n := 5) (Nat.le_of_ble_eq_true rfl)
  rw [lg_entry_eq]
  generalize (lg_sl ([.ref (ad 0), .int x, .int w, .int n]) ++ List.replicate (5 - (lg_sl ([.ref (ad 0), .int x, .int w, .int n])).length) Slot.unset).toArray = ls at hl ⊢
  have hl : lv_has ls 5 [(0, .ref (ad 0)), (1, .int x), (2, .int w), (3, .int n)] := hl
  have fail : ¬ (inR 0 7 x = true ∧ inR 3 4 w = true ∧ n ≤ ic 60) → ∀ (ι1 : cx_I) (H1 : Heap) (locs1 : List Loc), sx_G D cl ad d ι (sx_A ι κ SH s.heap.size) s.heap σ SH ι1 κ H1 locs1 → W p l e { frames := 20, cells := 10, slots := 1000, locals := 11000 } s m [.ref (ad 0), .int x, .int w, .int n].toArray below meth c H1 locs1 0 0 (xm_MQ below (fun _ st o' t => ∃ ι' κ', sx_ro ad ι' (.inl (.inl (some (.inl (.int (sh_mk x w n)))))) o' t ∧ cx_le ι ι' ∧ cx_W D cl ad d ι' (cs_mk σ 10 1000) t.heap ∧ sx_W D cl ad d ι' κ' (sh_mq SH x w n) t.heap ∧ (∀ c ∈ ι'.1, sx_A ι κ SH s.heap.size (ι'.2.1 c)) ∧ (∀ j, sx_has (sh_mq SH x w n) j → sx_A ι κ SH s.heap.size (κ'.1 j)) ∧ va_F (sx_A ι κ SH s.heap.size) st t) [.ref (ad 0), .int x, .int w, .int n].toArray s 10 1000 (sx_A ι κ SH s.heap.size)) (F0 m 27 ls []) := by
    intro hno ι1 H1 locs1 hG1
    have e1 : sh_mk x w n = ic (-1) := by unfold sh_mk; rw [if_neg hno]
    have e2 : sh_mq SH x w n = SH := by unfold sh_mq; rw [if_neg (fun h => hno ⟨h.1, h.2.1, h.2.2.1⟩)]
    rw [e1, e2]
    refine lv_iconst hx hb dX1_make_27 rfl ?_
    -- 28: .ireturn
    refine W.up (cells' := 10) (slots' := 1000) ?_ (Nat.zero_le _) (Nat.zero_le _)
    exact xm_W (W.iret hx hb hret (fun t ht hWm => hG1.ret ht _) hG1.2.2.2.2.2.2.2 dX1_make_28 hlocks) (fun t => xm_MQ.of)
  refine lv_iload_n hx hb dX1_make_0 rfl (lv_at hl 1 rfl) ?_
  -- 1: .invokestatic 361
  refine sx_isShelf (rr := []) hC hG dX1_make_1 hl.1 (by decide) ⟨Nat.zero_le _, Nat.zero_le _⟩ (fun ι1 H1 locs1 hG1 hle1 => ?_)
  cases h1 : inR 0 7 x with
  | false =>
    refine lv_if_eq hx hb dX1_make_4 rfl (fun _ => ?_) (fun h => absurd b2f0 h)
    exact fail (by rw [h1]; rintro ⟨h, -⟩; cases h) ι1 H1 locs1 hG1
  | true =>
    refine lv_if_eq hx hb dX1_make_4 rfl (fun h => absurd h b2t0) (fun _ => ?_)
    refine lv_iload_n hx hb dX1_make_7 rfl (lv_at hl 2 rfl) ?_
    refine lv_i2l hx hb dX1_make_8 rfl ?_
    -- 9: .ldc2_w 324
    refine lv_ldc2 hx hb hown (hts _ q721) dX1_make_9 ?_
    refine lv_ldc2 hx hb hown (hts _ q567) dX1_make_12 ?_
    refine sx_isIn (rr := []) hC hG1 dX1_make_15 hl.1 (by decide) ⟨Nat.zero_le _, Nat.zero_le _⟩ 3 4 (by decide) (by decide) (fun ι2 H2 locs2 hG2 hle2 => ?_)
    cases h2 : inR 3 4 w with
    | false =>
      refine lv_if_eq hx hb dX1_make_18 rfl (fun _ => ?_) (fun h => absurd b2f0 h)
      exact fail (by rw [h2]; rintro ⟨-, h, -⟩; cases h) ι2 H2 locs2 hG2
    | true =>
      refine lv_if_eq hx hb dX1_make_18 rfl (fun h => absurd h b2t0) (fun _ => ?_)
      refine lv_iload_n hx hb dX1_make_21 rfl (lv_at hl 3 rfl) ?_
      refine lv_bipush hx hb dX1_make_22 rfl ?_
      -- 24: .if_icmp .le 5
      refine lv_icmp_le hx hb dX1_make_24 rfl (fun h60 => ?_) (fun h60 => fail (fun h => h60 h.2.2) ι2 H2 locs2 hG2)
      obtain ⟨i, -, hi7, rfl⟩ := inR_t (by omega) (by omega) h1
      obtain ⟨w', hw3, hw4, rfl⟩ := inR_t (by omega) (by omega) h2
      have hi8 : i < 8 := by omega
      have hmk : sh_mk (nI i) (nI w') n = if 0 ≤ n then ic 0 else ic (-14) := by unfold sh_mk; rw [if_pos ⟨h1, h2, h60⟩]
      by_cases hn : n < 0
      · -- a negative length
        have hn0 : ¬ 0 ≤ n := fun h => absurd hn (Int32.not_lt.mpr h)
        have e2 : sh_mq SH (nI i) (nI w') n = SH := by unfold sh_mq; rw [if_neg (fun h => hn0 h.2.2.2)]
        rw [hmk, if_neg hn0, e2]
        obtain ⟨xt, hxt, x1, x2, x3, x4⟩ := ex_1 hex
        have hthr : ∀ pc, 29 ≤ pc → pc < 59 → ex_A p l e { frames := 20, cells := 10, slots := 1000, locals := 11000 } s m [.ref (ad 0), .int (nI i), .int (nI w'), .int n].toArray below meth c H2 locs2 0 0 (xm_MQ below (fun _ st o' t => ∃ ι' κ', sx_ro ad ι' (.inl (.inl (some (.inl (.int (ic (-14))))))) o' t ∧ cx_le ι ι' ∧ cx_W D cl ad d ι' (cs_mk σ 10 1000) t.heap ∧ sx_W D cl ad d ι' κ' SH t.heap ∧ (∀ c ∈ ι'.1, sx_A ι κ SH s.heap.size (ι'.2.1 c)) ∧ (∀ j, sx_has SH j → sx_A ι κ SH s.heap.size (κ'.1 j)) ∧ va_F (sx_A ι κ SH s.heap.size) st t) [.ref (ad 0), .int (nI i), .int (nI w'), .int n].toArray s 10 1000 (sx_A ι κ SH s.heap.size)) pc ls "java/lang/NegativeArraySizeException" 3 (44 + 10) := by
          intro pc hp1 hp2
          refine sx_catch hown (name := "java/lang/NegativeArraySizeException") [] xt [] hxt (ex_cov x1 x2 hp1 hp2) (by rw [x4]; decide) (by rw [x4]; exact hts _ q971) (va_Nw.use (A := _) rfl (hN.1 _ (exNA_in _ (by simp [exM])).1 rfl)) (fun y hy => by cases hy) (fun H3 L a hz hk ha hL => ?_)
          rw [x3]
          have hG3 := hG2.growL hA2 (by omega) hk hL
          refine lv_astore hx hb dX1_make_60 hl (by decide) rfl (fun ls' hl' => ?_)
          refine lv_bipush hx hb dX1_make_62 rfl ?_
          refine W.up (cells' := 10) (slots' := 1000) ?_ (by omega) (by omega)
          exact xm_W (W.iret hx hb hret (fun t ht hWm => hG3.ret ht _) hG3.2.2.2.2.2.2.2 dX1_make_64 hlocks) (fun t => xm_MQ.of)
        have hnote : ∀ pc, 29 ≤ pc → pc < 59 → ex_N p l e { frames := 20, cells := 10, slots := 1000, locals := 11000 } s m [.ref (ad 0), .int (nI i), .int (nI w'), .int n].toArray below meth c H2 locs2 0 0 _ (F0 m pc ls []) "java/lang/NegativeArraySizeException" (some (toString n)) := fun pc hp1 hp2 => sx_msg hx htr hts hN hZ hG2.2.2.2.2.2 (by rw [hml]; exact hl.1) (names := [Bundle.rN, Bundle.eN]) (n := 44) (by decide +kernel) (by decide +kernel) (by decide +kernel) (by decide +kernel) exNA_in (by decide) (negative_text_modelled hn) (negative_text_bytes n) (by decide) ⟨by decide, by decide⟩ ⟨by decide, by decide⟩ (hthr pc hp1 hp2)
        refine lv_iload_n hx hb dX1_make_29 rfl (lv_at hl 2 rfl) ?_
        refine lv_iconst hx hb dX1_make_30 rfl ?_
        -- 31: .if_icmp .ne 11
        refine lv_icmp_ne hx hb dX1_make_31 rfl (fun _ => ?_) (fun _ => ?_)
        · skip
          refine lv_iload_n hx hb dX1_make_42 rfl (lv_at hl 3 rfl) ?_
          -- 43: .newarray .char
          exact sx_neg hx hb hn dX1_make_43 (hnote 43 (by decide) (by decide))
        · skip
          refine lv_iload_n hx hb dX1_make_34 rfl (lv_at hl 3 rfl) ?_
          -- 35: .newarray .byte
          exact sx_neg hx hb hn dX1_make_35 (hnote 35 (by decide) (by decide))
      · have hn0 : 0 ≤ n := Int32.not_lt.mp hn
        obtain ⟨n', hn', rfl⟩ := nI_of hn
        have hn60 : n' ≤ 60 := (nI_leI (by omega) (by omega)).mp h60
        have hSH : sh_mq SH (nI i) (nI w') (nI n') = fun j => if j = i then (w', .leaf, (List.range n').map fun _ => 0) else SH j := by
          unfold sh_mq
          rw [if_pos ⟨h1, h2, h60, hn0⟩, nI_clamp (by omega), nI_clamp (by omega), nI_clamp (by omega)]
        rw [hmk, if_pos hn0]
        have hrow0 : ∀ H3, va_at D cl (H2.size, .inl (d w', n', .inl fun _ => 0)) H3 → va_at D cl (H2.size, sx_row d (w', .leaf, (List.range n').map fun _ => 0)) H3 := by
          intro H3 h
          have : (fun j => nI (((List.range n').map fun _ => 0).getD j 0)) = fun _ => (0 : Int32) := by
            funext j
            by_cases hj : j < n'
            · rw [gd_map hj]; rfl
            · rw [List.getD_eq_getElem?_getD, List.getElem?_eq_none (by simp; omega)]; rfl
          unfold sx_row
          dsimp only
          rw [this, List.length_map, List.length_range]
          exact h
        have fin : ∀ (H3 : Heap) (ls' : Array Slot), lv_has ls' 5 [(4, .ref H2.size), (0, .ref (ad 0)), (1, .int (nI i)), (2, .int (nI w')), (3, .int (nI n'))] → va_at D cl (H2.size, .inl (d w', n', .inl fun _ => 0)) H3 → H3.size = H2.size + 1 → (∀ q, q < H2.size → H3[q]? = H2[q]?) → W p l e { frames := 20, cells := 10, slots := 1000, locals := 11000 } s m [.ref (ad 0), .int (nI i), .int (nI w'), .int (nI n')].toArray below meth c H3 locs2 (0 + 1) (0 + n') (xm_MQ below (fun _ st o' t => ∃ ι' κ', sx_ro ad ι' (.inl (.inl (some (.inl (.int (ic 0)))))) o' t ∧ cx_le ι ι' ∧ cx_W D cl ad d ι' (cs_mk σ 10 1000) t.heap ∧ sx_W D cl ad d ι' κ' (sh_mq SH (nI i) (nI w') (nI n')) t.heap ∧ (∀ c ∈ ι'.1, sx_A ι κ SH s.heap.size (ι'.2.1 c)) ∧ (∀ j, sx_has (sh_mq SH (nI i) (nI w') (nI n')) j → sx_A ι κ SH s.heap.size (κ'.1 j)) ∧ va_F (sx_A ι κ SH s.heap.size) st t) [.ref (ad 0), .int (nI i), .int (nI w'), .int (nI n')].toArray s 10 1000 (sx_A ι κ SH s.heap.size)) (F0 m 47 ls' []) := by
          intro H3 ls' hl hrow hz hk
          have hG3 := hG2.grow (by omega) hk
          refine lv_aload_n hx hb dX1_make_47 rfl (lv_at hl 1 rfl) ?_
          -- 48: .getfield 352
          refine sx_shelves hC hG3 dX1_make_48 ?_
          refine lv_iload_n hx hb dX1_make_51 rfl (lv_at hl 2 rfl) ?_
          -- 52: .aaload
          refine sx_shelf hC hG3 dX1_make_52 hi8 ?_
          refine lv_aload hx hb dX1_make_53 (lv_at hl 0 rfl) ?_
          -- 55: .putfield 368
          refine kp_end hC hG3 hret hlocks hi8 (.inr ⟨_, rfl⟩) (q := (w', .leaf, (List.range n').map fun _ => 0)) (r := H2.size) (.inr (.inr ⟨by show w' = 3 ∨ w' = 4; omega, rfl, hrow0 H3 hrow, hG2.2.2.2.2.2.1, fun c hc z => ?_, fun j hj z => ?_⟩)) hSH ⟨by omega, by omega⟩ dX1_make_55 dX1_make_58 dX1_make_59
          · have := va_at.lt (hG2.1.1 c hc)
            dsimp only at this
            omega
          · have := hG2.2.1.2.2.2.1 j hj
            omega
        refine lv_iload_n hx hb dX1_make_29 rfl (lv_at hl 2 rfl) ?_
        refine lv_iconst hx hb dX1_make_30 rfl ?_
        -- 31: .if_icmp .ne 11
        refine lv_icmp_ne hx hb dX1_make_31 rfl (fun hne => ?_) (fun heq => ?_)
        · have hw : w' = 4 := by
            have : w' ≠ 3 := fun h => hne (by rw [h]; rfl)
            omega
          subst hw
          refine lv_iload_n hx hb dX1_make_42 rfl (lv_at hl 3 rfl) ?_
          -- 43: .newarray .char
          refine sx_newa (atype := .char) (D := D) (cl := cl) (dk := d 4) hx hb (hts _ q966) (hK.1.2 4 _ rfl).2 rfl hn (N := n') (nI_clamp (by omega)) (by show n' * 2 ≤ _; omega) (by decide) (by show 0 + n' ≤ 1000; omega) dX1_make_43 (fun H3 hrow hz hk => ?_)
          refine lv_astore hx hb dX1_make_45 hl (by decide) rfl (fun ls hl => ?_)
          -- 47: .aload_n 0
          exact fin H3 ls hl hrow hz hk
        · have hw : w' = 3 := (nI_eq (by omega) (by omega)).mp heq
          subst hw
          refine lv_iload_n hx hb dX1_make_34 rfl (lv_at hl 3 rfl) ?_
          -- 35: .newarray .byte
          refine sx_newa (atype := .byte) (D := D) (cl := cl) (dk := d 3) hx hb (hts _ q850) (hK.1.2 3 _ rfl).2 rfl hn (N := n') (nI_clamp (by omega)) (by show n' * 1 ≤ _; omega) (by decide) (by show 0 + n' ≤ 1000; omega) dX1_make_35 (fun H3 hrow hz hk => ?_)
          refine lv_astore hx hb dX1_make_37 hl (by decide) rfl (fun ls hl => ?_)
          refine lv_goto hx hb dX1_make_39 rfl ?_
          -- 47: .aload_n 0
          exact fin H3 ls hl hrow hz hk
