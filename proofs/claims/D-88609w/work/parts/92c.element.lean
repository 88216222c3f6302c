set_option maxRecDepth 100000
/-! element, by hand. -/
theorem ex_6 {c : Code} {q1 q2 q3 q4 q5 q6 : Nat × Nat × Nat × Nat} (hex : c.exceptionTable.toList.map (fun x => (x.startPc, x.endPc, x.handlerPc, x.catchType)) = [q1, q2, q3, q4, q5, q6]) : ∃ x1 x2 x3 x4 x5 x6 : ExceptionTableEntry, c.exceptionTable.toList = [x1, x2, x3, x4, x5, x6] ∧ (x1.startPc, x1.endPc, x1.handlerPc, x1.catchType) = q1 ∧ (x2.startPc, x2.endPc, x2.handlerPc, x2.catchType) = q2 ∧ (x3.startPc, x3.endPc, x3.handlerPc, x3.catchType) = q3 ∧ (x4.startPc, x4.endPc, x4.handlerPc, x4.catchType) = q4 ∧ (x5.startPc, x5.endPc, x5.handlerPc, x5.catchType) = q5 ∧ (x6.startPc, x6.endPc, x6.handlerPc, x6.catchType) = q6 := by
  obtain ⟨x1, r1, h1, g1, k1⟩ := List.map_eq_cons_iff.mp hex
  obtain ⟨x2, r2, h2, g2, k2⟩ := List.map_eq_cons_iff.mp k1
  obtain ⟨x3, r3, h3, g3, k3⟩ := List.map_eq_cons_iff.mp k2
  obtain ⟨x4, r4, h4, g4, k4⟩ := List.map_eq_cons_iff.mp k3
  obtain ⟨x5, r5, h5, g5, k5⟩ := List.map_eq_cons_iff.mp k4
  obtain ⟨x6, r6, h6, g6, k6⟩ := List.map_eq_cons_iff.mp k5
  rw [List.map_eq_nil_iff.mp k6] at h6
  rw [h6] at h5
  rw [h5] at h4
  rw [h4] at h3
  rw [h3] at h2
  rw [h2] at h1
  exact ⟨x1, x2, x3, x4, x5, x6, h1, g1, g2, g3, g4, g5, g6⟩
theorem ex_q {x : ExceptionTableEntry} {a b h t : Nat} (e : (x.startPc, x.endPc, x.handlerPc, x.catchType) = (a, b, h, t)) : x.startPc = a ∧ x.endPc = b ∧ x.handlerPc = h ∧ x.catchType = t := by
  simp only [Prod.mk.injEq] at e
  exact e
theorem sx_G.retL {D : va_G} {cl : List vw_C} {ad : Nat → Nat} {d : Nat → ClassId} {ι0 ι : cx_I} {κ0 κ : sx_I} {SH0 SH : Nat → sh_T} {s t : State} {H : Heap} {σ : cs_S} {locs : List Loc} (hG : sx_G D cl ad d ι0 (sx_A ι0 κ0 SH0 s.heap.size) s.heap σ SH ι κ H locs) (ht : t.heap = H) (v : Int64) :
    ∃ ι' κ', sx_ro ad ι' (.inl (.inl (some (.inl (.long v))))) (.returned (some (.long v))) t ∧ cx_le ι0 ι' ∧ cx_W D cl ad d ι' (cs_mk σ 10 1000) t.heap ∧ sx_W D cl ad d ι' κ' SH t.heap ∧ (∀ c ∈ ι'.1, sx_A ι0 κ0 SH0 s.heap.size (ι'.2.1 c)) ∧ (∀ j, sx_has SH j → sx_A ι0 κ0 SH0 s.heap.size (κ'.1 j)) ∧ va_F (sx_A ι0 κ0 SH0 s.heap.size) s t :=
  (hG.mk (a := 10) (b := 1000)).fin (o := .inl (.inl (some (.inl (.long v))))) (o' := .returned (some (.long v))) ht ⟨_, rfl, rfl⟩
section
variable {p : Program} {l : Launch} {e : Env} {R : Room} {s : State} {m : MethodId} {args : Array Value} {below : List Frame} {meth : Method} {c : Code} {H : Heap} {locs : List Loc} {cells slots : Nat} {Q : State → Prop} {pc : Nat} {ls : Array Slot} {cc : ByteArray} {rest : List Value} {D : va_G} {cl : List vw_C} {tys : List (ClassId × FieldType)}
theorem sx_cnull (hx : p.tables.exec = Jvm.exec) (hb : c.code = cc) {i : Int32} (hdg : decode cc pc = .ok (.caload, 1)) (h : ex_N p l e R s m args below meth c H locs cells slots Q (F0 m pc ls rest) "java/lang/NullPointerException" none) : W p l e R s m args below meth c H locs cells slots Q (F0 m pc ls (.int i :: .null :: rest)) := by
  intro T hT X
  obtain ⟨t, a, b⟩ := h T hT X
  exact ⟨t, X.caloadNull hx (g := F0 m pc ls (.int i :: .null :: rest)) rfl (i := i) (rest := rest) rfl (by rw [hb]; exact hdg) t a, b⟩
theorem sx_bout (hx : p.tables.exec = Jvm.exec) (hb : c.code = cc) (hK : va_K D cl tys s) {t0 : Nat} {cA : ClassId} (ht : tys[t0]? = some (cA, .byte)) {a n : Nat} {f : Nat → Int32} (hat : va_at D cl (a, .inl (cA, n, .inl f)) H) {i : Int32} (hi : ¬ vp_in i n) (hdg : decode cc pc = .ok (.baload, 1)) (h : ex_N p l e R s m args below meth c H locs cells slots Q (F0 m pc ls rest) "java/lang/ArrayIndexOutOfBoundsException" (some (toString "Index " ++ toString i ++ toString " out of bounds for length " ++ toString n))) : W p l e R s m args below meth c H locs cells slots Q (F0 m pc ls (.int i :: .ref a :: rest)) := by
  intro T hT X
  obtain ⟨t, a1, b1⟩ := h T hT X
  have hz : (arrV cA n (fun j => .int (f j))).slots.size = n := arrV_size _ _ _
  have st := X.baloadOut hx (a := a) (cell := arrV cA n (fun j => .int (f j))) (ty := .byte) (j := i) (by rw [hT]; exact hat) ((hK.2 t0 _ ht).1 n _) (by rw [hz]; exact Classical.not_not.mp hi) (g := F0 m pc ls (.int i :: .ref a :: rest)) rfl (rest := rest) rfl (by rw [hb]; exact hdg)
  rw [hz] at st
  exact ⟨t, st t a1, b1⟩
theorem sx_cout (hx : p.tables.exec = Jvm.exec) (hb : c.code = cc) (hK : va_K D cl tys s) {t0 : Nat} {cA : ClassId} (ht : tys[t0]? = some (cA, .char)) {a n : Nat} {f : Nat → Int32} (hat : va_at D cl (a, .inl (cA, n, .inl f)) H) {i : Int32} (hi : ¬ vp_in i n) (hdg : decode cc pc = .ok (.caload, 1)) (h : ex_N p l e R s m args below meth c H locs cells slots Q (F0 m pc ls rest) "java/lang/ArrayIndexOutOfBoundsException" (some (toString "Index " ++ toString i ++ toString " out of bounds for length " ++ toString n))) : W p l e R s m args below meth c H locs cells slots Q (F0 m pc ls (.int i :: .ref a :: rest)) := by
  intro T hT X
  obtain ⟨t, a1, b1⟩ := h T hT X
  have hz : (arrV cA n (fun j => .int (f j))).slots.size = n := arrV_size _ _ _
  have st := X.caloadOut hx (a := a) (cell := arrV cA n (fun j => .int (f j))) (ty := .char) (j := i) (by rw [hT]; exact hat) ((hK.2 t0 _ ht).1 n _) (by rw [hz]; exact Classical.not_not.mp hi) (g := F0 m pc ls (.int i :: .ref a :: rest)) rfl (rest := rest) rfl (by rw [hb]; exact hdg)
  rw [hz] at st
  exact ⟨t, st t a1, b1⟩
end
theorem vp_in_e {i : Int32} {n : Nat} (h : vp_in i n) : ∃ j, j < n ∧ i = nI j := by
  have h0 : ¬ i < 0 := fun z => h (.inl z)
  obtain ⟨j, hj, rfl⟩ := nI_of h0
  have h1 : ¬ n ≤ (nI j).toNatClampNeg := fun z => h (.inr z)
  rw [nI_clamp hj] at h1
  exact ⟨j, by omega, rfl⟩
/-- how element ends -/
def el_o (SH : Nat → sh_T) (x i : Int32) : am_O ⊕ String := if sh_et SH x i = 0 then .inl (.inl (some (.inl (.long (sh_ev SH x i))))) else if sh_et SH x i = 1 then .inr "java/lang/IllegalArgumentException" else .inr "java/lang/IllegalStateException"
def el_hh : List (Nat × Nat × Nat × Nat) := [(25, 39, 48, 377), (40, 47, 48, 377), (25, 39, 58, 379), (40, 47, 58, 379), (25, 39, 68, 381), (40, 47, 68, 381)]
theorem sx_element {l : Launch} (hfl : l.flags = flags0) {D : va_G} {cl : List vw_C} {ad : Nat → Nat} {d : Nat → ClassId} (hcl : cx_clok cl) (SH : Nat → sh_T) (hok : ∀ i, i < 8 → sh_ok (SH i)) (σ : cs_S) (x n : Int32) :
    sx_Met l D cl ad d 20 11000 yX1_element (wsW_ yX1_element cX1_element 5 (some .long) el_hh) [.inl (.ref 0), .inl (.int x), .inl (.int n)] σ SH (el_o SH x n) (cs_mk σ 10 1000) SH := by
  intro ι κ sz rargs hra
  obtain ⟨r0, rr0, rfl, q0, hra0⟩ := am_S2_c hra
  obtain rfl : r0 = .ref (ad 0) := q0
  obtain ⟨rr1, rfl, hra1⟩ := am_S2_i hra0
  obtain ⟨rr2, rfl, hra2⟩ := am_S2_i hra1
  obtain rfl := am_S2_n hra2
  obtain ⟨em1, em2⟩ := cs_mk_1 σ 10 1000
  rw [em1, em2]
  refine sx_ofW (cc := cX1_element) (maxL := 5) (ret := some .long) (hh := el_hh) (by decide) (.inr rfl) ?_
  intro p e s m args below meth c hadm hx hb hml hret hlocks hnm hts hown hex hP
  obtain ⟨rfl, rfl, hW, hV, hK, hN, hZ⟩ := hP
  have htr : e.platform.stackTraces = false := Launch.traces_off hfl hadm
  have hA2 : ∀ q, s.heap.size ≤ q → sx_A ι κ SH s.heap.size q := fun q h => .inl (.inr h)
  have hC : sx_C p { frames := 20, cells := 10, slots := 1000, locals := 11000 } s m [.ref (ad 0), .int x, .int n].toArray c D cl ad d 5 cX1_element (sx_A ι κ SH s.heap.size) := ⟨hx, hb, hml, hown, hts, hcl, hK, hA2, by decide, by decide⟩
  have hG := sx_G.start hW hV
  obtain ⟨x1, x2, x3, x4, x5, x6, hxt, g1, g2, g3, g4, g5, g6⟩ := ex_6 hex
  obtain ⟨a1, b1, c1, t1⟩ := ex_q g1
  obtain ⟨a2, b2', c2, t2⟩ := ex_q g2
  obtain ⟨a3, b3, c3, t3⟩ := ex_q g3
  obtain ⟨a4, b4, c4, t4⟩ := ex_q g4
  obtain ⟨a5, b5, c5, t5⟩ := ex_q g5
  obtain ⟨a6, b6, c6, t6⟩ := ex_q g6
  have hout : ∀ pc, pc < 25 ∨ 47 ≤ pc → ∀ y ∈ c.exceptionTable.toList, covers y pc = false := by
    intro pc hpc y hy
    rw [hxt] at hy
    simp only [List.mem_cons, List.not_mem_nil, or_false] at hy
    rcases hy with rfl | rfl | rfl | rfl | rfl | rfl
    · exact ex_cov0 a1 b1 (by omega)
    · exact ex_cov0 a2 b2' (by omega)
    · exact ex_cov0 a3 b3 (by omega)
    · exact ex_cov0 a4 b4 (by omega)
    · exact ex_cov0 a5 b5 (by omega)
    · exact ex_cov0 a6 b6 (by omega)
  have hl := lv_entry ([.ref (ad 0), .int x, .int n]) (n := 5) (Nat.le_of_ble_eq_true rfl)
  rw [lg_entry_eq]
  generalize (lg_sl ([.ref (ad 0), .int x, .int n]) ++ List.replicate (5 - (lg_sl ([.ref (ad 0), .int x, .int n])).length) Slot.unset).toArray = ls at hl ⊢
  have hl : lv_has ls 5 [(0, .ref (ad 0)), (1, .int x), (2, .int n)] := hl
  refine lv_iload_n hx hb dX1_element_0 rfl (lv_at hl 1 rfl) ?_
  -- 1: .invokestatic 361
  refine sx_isShelf (rr := []) hC hG dX1_element_1 hl.1 (by decide) ⟨Nat.zero_le _, Nat.zero_le _⟩ (fun ι1 H1 locs1 hG1 hle1 => ?_)
  cases h1 : inR 0 7 x with
  | false =>
    refine lv_if_ne hx hb dX1_element_4 rfl (fun h => absurd b2f0 h) (fun _ => ?_)
    have et : sh_et SH x n = 1 := by unfold sh_et; rw [if_neg (by rw [h1]; decide)]
    have eo : el_o SH x n = .inr "java/lang/IllegalArgumentException" := by unfold el_o; rw [et, if_neg (by decide), if_pos rfl]
    rw [eo]
    exact sx_throw hC hG1 htr hN hZ hlocks hl.1 (names := [Bundle.rN, Bundle.eN]) (by decide +kernel) (by decide +kernel) exIA_in (by decide) q1139 q1140 q91 ⟨by decide, by decide⟩ ⟨rfl, rfl⟩ dX1_element_7 dX1_element_10 dX1_element_11 dX1_element_14 (hout 14 (by decide))
  | true =>
    refine lv_if_ne hx hb dX1_element_4 rfl (fun _ => ?_) (fun h => absurd h b2t0)
    obtain ⟨i, -, hi7, rfl⟩ := inR_t (by omega) (by omega) h1
    have hi8 : i < 8 := by omega
    have eo2 : ((SH i).1 < 3 ∨ isN (SH i).2.2.length n = false) → el_o SH (nI i) n = .inr "java/lang/IllegalStateException" := by
      intro h
      have et : sh_et SH (nI i) n = 2 := by unfold sh_et; rw [if_pos h1, nI_clamp (by omega), if_pos h]
      unfold el_o
      rw [et, if_neg (by decide), if_neg (by decide)]
    -- at a handler: an IllegalStateException is made and thrown
    have thr : ∀ (hpc : Nat) (H3 : Heap) (locs3 : List Loc) (ls3 : Array Slot) (k3 n3 : Nat), (hpc = 50 ∨ hpc = 60 ∨ hpc = 70) → k3 + 1 ≤ 10 → n3 + 6 ≤ 1000 → ls3.size = 5 → sx_G D cl ad d ι (sx_A ι κ SH s.heap.size) s.heap σ SH ι1 κ H3 locs3 → W p l e { frames := 20, cells := 10, slots := 1000, locals := 11000 } s m [.ref (ad 0), .int (nI i), .int n].toArray below meth c H3 locs3 k3 n3 (xm_MQ below (fun _ st o' t => ∃ ι' κ', sx_ro ad ι' (.inr "java/lang/IllegalStateException") o' t ∧ cx_le ι ι' ∧ cx_W D cl ad d ι' (cs_mk σ 10 1000) t.heap ∧ sx_W D cl ad d ι' κ' SH t.heap ∧ (∀ c ∈ ι'.1, sx_A ι κ SH s.heap.size (ι'.2.1 c)) ∧ (∀ j, sx_has SH j → sx_A ι κ SH s.heap.size (κ'.1 j)) ∧ va_F (sx_A ι κ SH s.heap.size) st t) [.ref (ad 0), .int (nI i), .int n].toArray s 10 1000 (sx_A ι κ SH s.heap.size)) (F0 m hpc ls3 []) := by
      intro hpc H3 locs3 ls3 k3 n3 hp hk3 hn3 hls hG3
      rcases hp with rfl | rfl | rfl
      · exact sx_throw hC hG3 htr hN hZ hlocks hls (names := [Bundle.rN, Bundle.eN]) (by decide +kernel) (by decide +kernel) exIS_in (by decide) q1162 q1163 q92 ⟨hk3, hn3⟩ ⟨rfl, rfl⟩ dX1_element_50 dX1_element_53 dX1_element_54 dX1_element_57 (hout 57 (by decide))
      · exact sx_throw hC hG3 htr hN hZ hlocks hls (names := [Bundle.rN, Bundle.eN]) (by decide +kernel) (by decide +kernel) exIS_in (by decide) q1162 q1163 q92 ⟨hk3, hn3⟩ ⟨rfl, rfl⟩ dX1_element_60 dX1_element_63 dX1_element_64 dX1_element_67 (hout 67 (by decide))
      · exact sx_throw hC hG3 htr hN hZ hlocks hls (names := [Bundle.rN, Bundle.eN]) (by decide +kernel) (by decide +kernel) exIS_in (by decide) q1162 q1163 q92 ⟨hk3, hn3⟩ ⟨rfl, rfl⟩ dX1_element_70 dX1_element_73 dX1_element_74 dX1_element_77 (hout 77 (by decide))
    refine lv_aload_n hx hb dX1_element_15 rfl (lv_at hl 0 rfl) ?_
    -- 16: .getfield 352
    refine sx_shelves hC hG1 dX1_element_16 ?_
    refine lv_iload_n hx hb dX1_element_19 rfl (lv_at hl 1 rfl) ?_
    -- 20: .aaload
    refine sx_shelf hC hG1 dX1_element_20 hi8 ?_
    refine sx_held hC hG1 dX1_element_21 hi8 ?_
    obtain ⟨-, hheld⟩ := hG1.2.1.2.2.2.2.2 i hi8
    rcases hheld with ⟨tg0, hv⟩ | ⟨tg1, hnd, hT⟩ | ⟨tg3, hv, hrow⟩
    · -- nothing
      rw [hv, eo2 (.inl (by omega))]
      refine lv_astore_nN hx hb dX1_element_24 rfl hl (by decide) rfl (fun ls hl => ?_)
      refine lv_aload_nN hx hb dX1_element_25 rfl (lv_at hl 0 rfl) ?_
      -- 26: .instanceof 374
      refine lv_instN hx hb dX1_element_26 ?_
      refine lv_if_eq hx hb dX1_element_29 rfl (fun _ => ?_) (fun h => absurd rfl h)
      refine lv_aload_nN hx hb dX1_element_40 rfl (lv_at hl 0 rfl) ?_
      -- 41: .checkcast 375
      refine lv_castN hx hb dX1_element_41 ?_
      refine lv_iload_n hx hb dX1_element_44 rfl (lv_at hl 3 rfl) ?_
      -- 45: .caload
      refine sx_cnull hx hb dX1_element_45 ?_
      refine sx_npe hx htr hts hN hZ hG1.2.2.2.2.2 (by rw [hml]; exact hl.1) ⟨by decide, by decide⟩ ⟨by decide, by decide⟩ ?_
      refine sx_catch hown (name := "java/lang/NullPointerException") [x1] x2 [x3, x4, x5, x6] hxt (ex_cov a2 b2' (by decide) (by decide)) (by rw [t2]; decide) (by rw [t2]; exact hts _ q1030) (va_Nw.use (A := _) rfl (hN.1 _ q1046 rfl)) (fun y hy => ?_) (fun H3 L a hz hk ha hL => ?_)
      · rw [List.mem_singleton.mp hy]
        exact .inl (ex_cov0 a1 b1 (by decide))
      · rw [c2]
        refine lv_astore hx hb dX1_element_48 hl (by decide) rfl (fun ls' hl' => ?_)
        exact thr 50 H3 _ ls' _ _ (.inl rfl) (by decide) (by decide) hl'.1 (hG1.growL hA2 (by omega) hk hL)
    · -- a node
      rw [eo2 (.inl (by omega))]
      obtain ⟨cb, -, -, hv⟩ := cx_nid hnd hT
      rw [hv] at hT ⊢
      obtain ⟨a', q0, rx, ry, he, hk9, hat, -, -⟩ := cx_nat (d := d) hG1.1 hnd hT
      cases he
      obtain ⟨-, hq⟩ := cx_q_in _ hk9
      have hrecv := va_recv hK.1 (cw_P hG1.1.1) (hcl _ _ hq) hat
      have hncs : ∀ k, k ≤ 9 → va_Nc (cx_q k).1 "[B" s ∧ va_Nc (cx_q k).1 "[C" s ∧ (packageOf (cx_q k).1 ∈ castPackages_1 ∧ (dotted (cx_q k).1).toList.length ≤ 19) := le9 ⟨hN.2.1 ("FormulaVoice$Letter", "[B") (by decide +kernel), hN.2.1 ("FormulaVoice$Letter", "[C") (by decide +kernel), by decide +kernel⟩ ⟨hN.2.1 ("FormulaVoice$Digits", "[B") (by decide +kernel), hN.2.1 ("FormulaVoice$Digits", "[C") (by decide +kernel), by decide +kernel⟩ ⟨hN.2.1 ("FormulaVoice$Two", "[B") (by decide +kernel), hN.2.1 ("FormulaVoice$Two", "[C") (by decide +kernel), by decide +kernel⟩ ⟨hN.2.1 ("FormulaVoice$Two", "[B") (by decide +kernel), hN.2.1 ("FormulaVoice$Two", "[C") (by decide +kernel), by decide +kernel⟩ ⟨hN.2.1 ("FormulaVoice$Two", "[B") (by decide +kernel), hN.2.1 ("FormulaVoice$Two", "[C") (by decide +kernel), by decide +kernel⟩ ⟨hN.2.1 ("FormulaVoice$Script", "[B") (by decide +kernel), hN.2.1 ("FormulaVoice$Script", "[C") (by decide +kernel), by decide +kernel⟩ ⟨hN.2.1 ("FormulaVoice$Script", "[B") (by decide +kernel), hN.2.1 ("FormulaVoice$Script", "[C") (by decide +kernel), by decide +kernel⟩ ⟨hN.2.1 ("FormulaVoice$Root", "[B") (by decide +kernel), hN.2.1 ("FormulaVoice$Root", "[C") (by decide +kernel), by decide +kernel⟩ ⟨hN.2.1 ("FormulaVoice$Fenced", "[B") (by decide +kernel), hN.2.1 ("FormulaVoice$Fenced", "[C") (by decide +kernel), by decide +kernel⟩ ⟨hN.2.1 ("FormulaVoice$Call", "[B") (by decide +kernel), hN.2.1 ("FormulaVoice$Call", "[C") (by decide +kernel), by decide +kernel⟩
      obtain ⟨n1, n2, n3⟩ := hncs _ hk9
      refine lv_astore_n hx hb dX1_element_24 rfl hl (by decide) rfl (fun ls hl => ?_)
      refine lv_aload_n hx hb dX1_element_25 rfl (lv_at hl 0 rfl) ?_
      -- 26: .instanceof 374
      refine va_instNo hx hb hown (hts _ q1024) n1 hrecv dX1_element_26 ?_
      refine lv_if_eq hx hb dX1_element_29 rfl (fun _ => ?_) (fun h => absurd rfl h)
      refine lv_aload_n hx hb dX1_element_40 rfl (lv_at hl 0 rfl) ?_
      -- 41: .checkcast 375
      refine sx_castX hx hb hN hown (hts _ q1025) n2 hrecv n3 (by decide +kernel) dX1_element_41 (fun text ht1 ht2 => ?_)
      refine sx_msg hx htr hts hN hZ hG1.2.2.2.2.2 (by rw [hml]; exact hl.1) (names := [Bundle.rN, Bundle.eN]) (n := 810) (by decide +kernel) (by decide +kernel) (by decide +kernel) (by decide +kernel) exCC_in (by decide) ht1 ht2 (by decide) ⟨by decide, Nat.le_of_ble_eq_true rfl⟩ ⟨by decide, by decide⟩ ?_
      refine sx_catch hown (name := "java/lang/ClassCastException") [x1, x2, x3] x4 [x5, x6] hxt (ex_cov a4 b4 (by decide) (by decide)) (by rw [t4]; decide) (by rw [t4]; exact hts _ q1049) (va_Nw.use (A := _) rfl (hN.1 _ (exCC_in _ (by simp [exM])).1 rfl)) (fun y hy => ?_) (fun H3 L a hz hk ha hL => ?_)
      · simp only [List.mem_cons, List.not_mem_nil, or_false] at hy
        rcases hy with rfl | rfl | rfl
        · exact .inl (ex_cov0 a1 b1 (by decide))
        · exact .inr ⟨"java/lang/NullPointerException", by rw [t2]; decide, by rw [t2]; exact hts _ q1030, hN.2.1 ("java/lang/ClassCastException", "java/lang/NullPointerException") (by decide +kernel)⟩
        · exact .inl (ex_cov0 a3 b3 (by decide))
      · rw [c4]
        refine lv_astore hx hb dX1_element_58 hl (by decide) rfl (fun ls' hl' => ?_)
        exact thr 60 H3 _ ls' _ _ (.inr (.inl rfl)) (by decide) (by decide) hl'.1 (hG1.growL hA2 (by omega) hk hL)
    · -- a row
      have hlen : (SH i).2.2.length ≤ 60 ∧ ∀ w ∈ (SH i).2.2, w ≤ 30 := by
        rcases hok i hi8 with h | ⟨h, -⟩ | ⟨-, h⟩
        · omega
        · omega
        · exact h
      have hno : va_Nc "java/lang/ArrayIndexOutOfBoundsException" "java/lang/NullPointerException" s := hN.2.1 ("java/lang/ArrayIndexOutOfBoundsException", "java/lang/NullPointerException") (by decide +kernel)
      have hno2 : va_Nc "java/lang/ArrayIndexOutOfBoundsException" "java/lang/ClassCastException" s := hN.2.1 ("java/lang/ArrayIndexOutOfBoundsException", "java/lang/ClassCastException") (by decide +kernel)
      have hrecv := sx_rrow hK tg3 hrow
      rw [hv]
      refine lv_astore_n hx hb dX1_element_24 rfl hl (by decide) rfl (fun ls hl => ?_)
      refine lv_aload_n hx hb dX1_element_25 rfl (lv_at hl 0 rfl) ?_
      -- 26: .instanceof 374
      have hin : ∀ j, n = nI j → j < (SH i).2.2.length → el_o SH (nI i) n = .inl (.inl (some (.inl (.long (nI ((SH i).2.2.getD j 0)).toInt64)))) := by
        rintro j rfl hj
        have et : sh_et SH (nI i) (nI j) = 0 := by
          unfold sh_et
          rw [if_pos h1, nI_clamp (by omega), if_neg (by
            rintro (h | h)
            · omega
            · rw [isN_nI (by omega) hj] at h; cases h)]
        have hw : (SH i).2.2.getD j 0 ≤ 30 := by
          rw [List.getD_eq_getElem?_getD, List.getElem?_eq_getElem hj]
          exact hlen.2 _ (List.getElem_mem hj)
        unfold el_o sh_ev
        rw [et, if_pos rfl, if_pos rfl, nI_clamp (by omega), nI_clamp (by omega), nI_l (by omega)]
      rcases tg3 with e3 | e4
      · -- bytes
        rw [if_pos e3] at hrecv
        have hat : va_at D cl (κ.1 (9 + i), .inl (d 3, (SH i).2.2.length, .inl fun j => nI ((SH i).2.2.getD j 0))) H1 := by rw [← e3]; exact hrow
        refine va_instE hx hb hown (hts _ q1024) hrecv dX1_element_26 ?_
        refine lv_if_eq hx hb dX1_element_29 rfl (fun h => absurd h (by decide)) (fun _ => ?_)
        refine lv_aload_n hx hb dX1_element_32 rfl (lv_at hl 0 rfl) ?_
        -- 33: .checkcast 374
        refine va_castE hx hb hown (hts _ q1024) hrecv dX1_element_33 ?_
        refine lv_iload_n hx hb dX1_element_36 rfl (lv_at hl 3 rfl) ?_
        -- 37: .baload
        by_cases hj : isN (SH i).2.2.length n = true
        · obtain ⟨j, hj2, rfl⟩ := isN_t (by omega) hj
          rw [hin j rfl hj2]
          refine va_bald hx hb hK.1 (va_P1 hat) 0 3 rfl rfl (i := nI j) (nI_in hj2 (by omega)) dX1_element_37 ?_
          rw [nI_clamp (by omega)]
          refine lv_i2l hx hb dX1_element_38 rfl ?_
          -- 39: .lreturn
          refine W.up (cells' := 10) (slots' := 1000) ?_ (Nat.zero_le _) (Nat.zero_le _)
          exact xm_W (W.lret hx hb hret (fun t ht hWm => hG1.retL ht _) hG1.2.2.2.2.2.2.2 dX1_element_39 hlocks) (fun t => xm_MQ.of)
        · have hj' : isN (SH i).2.2.length n = false := by simpa using hj
          rw [eo2 (.inr hj')]
          refine sx_bout hx hb hK.1 (t0 := 3) rfl hat (fun h => hj ?_) dX1_element_37 ?_
          · obtain ⟨j, hj2, e⟩ := vp_in_e h
            rw [e]
            exact isN_nI (by omega) hj2
          refine sx_msg hx htr hts hN hZ hG1.2.2.2.2.2 (by rw [hml]; exact hl.1) (names := ["java/lang/IndexOutOfBoundsException", Bundle.rN, Bundle.eN]) (n := 212) (by decide +kernel) (by decide +kernel) (by decide +kernel) (by decide +kernel) exAI_in (by decide) (index_text_modelled n _) (index_text_bytes n (by omega)) (by decide) ⟨by decide, by decide⟩ ⟨by decide, by decide⟩ ?_
          refine sx_catch hown (name := "java/lang/ArrayIndexOutOfBoundsException") [x1, x2, x3, x4] x5 [x6] hxt (ex_cov a5 b5 (by decide) (by decide)) (by rw [t5]; decide) (by rw [t5]; exact hts _ q1184) (va_Nw.use (A := _) rfl (hN.1 _ (exAI_in _ (by simp [exM])).1 rfl)) (fun y hy => ?_) (fun H3 L a hz hk ha hL => ?_)
          · simp only [List.mem_cons, List.not_mem_nil, or_false] at hy
            rcases hy with rfl | rfl | rfl | rfl
            · exact .inr ⟨"java/lang/NullPointerException", by rw [t1]; decide, by rw [t1]; exact hts _ q1030, hno⟩
            · exact .inl (ex_cov0 a2 b2' (by decide))
            · exact .inr ⟨"java/lang/ClassCastException", by rw [t3]; decide, by rw [t3]; exact hts _ q1049, hno2⟩
            · exact .inl (ex_cov0 a4 b4 (by decide))
          · rw [c5]
            refine lv_astore hx hb dX1_element_68 hl (by decide) rfl (fun ls' hl' => ?_)
            exact thr 70 H3 _ ls' _ _ (.inr (.inr rfl)) (by decide) (by decide) hl'.1 (hG1.growL hA2 (by omega) hk hL)
      · -- chars
        rw [if_neg (by omega)] at hrecv
        have hat : va_at D cl (κ.1 (9 + i), .inl (d 4, (SH i).2.2.length, .inl fun j => nI ((SH i).2.2.getD j 0))) H1 := by rw [← e4]; exact hrow
        refine va_instNo hx hb hown (hts _ q1024) (hN.2.1 ("[C", "[B") (by decide +kernel)) hrecv dX1_element_26 ?_
        refine lv_if_eq hx hb dX1_element_29 rfl (fun _ => ?_) (fun h => absurd rfl h)
        refine lv_aload_n hx hb dX1_element_40 rfl (lv_at hl 0 rfl) ?_
        -- 41: .checkcast 375
        refine va_castE hx hb hown (hts _ q1025) hrecv dX1_element_41 ?_
        refine lv_iload_n hx hb dX1_element_44 rfl (lv_at hl 3 rfl) ?_
        -- 45: .caload
        by_cases hj : isN (SH i).2.2.length n = true
        · obtain ⟨j, hj2, rfl⟩ := isN_t (by omega) hj
          rw [hin j rfl hj2]
          refine va_cald hx hb hK.1 (va_P1 hat) 0 4 rfl rfl (i := nI j) (nI_in hj2 (by omega)) dX1_element_45 ?_
          rw [nI_clamp (by omega)]
          refine lv_i2l hx hb dX1_element_46 rfl ?_
          -- 47: .lreturn
          refine W.up (cells' := 10) (slots' := 1000) ?_ (Nat.zero_le _) (Nat.zero_le _)
          exact xm_W (W.lret hx hb hret (fun t ht hWm => hG1.retL ht _) hG1.2.2.2.2.2.2.2 dX1_element_47 hlocks) (fun t => xm_MQ.of)
        · have hj' : isN (SH i).2.2.length n = false := by simpa using hj
          rw [eo2 (.inr hj')]
          refine sx_cout hx hb hK.1 (t0 := 4) rfl hat (fun h => hj ?_) dX1_element_45 ?_
          · obtain ⟨j, hj2, e⟩ := vp_in_e h
            rw [e]
            exact isN_nI (by omega) hj2
          refine sx_msg hx htr hts hN hZ hG1.2.2.2.2.2 (by rw [hml]; exact hl.1) (names := ["java/lang/IndexOutOfBoundsException", Bundle.rN, Bundle.eN]) (n := 212) (by decide +kernel) (by decide +kernel) (by decide +kernel) (by decide +kernel) exAI_in (by decide) (index_text_modelled n _) (index_text_bytes n (by omega)) (by decide) ⟨by decide, by decide⟩ ⟨by decide, by decide⟩ ?_
          refine sx_catch hown (name := "java/lang/ArrayIndexOutOfBoundsException") [x1, x2, x3, x4, x5] x6 [] hxt (ex_cov a6 b6 (by decide) (by decide)) (by rw [t6]; decide) (by rw [t6]; exact hts _ q1184) (va_Nw.use (A := _) rfl (hN.1 _ (exAI_in _ (by simp [exM])).1 rfl)) (fun y hy => ?_) (fun H3 L a hz hk ha hL => ?_)
          · simp only [List.mem_cons, List.not_mem_nil, or_false] at hy
            rcases hy with rfl | rfl | rfl | rfl | rfl
            · exact .inl (ex_cov0 a1 b1 (by decide))
            · exact .inr ⟨"java/lang/NullPointerException", by rw [t2]; decide, by rw [t2]; exact hts _ q1030, hno⟩
            · exact .inl (ex_cov0 a3 b3 (by decide))
            · exact .inr ⟨"java/lang/ClassCastException", by rw [t4]; decide, by rw [t4]; exact hts _ q1049, hno2⟩
            · exact .inl (ex_cov0 a5 b5 (by decide))
          · rw [c6]
            refine lv_astore hx hb dX1_element_68 hl (by decide) rfl (fun ls' hl' => ?_)
            exact thr 70 H3 _ ls' _ _ (.inr (.inr rfl)) (by decide) (by decide) hl'.1 (hG1.growL hA2 (by omega) hk hL)
