/-! THE COMPONENT's HOPS ARE SOUND: the path, new lists, casts, throws, numbers, copies. -/
theorem cx_E_rf {ad : Nat → Nat} {d : Nat → ClassId} {ι : cx_I} {σ : cs_S} {c c1 : Nat} {g : Nat → Option Nat} (h1 : c = 115 → c1 ≠ 115) (h2 : 1000 ≤ c → c ≤ 1999 → c - 1000 ≠ c1) : cx_E ad d (ι.1, ι.2.1, ι.2.2.1, va_up ι.2.2.2 c1 g) σ c = cx_E ad d ι σ c := by
  have e1 : Nat.beq c 115 = true → va_up ι.2.2.2 c1 g 115 = ι.2.2.2 115 := fun q => va_up_ne _ _ (Ne.symm (h1 (Nat.eq_of_beq_eq_true q)))
  have e2 : (Nat.ble 1000 c && Nat.ble c 1999) = true → va_up ι.2.2.2 c1 g (c - 1000) = ι.2.2.2 (c - 1000) := by
    intro q
    obtain ⟨a, b⟩ := (Bool.and_eq_true _ _).mp q
    exact va_up_ne _ _ (h2 (Nat.le_of_ble_eq_true a) (Nat.le_of_ble_eq_true b))
  unfold cx_E
  dsimp only
  cases f0 : Nat.beq c 115 with
  | true => rw [e1 f0]; have := Nat.eq_of_beq_eq_true f0; subst this; rfl
  | false =>
    cases f1 : (Nat.ble 1000 c && Nat.ble c 1999) with
    | true => rw [e2 f1]; rfl
    | false =>
      simp only [cond_false]
      rfl
theorem cx_lok.mono {ad : Nat → Nat} {ι ι' : cx_I} {σ σ' : cs_S} {c : Nat} (h : cx_lok ad ι σ c) (hle : cx_le ι ι') (hr : ι'.2.2.2 c = ι.2.2.2 c) (ht : cs_t σ' c = cs_t σ c) (hc : cs_c σ' c = cs_c σ c) : cx_lok ad ι' σ' c := by
  obtain ⟨h1, h2, h3, h4, h5⟩ := h
  unfold cx_lok
  rw [ht, hc, hr]
  exact ⟨h1, h2.imp id (fun q => ⟨q.1, hle.1 _ q.2⟩), h3, fun j hj => ⟨(h4 j hj).1, hle.cr _ _ (h4 j hj).2⟩, h5⟩
theorem cx_isl_ne {σ : cs_S} {c : Nat} (h : cx_isl σ c) : c ≠ 115 := by
  rcases h with rfl | rfl | ⟨n, rfl, -⟩ <;> omega
theorem cx_cast {U : State} (h : cx_N U) : ∀ k, k ≤ 9 → va_Nw (.castable (cx_q k).1 "FormulaVoice$Node") U ∧ va_Nw (.castable (cx_q k).1 "java/lang/Object") U
  | 0, _ => h.2.2.2.1 "FormulaVoice$Letter" (by decide)
  | 1, _ => h.2.2.2.1 "FormulaVoice$Digits" (by decide)
  | 2, _ => h.2.2.2.1 "FormulaVoice$Two" (by decide)
  | 3, _ => h.2.2.2.1 "FormulaVoice$Two" (by decide)
  | 4, _ => h.2.2.2.1 "FormulaVoice$Two" (by decide)
  | 5, _ => h.2.2.2.1 "FormulaVoice$Script" (by decide)
  | 6, _ => h.2.2.2.1 "FormulaVoice$Script" (by decide)
  | 7, _ => h.2.2.2.1 "FormulaVoice$Root" (by decide)
  | 8, _ => h.2.2.2.1 "FormulaVoice$Fenced" (by decide)
  | 9, _ => h.2.2.2.1 "FormulaVoice$Call" (by decide)
  | n + 10, h => by omega
section
variable {p : Program} {l : Launch} {e : Env} {R : Room} {s : State} {m : MethodId} {args : Array Value} {below : List Frame} {meth : Method} {c : Code} {Q : State → Prop} {res : am_O × cs_S} {D : va_G} {cl : List vw_C} {ad : Nat → Nat} {d : Nat → ClassId} {ι0 : cx_I} {σ0 : cs_S} {nL pc : Nat} {cc : ByteArray} {own ref : String} {idx f : Nat}
theorem cx_s_aas (hC : cx_ctx p R s m args c res D cl ad d ι0 σ0 nL cc own f) (hdg : decode cc pc = .ok (.aastore, 1)) : cx_step p l e R s m args below meth c Q res D cl ad d ι0 σ0 nL pc 1 cs_aas := by
  obtain ⟨hx, hb, hts, hown, hK, hcl, hml, hR⟩ := hC
  intro st σ ι H locs cells slots rls rst kx k hG hsz hst he hm1 hm2 hkx hk
  unfold cs_aas at he
  split at he
  · rename_i t i c0 r
    obtain ⟨r2, rr2, rfl, h2, hs7⟩ := am_S2_c hst
    obtain ⟨rr1, rfl, hs8⟩ := am_S2_i hs7
    obtain ⟨r0, rr, rfl, h0, hs9⟩ := am_S2_c hs8
    obtain rfl : r0 = .ref (ad c0) := h0
    obtain ⟨hc, he2⟩ := bif_e he
    obtain ⟨h1, ht⟩ := (Bool.and_eq_true _ _).mp hc
    obtain rfl := Nat.eq_of_beq_eq_true h1
    obtain ⟨hin, he3⟩ := am_ix_e he2
    obtain ⟨q0, hq, hat⟩ := cx_at (d := d) hG.1 (c := 115) (by decide)
    obtain ⟨a, qk, rx, ry, rfl, hk9, hatn, -, -⟩ := cx_nat hG.1 ht h2
    obtain ⟨-, hq9⟩ := cx_q_in _ hk9
    refine va_astqO hx hb hK.1 (cw_P hG.1.1) (cw_D hG.1.2.2.1 hG.1.2.1 hG.2.2.1) hG.2.2.2.1 q0 5 qk (cx_ci (tr_k t)) (E := "FormulaVoice$Node") (r := cx_q (tr_k t)) hat rfl (cx_cast hK.2.1 _ hk9).1 hatn (hcl _ _ hq9) hin hdg fun H1 locs1 hP1 _ hS1 => ?_
    obtain ⟨hW, g2, g3, -, g5, g6⟩ := hG
    obtain ⟨i1, i2, i3, i4, i5, i6, i7⟩ := hW.2.2.2
    have hle : cx_le ι (ι.1, ι.2.1, ι.2.2.1, va_up ι.2.2.2 115 (va_up (ι.2.2.2 115) i.toNatClampNeg (some a))) := ⟨fun _ h => h, fun _ _ _ => rfl, fun _ _ => rfl⟩
    rw [← (i1 115 (by decide)).2] at hP1
    refine hk _ _ (ι.1, ι.2.1, ι.2.2.1, va_up ι.2.2.2 115 (va_up (ι.2.2.2 115) i.toNatClampNeg (some a))) _ _ _ _ _ he3 ⟨⟨cw_set hq hP1 (fun c1 hc1 hne => ?_) ?_, hW.2.1, hW.2.2.1, i1, i2, fun c1 hc1 => ?_, i4, fun j hj => ?_, i6, i7⟩, g2.tr hle, g3, hS1, g5, g6⟩ hle.cr (hs9.mono hle.cr.vr)
    · refine (cx_E_rf (σ := cs_pp σ i.toNatClampNeg t) (fun z => absurd z hne) fun a1 a2 a3 => ?_).trans rfl
      exact cx_isl_ne (i4 c1 hc1 a1 (by omega)).1 a3
    · show Sum.inl (d 5, 41, Sum.inr (Sum.inr (Sum.inr (Sum.inr (va_up ι.2.2.2 115 (va_up (ι.2.2.2 115) i.toNatClampNeg (some a)) 115))))) = _
      rw [va_up_self]
    · exact (i3 c1 hc1).mono hle (va_up_ne _ _ (cx_isl_ne hc1)) rfl rfl
    · show cx_TR ad _ (va_up (cs_p σ) i.toNatClampNeg t j) (va_rf (va_up ι.2.2.2 115 (va_up (ι.2.2.2 115) i.toNatClampNeg (some a)) 115 j))
      rw [va_up_self]
      by_cases hj2 : j = i.toNatClampNeg
      · rw [hj2, va_up_self, va_up_self]
        exact hle.cr _ _ h2
      · rw [va_up_ne _ _ hj2, va_up_ne _ _ hj2]
        exact hle.cr _ _ (i5 j hj)
  · cases he
theorem cx_s_cast (hC : cx_ctx p R s m args c res D cl ad d ι0 σ0 nL cc own f) (hl : Cond.classLink own idx "FormulaVoice$Node" ∈ lw_all) (hdg : decode cc pc = .ok (.checkcast idx, 3)) : cx_step p l e R s m args below meth c Q res D cl ad d ι0 σ0 nL pc 3 cs_cast := by
  obtain ⟨hx, hb, hts, hown, hK, hcl, hml, hR⟩ := hC
  intro st σ ι H locs cells slots rls rst kx k hG hsz hst he hm1 hm2 hkx hk
  unfold cs_cast at he
  split at he
  · rename_i t r
    obtain ⟨ht, he⟩ := bif_e he
    obtain ⟨r2, rr, rfl, h2, hs9⟩ := am_S2_c hst
    obtain ⟨a, qk, rx, ry, rfl, hk9, hatn, -, -⟩ := cx_nat hG.1 ht h2
    obtain ⟨-, hq9⟩ := cx_q_in _ hk9
    exact va_castY hx hb hown (hts _ hl) (cx_cast hK.2.1 _ hk9).1 (va_recv hK.1 (cw_P hG.1.1) (hcl _ _ hq9) hatn) hdg (hk _ _ ι _ _ _ _ _ he hG (cx_le.rf ι).cr ⟨h2, hs9⟩)
  · cases he
theorem cx_s_long (hC : cx_ctx p R s m args c res D cl ad d ι0 σ0 nL cc own f) {v : Int64} (hl : Cond.constantLong own idx v ∈ lw_all) (hdg : decode cc pc = .ok (.ldc2_w idx, 3)) : cx_step p l e R s m args below meth c Q res D cl ad d ι0 σ0 nL pc 3 (cs_long v) := by
  obtain ⟨hx, hb, hts, hown, hK, hcl, hml, hR⟩ := hC
  intro st σ ι H locs cells slots rls rst kx k hG hsz hst he hm1 hm2 hkx hk
  exact lv_ldc2 hx hb hown (hts _ hl) hdg (hk _ _ ι _ _ _ _ _ he hG (cx_le.rf ι).cr ⟨rfl, hst⟩)
theorem cx_s_thr (hC : cx_ctx p R s m args c res D cl ad d ι0 σ0 nL cc own f) (hdg : decode cc pc = .ok (.athrow, 1)) : cx_step p l e R s m args below meth c Q res D cl ad d ι0 σ0 nL pc 1 cs_thr := by
  obtain ⟨hx, hb, hts, hown, hK, hcl, hml, hR⟩ := hC
  intro st σ ι H locs cells slots rls rst kx k hG hsz hst he hm1 hm2 hkx hk
  unfold cs_thr at he
  split at he
  · rename_i x r
    obtain ⟨r2, rr, rfl, h2, hs9⟩ := am_S2_c hst
    obtain rfl : r2 = .ref (ad x) := h2
    obtain ⟨hX, he⟩ := bif_e he
    have hX : cx_X x := by
      rcases (Bool.or_eq_true _ _).mp hX with h | h
      · exact .inl (Nat.eq_of_beq_eq_true h)
      · exact .inr (Nat.eq_of_beq_eq_true h)
    have hw := hkx x σ ι H locs cells slots hX he hG (cx_le.rf ι).cr
    intro T hT X
    obtain ⟨t, a1, b1⟩ := hw rr T hT X
    refine ⟨t, ?_, b1⟩
    jvm_step X.here [X.here.top, hx, hb, hdg, Op.athrow.wp_sem]
    exact a1
  · cases he
theorem cx_wt {ι : cx_I} {r : List am_V} {rr : List Value} (hs : am_S2 (am_vr (cx_TR ad ι) ad) r rr) (h : Nat.ble (am_wt r) 8 = true) : (rr.map fun v => v.category).sum ≤ 8 := by
  rw [am_weigh (cx_TRok ad ι) hs]
  exact Nat.le_of_ble_eq_true h
theorem cx_s_minl (hC : cx_ctx p R s m args c res D cl ad d ι0 σ0 nL cc own f) (hl : Cond.methodLink own idx Lib.MathLoose.min_long.x ∈ lw_all) (hw : Cond.static Lib.MathLoose.min_long.x ∈ lw_all ∧ Cond.initialized "java/lang/Math" ∈ lw_all ∧ Cond.code Lib.MathLoose.min_long.x Lib.MathLoose.min_long.code 4 (some .long) ∈ lw_all) (hdg : decode cc pc = .ok (.invokestatic idx, 3)) : cx_step p l e R s m args below meth c Q res D cl ad d ι0 σ0 nL pc 3 cs_minl := by
  obtain ⟨hx, hb, hts, hown, hK, hcl, hml, hR⟩ := hC
  intro st σ ι H locs cells slots rls rst kx k hG hsz hst he hm1 hm2 hkx hk
  unfold cs_minl at he
  split at he
  · obtain ⟨hw8, he⟩ := bif_e he
    obtain ⟨rr1, rfl, hs8⟩ := am_S2_l hst
    obtain ⟨rr, rfl, hs9⟩ := am_S2_l hs8
    have h8 := cx_wt hs9 hw8
    have hm := hm2 _ _ he
    have g5 := hG.2.2.2.2.1
    have g6 := hG.2.2.2.2.2
    exact va_mmin_long hx hb (hml.trans hsz.symm) hown (hts _ hl) (hts _ hw.1) (hts _ hw.2.1) (hts _ hw.2.2) (by omega) (by omega) (by omega) (by omega) hdg (hk _ _ ι _ _ _ _ _ he hG (cx_le.rf ι).cr ⟨rfl, hs9⟩)
  · cases he
theorem cx_s_maxl (hC : cx_ctx p R s m args c res D cl ad d ι0 σ0 nL cc own f) (hl : Cond.methodLink own idx Lib.MathLoose.max_long.x ∈ lw_all) (hw : Cond.static Lib.MathLoose.max_long.x ∈ lw_all ∧ Cond.initialized "java/lang/Math" ∈ lw_all ∧ Cond.code Lib.MathLoose.max_long.x Lib.MathLoose.max_long.code 4 (some .long) ∈ lw_all) (hdg : decode cc pc = .ok (.invokestatic idx, 3)) : cx_step p l e R s m args below meth c Q res D cl ad d ι0 σ0 nL pc 3 cs_maxl := by
  obtain ⟨hx, hb, hts, hown, hK, hcl, hml, hR⟩ := hC
  intro st σ ι H locs cells slots rls rst kx k hG hsz hst he hm1 hm2 hkx hk
  unfold cs_maxl at he
  split at he
  · obtain ⟨hw8, he⟩ := bif_e he
    obtain ⟨rr1, rfl, hs8⟩ := am_S2_l hst
    obtain ⟨rr, rfl, hs9⟩ := am_S2_l hs8
    have h8 := cx_wt hs9 hw8
    have hm := hm2 _ _ he
    have g5 := hG.2.2.2.2.1
    have g6 := hG.2.2.2.2.2
    exact va_mmax_long hx hb (hml.trans hsz.symm) hown (hts _ hl) (hts _ hw.1) (hts _ hw.2.1) (hts _ hw.2.2) (by omega) (by omega) (by omega) (by omega) hdg (hk _ _ ι _ _ _ _ _ he hG (cx_le.rf ι).cr ⟨rfl, hs9⟩)
  · cases he
theorem cx_s_mini (hC : cx_ctx p R s m args c res D cl ad d ι0 σ0 nL cc own f) (hl : Cond.methodLink own idx Lib.Math.min.name ∈ lw_all) (hw : Cond.static Lib.Math.min.name ∈ lw_all ∧ Cond.initialized "java/lang/Math" ∈ lw_all ∧ Cond.code Lib.Math.min.name Lib.Math.min.code 2 (some .int) ∈ lw_all) (hdg : decode cc pc = .ok (.invokestatic idx, 3)) : cx_step p l e R s m args below meth c Q res D cl ad d ι0 σ0 nL pc 3 cs_mini := by
  obtain ⟨hx, hb, hts, hown, hK, hcl, hml, hR⟩ := hC
  intro st σ ι H locs cells slots rls rst kx k hG hsz hst he hm1 hm2 hkx hk
  unfold cs_mini at he
  split at he
  · obtain ⟨hw8, he⟩ := bif_e he
    obtain ⟨rr1, rfl, hs8⟩ := am_S2_i hst
    obtain ⟨rr, rfl, hs9⟩ := am_S2_i hs8
    have h8 := cx_wt hs9 hw8
    have hm := hm2 _ _ he
    have g5 := hG.2.2.2.2.1
    have g6 := hG.2.2.2.2.2
    exact va_mmin hx hb (hml.trans hsz.symm) hown (hts _ hl) (hts _ hw.1) (hts _ hw.2.1) (hts _ hw.2.2) (by omega) (by omega) (by omega) (by omega) hdg (hk _ _ ι _ _ _ _ _ he hG (cx_le.rf ι).cr ⟨rfl, hs9⟩)
  · cases he
theorem cx_s_copy (hC : cx_ctx p R s m args c res D cl ad d ι0 σ0 nL cc own f) (hl : Cond.methodLink own idx arraycopyName ∈ lw_all) (hw : Cond.native arraycopyName ∈ lw_all ∧ Cond.static arraycopyName ∈ lw_all ∧ Cond.initialized "java/lang/System" ∈ lw_all) (hdg : decode cc pc = .ok (.invokestatic idx, 3)) : cx_step p l e R s m args below meth c Q res D cl ad d ι0 σ0 nL pc 3 cs_copy := by
  obtain ⟨hx, hb, hts, hown, hK, hcl, hml, hR⟩ := hC
  intro st σ ι H locs cells slots rls rst kx k hG hsz hst he hm1 hm2 hkx hk
  unfold cs_copy at he
  split at he
  · rename_i n dp c1 sp c0 r
    obtain ⟨hw8, he⟩ := bif_e he
    obtain ⟨rr5, rfl, hs5⟩ := am_S2_i hst
    obtain ⟨rr4, rfl, hs4⟩ := am_S2_i hs5
    obtain ⟨r3, rr3, rfl, h3, hs3⟩ := am_S2_c hs4
    obtain rfl : r3 = .ref (ad c1) := h3
    obtain ⟨rr2, rfl, hs2⟩ := am_S2_i hs3
    obtain ⟨r1, rr, rfl, h1, hs9⟩ := am_S2_c hs2
    obtain rfl : r1 = .ref (ad c0) := h1
    have h8 := cx_wt hs9 hw8
    unfold cs_cp at he
    split at he
    · rename_i n0 n1 e0 e1
      split at he
      · cases he
      · rename_i hn
        simp only [not_or] at hn
        obtain ⟨b1, b2, b3, b4, b5, b6⟩ := hn
        obtain ⟨hm0, -, hE0⟩ := cs_A_e e0
        obtain ⟨hm1', -, hE1⟩ := cs_A_e e1
        obtain ⟨q0, hq0, hat0⟩ := cx_at (d := d) hG.1 hm0
        obtain ⟨q1, hq1, hat1⟩ := cx_at (d := d) hG.1 hm1'
        rw [hE0] at hat0
        rw [hE1] at hat1
        have hb0 := hG.1.2.2.2.2.2.2.2.2.1 c0 n0 e0
        have hb1 := hG.1.2.2.2.2.2.2.2.2.1 c1 n1 e1
        refine va_copyi hx hb (hml.trans hsz.symm) hown (hts _ hl) (hts _ hw.1) (hts _ hw.2.1) (hts _ hw.2.2) hK.1 (cw_P hG.1.1) (cw_D hG.1.2.2.1 hG.1.2.1 hG.2.2.1) hG.2.2.2.1 q0 q1 3 3 (ty := .byte) hat0 hat1 rfl rfl rfl b1 b2 b3 (by omega) (by omega) (fun i _ => hb0 _) (by omega) (by
          have e9 : nativeFrameWords "java/lang/System" "arraycopy" 5 = 7 := by decide +kernel
          rw [e9]; omega) hdg fun H1 locs1 hP1 _ hS1 => ?_
        refine hk _ _ ι _ _ _ _ _ he (cx_G_pf hG e1 hq1 hP1 hS1 fun _ j => ?_) (cx_le.rf ι).cr hs9
        unfold va_cpy
        split
        · exact hb0 _
        · exact hb1 _
    · cases he
  · cases he
end
