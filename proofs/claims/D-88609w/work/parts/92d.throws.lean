set_option maxRecDepth 100000
/-! readings and where, their throwing roads. -/
section
variable {l : Launch} {D : va_G} {cl : List vw_C} {ad : Nat → Nat} {d : Nat → ClassId}
theorem sx_readX (hfl : l.flags = flags0) (hcl : cx_clok cl) (SH : Nat → sh_T) (σ : cs_S) (x : Int32) (hno : inR 0 8 x = false) :
    sx_Met l D cl ad d 20 11000 yX1_readings (ws_ yX1_readings cX1_readings 2 (some .long)) [.inl (.ref 0), .inl (.int x)] σ SH (.inr "java/lang/IllegalArgumentException") (cs_mk σ 10 1000) SH := by
  intro ι κ sz rargs hra
  obtain ⟨r0, rr0, rfl, q0, hra0⟩ := am_S2_c hra
  obtain rfl : r0 = .ref (ad 0) := q0
  obtain ⟨rr1, rfl, hra1⟩ := am_S2_i hra0
  obtain rfl := am_S2_n hra1
  obtain ⟨em1, em2⟩ := cs_mk_1 σ 10 1000
  rw [em1, em2]
  refine sx_ofW (cc := cX1_readings) (maxL := 2) (ret := some .long) (hh := []) (by decide) (.inl ⟨rfl, rfl⟩) ?_
  intro p e s m args below meth c hadm hx hb hml hret hlocks hnm hts hown hex hP
  obtain ⟨rfl, rfl, hW, hV, hK, hN, hZ⟩ := hP
  have htr : e.platform.stackTraces = false := Launch.traces_off hfl hadm
  have hA2 : ∀ q, s.heap.size ≤ q → sx_A ι κ SH s.heap.size q := fun q h => .inl (.inr h)
  have hC : sx_C p { frames := 20, cells := 10, slots := 1000, locals := 11000 } s m [.ref (ad 0), .int x].toArray c D cl ad d 2 cX1_readings (sx_A ι κ SH s.heap.size) := ⟨hx, hb, hml, hown, hts, hcl, hK, hA2, by decide, by decide⟩
  have hG := sx_G.start hW hV
  have hout : ∀ y ∈ c.exceptionTable.toList, covers y 14 = false := by
    rw [List.map_eq_nil_iff.mp hex]
    intro y hy
    cases hy
  have hl := lv_entry ([.ref (ad 0), .int x]) (n := 2) (Nat.le_of_ble_eq_true rfl)
  rw [lg_entry_eq]
  generalize (lg_sl ([.ref (ad 0), .int x]) ++ List.replicate (2 - (lg_sl ([.ref (ad 0), .int x])).length) Slot.unset).toArray = ls at hl ⊢
  have hl : lv_has ls 2 [(0, .ref (ad 0)), (1, .int x)] := hl
  refine lv_iload_n hx hb dX1_readings_0 rfl (lv_at hl 1 rfl) ?_
  -- 1: .invokestatic 256
  have hMet := sx_met (l := l) (D := D) (ad := ad) (d := d) hcl (mt := 29) rfl (cs_isEar (N := 0) (f := 0) x σ)
  have kk : sx_K1 p l e { frames := 20, cells := 10, slots := 1000, locals := 11000 } s m [.ref (ad 0), .int x].toArray below meth c (xm_MQ below (fun _ st o' t => ∃ ι' κ', sx_ro ad ι' (.inr "java/lang/IllegalArgumentException") o' t ∧ cx_le ι ι' ∧ cx_W D cl ad d ι' (cs_mk σ 10 1000) t.heap ∧ sx_W D cl ad d ι' κ' SH t.heap ∧ (∀ c ∈ ι'.1, sx_A ι κ SH s.heap.size (ι'.2.1 c)) ∧ (∀ j, sx_has SH j → sx_A ι κ SH s.heap.size (κ'.1 j)) ∧ va_F (sx_A ι κ SH s.heap.size) st t) [.ref (ad 0), .int x].toArray s 10 1000 (sx_A ι κ SH s.heap.size)) D cl ad d (1 + 3) (sx_A ι κ SH s.heap.size) ι ι κ SH σ 0 0 ls (.int (b2 (inR 0 8 x)) :: []) := by
    intro ι1 H1 locs1 hG1 hle1
    rw [hno]
    refine lv_if_ne hx hb dX1_readings_4 rfl (fun h => absurd b2f0 h) (fun _ => ?_)
    exact sx_throw hC hG1 htr hN hZ hlocks hl.1 (names := [Bundle.rN, Bundle.eN]) (by decide +kernel) (by decide +kernel) exIA_in (by decide) q1139 q1140 q91 ⟨by decide, by decide⟩ ⟨rfl, rfl⟩ dX1_readings_7 dX1_readings_10 dX1_readings_11 dX1_readings_14 hout
  exact sx_stat (f := 2) (n := 1) hx hb hml hown hts hK cb_29 ⟨by decide, by decide⟩ q602 q603 (by decide +kernel) dX1_readings_1 hMet hG.1 hG.2.2.2.1 hA2 hG.2.2.2.2.2 [.int x] [] ⟨rfl, trivial⟩ rfl hl.1 rfl (by decide) (by rw [Nat.sub_self, Nat.sub_self]; exact ⟨Nat.zero_le _, Nat.zero_le _⟩) (kk.aft hA2 hG)
theorem sx_whereX (hfl : l.flags = flags0) (hcl : cx_clok cl) (SH : Nat → sh_T) (σ : cs_S) {dd : Nat} (hdd : cs_i σ 17 = nI dd) (h19 : 19 < dd) (h1000 : dd ≤ 1000) :
    sx_Met l D cl ad d 20 11000 yX1_where (ws_ yX1_where cX1_where 4 (some .int)) [.inl (.ref 0), .inl (.int 0)] σ SH (.inr "java/lang/IllegalStateException") (cs_mk σ 10 1000) SH := by
  intro ι κ sz rargs hra
  obtain ⟨r0, rr0, rfl, q0, hra0⟩ := am_S2_c hra
  obtain rfl : r0 = .ref (ad 0) := q0
  obtain ⟨rr1, rfl, hra1⟩ := am_S2_i hra0
  obtain rfl := am_S2_n hra1
  obtain ⟨em1, em2⟩ := cs_mk_1 σ 10 1000
  rw [em1, em2]
  refine sx_ofW (cc := cX1_where) (maxL := 4) (ret := some .int) (hh := []) (by decide) (.inl ⟨rfl, rfl⟩) ?_
  intro p e s m args below meth c hadm hx hb hml hret hlocks hnm hts hown hex hP
  obtain ⟨rfl, rfl, hW, hV, hK, hN, hZ⟩ := hP
  have htr : e.platform.stackTraces = false := Launch.traces_off hfl hadm
  have hA2 : ∀ q, s.heap.size ≤ q → sx_A ι κ SH s.heap.size q := fun q h => .inl (.inr h)
  have hC : sx_C p { frames := 20, cells := 10, slots := 1000, locals := 11000 } s m [.ref (ad 0), .int 0].toArray c D cl ad d 4 cX1_where (sx_A ι κ SH s.heap.size) := ⟨hx, hb, hml, hown, hts, hcl, hK, hA2, by decide, by decide⟩
  have hG := sx_G.start hW hV
  have hout : ∀ y ∈ c.exceptionTable.toList, covers y 68 = false := by
    rw [List.map_eq_nil_iff.mp hex]
    intro y hy
    cases hy
  have h17 : (cx_fs ad σ)[17]? = some (.int (nI dd)) := by rw [← hdd]; rfl
  have hl := lv_entry ([.ref (ad 0), .int 0]) (n := 4) (Nat.le_of_ble_eq_true rfl)
  rw [lg_entry_eq]
  generalize (lg_sl ([.ref (ad 0), .int 0]) ++ List.replicate (4 - (lg_sl ([.ref (ad 0), .int 0])).length) Slot.unset).toArray = ls at hl ⊢
  have hl : lv_has ls 4 [(0, .ref (ad 0)), (1, .int 0)] := hl
  refine lv_iload_n hx hb dX1_where_0 rfl (lv_at hl 1 rfl) ?_
  refine lv_i2l hx hb dX1_where_1 rfl ?_
  refine lv_lconst hx hb dX1_where_2 rfl ?_
  -- 3: .ldc2_w 67
  refine lv_ldc2 hx hb hown (hts _ q319) dX1_where_3 ?_
  refine sx_isIn (rr := []) hC hG dX1_where_6 hl.1 (by decide) ⟨Nat.zero_le _, Nat.zero_le _⟩ 0 2 (by decide) (by decide) (fun ι1 H1 locs1 hG1 hle1 => ?_)
  rw [show inR 0 2 0 = true from by decide]
  refine lv_if_ne hx hb dX1_where_9 rfl (fun _ => ?_) (fun h => absurd h b2t0)
  refine lv_aload_n hx hb dX1_where_14 rfl (lv_at hl 0 rfl) ?_
  -- 15: .getfield 82
  refine sx_fld hC hG1.1 17 (by decide) q911 h17 dX1_where_15 ?_
  refine lv_if_ge hx hb dX1_where_18 rfl (fun _ => ?_) (fun h => absurd (nI_pos' (by omega)) h)
  refine lv_iload_n hx hb dX1_where_24 rfl (lv_at hl 1 rfl) ?_
  refine lv_iconst hx hb dX1_where_25 rfl ?_
  -- 26: .if_icmp .ne 8
  refine lv_icmp_ne hx hb dX1_where_26 rfl (fun _ => ?_) (fun h => absurd h (by decide))
  refine lv_iload_n hx hb dX1_where_34 rfl (lv_at hl 1 rfl) ?_
  refine lv_iconst hx hb dX1_where_35 rfl ?_
  -- 36: .if_icmp .ne 16
  refine lv_icmp_ne hx hb dX1_where_36 rfl (fun _ => ?_) (fun h => absurd h (by decide))
  refine lv_aload_n hx hb dX1_where_52 rfl (lv_at hl 0 rfl) ?_
  -- 53: .getfield 82
  refine sx_fld hC hG1.1 17 (by decide) q911 h17 dX1_where_53 ?_
  refine lv_bipush hx hb dX1_where_56 rfl ?_
  -- 58: .if_icmp .le 11
  refine lv_icmp_le hx hb dX1_where_58 rfl (fun h => absurd h (nI_ge h19 (by omega))) (fun _ => ?_)
  exact sx_throw hC hG1 htr hN hZ hlocks hl.1 (names := [Bundle.rN, Bundle.eN]) (by decide +kernel) (by decide +kernel) exIS_in (by decide) q1162 q1163 q92 ⟨by decide, by decide⟩ ⟨rfl, rfl⟩ dX1_where_61 dX1_where_64 dX1_where_65 dX1_where_68 hout
end
