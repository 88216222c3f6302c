set_option maxRecDepth 100000
/-! ROWS ARE MADE (rowOf), THINGS ARE KEPT (keep). -/
section
variable {p : Program} {l : Launch} {e : Env} {R : Room} {s : State} {m : MethodId} {args : Array Value} {below : List Frame} {meth : Method} {c : Code} {H : Heap} {locs : List Loc} {cells slots : Nat} {Q : State → Prop}
variable {cc : ByteArray} {pc : Nat} {ls : Array Slot} {rest : List Value} {D : va_G} {cl : List vw_C} {a : Nat} {tys : List (ClassId × FieldType)}
/-- a new row -/
theorem sx_newa (hexec : p.tables.exec = Jvm.exec) (hb : c.code = cc) {atype : ArrayType} (harr : (Cond.arrayClass (newarray.typeOf atype)).before args s = true) {dk : ClassId} (hnm : s.vm.findClass ("[" ++ (newarray.typeOf atype).toString) = some dk) (hdef : defaultValue (newarray.typeOf atype) = .int 0) {n : Int32} {N : Nat} (hn : ¬ n < 0) (hN : n.toNatClampNeg = N) (hbytes : N * componentBytes (newarray.typeOf atype) ≤ 536870912) (hcells : cells + 1 ≤ R.cells) (hslots : slots + N ≤ R.slots) (hdg : decode cc pc = .ok (.newarray atype, 2))
    (kk : ∀ H1 : Heap, va_at D cl (H.size, .inl (dk, N, .inl fun _ => 0)) H1 → H1.size = H.size + 1 → (∀ q, q < H.size → H1[q]? = H[q]?) → W p l e R s m args below meth c H1 locs (cells + 1) (slots + N) Q (F0 m (pc + 2) ls (.ref H.size :: rest))) : W p l e R s m args below meth c H locs cells slots Q (F0 m pc ls (.int n :: rest)) := by
  refine va_newaK hexec hb harr rfl hdg rfl hn hN hbytes hcells hslots rfl fun H1 cA e1 z1 o1 hAr hNm => ?_
  obtain rfl : cA = dk := Option.some.inj (hNm.symm.trans hnm)
  refine kk H1 ?_ z1 o1
  rw [hdef] at e1
  exact e1
/-- a stretch is copied -/
theorem sx_copyi (hexec : p.tables.exec = Jvm.exec) (hb : c.code = cc) (hml : c.maxLocals = ls.size) {own : String} {index : Nat} (hown : s.vm.findClass own = some m.cls) (hlink : (Cond.methodLink own index arraycopyName).before args s = true) (hnat : (Cond.native arraycopyName).before args s = true) (hstat : (Cond.static arraycopyName).before args s = true) (hini : (Cond.initialized "java/lang/System").before args s = true)
    (hK : va_K D cl tys s) (t0 : Nat) {a0 : Nat} {c0 : ClassId} {n0 n1 : Nat} {f g : Nat → Int32} {ty : FieldType} (ha0 : va_at D cl (a0, .inl (c0, n0, .inl f)) H) (ha1 : va_at D cl (a, .inl (c0, n1, .inl g)) H) (ht0 : tys[t0]? = some (c0, ty)) (hprim : refKind ty = false)
    {sp dp n : Int32} (h1 : ¬ sp < 0) (h2 : ¬ dp < 0) (h3 : ¬ n < 0) (h4 : sp.toNatClampNeg + n.toNatClampNeg ≤ n0) (h5 : dp.toNatClampNeg + n.toNatClampNeg ≤ n1) (hfit : ∀ i, i < n.toNatClampNeg → fits ty (.int (f (sp.toNatClampNeg + i))) = true)
    (hframes : 1 ≤ R.frames) (hlocals : (rest.map fun v => v.category).sum + (nativeFrameWords "java/lang/System" "arraycopy" 5 + 11) ≤ R.locals) (hdg : decode cc pc = .ok (.invokestatic index, 3))
    (kk : ∀ (H1 : Heap) (L : List Loc), va_at D cl (a, .inl (c0, n1, .inl (va_cpy f g sp.toNatClampNeg dp.toNatClampNeg n.toNatClampNeg))) H1 → H1.size = H.size → (∀ q : Nat, q ≠ a → H1[q]? = H[q]?) → (∀ q ∈ L, q.base = a) → W p l e R s m args below meth c H1 (locs ++ L) cells slots Q (F0 m (pc + 3) ls rest)) : W p l e R s m args below meth c H locs cells slots Q (F0 m pc ls (.int n :: .int dp :: .ref a :: .int sp :: .ref a0 :: rest)) := by
  have nn : ∀ z : Int32, ¬ z < 0 → z.toInt = (z.toNatClampNeg : Int) := by
    intro z hz
    have hz0 : (0 : Int) ≤ z.toInt := by
      have := Int32.not_lt.mp hz
      simpa using Int32.le_iff_toInt_le.mp this
    show z.toInt = ((z.toInt.toNat : Nat) : Int)
    omega
  intro T hT X
  have hc0 : H[a0]? = some (vp_cell c0 (n0, .inl f)) := ha0
  have hc1 : H[a]? = some (vp_cell c0 (n1, .inl g)) := ha1
  obtain ⟨-, k0, hk0, cm0, hkk0⟩ := (hK.2 t0 _ ht0).1 n0 (fun j => .int (f j))
  obtain ⟨-, k1, hk1, cm1, hkk1⟩ := (hK.2 t0 _ ht0).1 n1 (fun j => .int (g j))
  obtain ⟨vm', X', step⟩ := X.arraycopy hexec hown hlink hnat hstat hini (src := a0) (dst := a) (cs := vp_cell c0 (n0, .inl f)) (cd := vp_cell c0 (n1, .inl g)) (srcPos := sp) (destPos := dp) (n := n) (by rw [hT]; exact hc0) (by rw [hT]; exact hc1)
    (fun _ h => by cases h) (fun _ h => by cases h) (fun h => by cases h) (fun h => by cases h) hk0 hk1 hkk0 hkk1 (by simp [hprim]) h1 h2 h3
    (by rw [nn sp h1, nn n h3]; show ¬ _ > ((arrV c0 n0 (fun j => .int (f j))).slots.size : Int); rw [arrV_size]; omega)
    (by rw [nn dp h2, nn n h3]; show ¬ _ > ((arrV c0 n1 (fun j => .int (g j))).slots.size : Int); rw [arrV_size]; omega)
    (fun vm₁ _ i hi => by
      have e : (vp_cell c0 (n0, .inl f)).slots.getD (sp.toNatClampNeg + i) .null = .int (f (sp.toNatClampNeg + i)) := by
        show (arrV c0 n0 (fun j => .int (f j))).slots.getD _ _ = _
        rw [Array.getD_eq_getD_getElem?, arrV_read _ _ (by omega)]
        rfl
      refine ⟨?_, ?_⟩
      · rw [e]
        exact hfit i hi
      · rw [e]
        exact trivial)
    (g := F0 m pc ls (.int n :: .int dp :: .ref a :: .int sp :: .ref a0 :: rest)) rfl (by rw [hml]) (rest := rest) rfl (by rw [hb]; exact hdg) hframes (by show 2 * 0 + _ + _ ≤ _; omega)
  have e1 : copied (vp_cell c0 (n0, .inl f)) (vp_cell c0 (n1, .inl g)) sp dp n = vp_cell c0 (n1, .inl (va_cpy f g sp.toNatClampNeg dp.toNatClampNeg n.toNatClampNeg)) := va_copied (fun z => .int z) c0 c0 f g h4
  rw [e1] at X' step
  have hl : a < H.size := (Array.getElem?_eq_some_iff.mp hc1).1
  have hheap : ((T.setVm vm').setCell a (vp_cell c0 (n1, .inl (va_cpy f g sp.toNatClampNeg dp.toNatClampNeg n.toNatClampNeg)))).heap = H.setIfInBounds a (vp_cell c0 (n1, .inl (va_cpy f g sp.toNatClampNeg dp.toNatClampNeg n.toNatClampNeg))) := by rw [← hT]; rfl
  have oq : ∀ q : Nat, q ≠ a → (H.setIfInBounds a (vp_cell c0 (n1, .inl (va_cpy f g sp.toNatClampNeg dp.toNatClampNeg n.toNatClampNeg))))[q]? = H[q]? := fun q hq => by simp [Array.getElem?_setIfInBounds, Ne.symm hq]
  obtain ⟨t, a1, b1⟩ := kk _ _ (show (H.setIfInBounds a _)[a]? = some _ by simp [Array.getElem?_setIfInBounds, hl]) (by simp) oq (fun q hq => by
      obtain ⟨z, -, hz⟩ := List.mem_map.mp hq
      rw [← hz]) _ hheap X'
  exact ⟨t, step t a1, b1⟩
end
theorem tr_okn {t : Tr} (hwf : tr_wf t) (hlf : tr_lf t = false) : tr_nd t = true := by
  cases t with
  | leaf => cases hlf
  | inner _ _ _ _ _ => exact Nat.ble_eq_true_of_le (tr_wf_v hwf).1
/-- the row that is made -/
def rw_q (σ : cs_S) (w k : Nat) : sh_T := if w = 3 then (3, .leaf, sh_ear σ) else (4, .leaf, tr_kl ((cs_t σ 100).getD k .leaf))
/-- what the page and the ear are like -/
def sx_pg (σ : cs_S) : Prop := (∀ j, j < (cs_t σ 100).length → tr_ok ((cs_t σ 100).getD j .leaf)) ∧ (cs_t σ 100).length ≤ 120 ∧ ∃ h, h ≤ 20 ∧ cs_i σ 9 = nI h ∧ ∀ j, j < h → ∃ w, w ≤ 30 ∧ σ.2.1 108 j = nI w
theorem sx_rowOf {l : Launch} {D : va_G} {cl : List vw_C} {ad : Nat → Nat} {d : Nat → ClassId} (hcl : cx_clok cl) (ι : cx_I) (κ : sx_I) (SH : Nat → sh_T) (σ : cs_S) (sz w k : Nat) (hpg : sx_pg σ) (hwk : w = 3 ∨ w = 4 ∧ k < (cs_t σ 100).length) (kI : Int32) (hk : w = 4 → kI = nI k) :
    xm_Met l yX1_rowOf (ws_ yX1_rowOf cX1_rowOf 5 (some (.object "java/lang/Object"))) { frames := 60, cells := 1, slots := (rw_q σ w k).2.2.length, locals := 2400 }
      (fun a U => a = [.ref (ad 0), .int (nI w), .int kI].toArray ∧ U.heap.size = sz ∧ cx_W D cl ad d ι σ U.heap ∧ sx_W D cl ad d ι κ SH U.heap ∧ cx_K D cl ad d (sx_A ι κ SH sz) U)
      (fun _ st o t => ∃ ι' r, o = .returned (some (.ref r)) ∧ sx_G D cl ad d ι (sx_A ι κ SH sz) st.heap σ SH ι' κ t.heap [] ∧ va_at D cl (r, sx_row d (rw_q σ w k)) t.heap ∧ sz ≤ r ∧ ∀ c ∈ ι'.1, ι'.2.1 c ≠ r)
      1 (rw_q σ w k).2.2.length (sx_A ι κ SH sz) := by
  obtain ⟨hnd, h120, h, hh20, hheard, hear⟩ := hpg
  refine sx_ofW (cc := cX1_rowOf) (maxL := 5) (ret := some (.object "java/lang/Object")) (hh := []) (by decide) (.inl ⟨rfl, rfl⟩) ?_
  intro p e s m args below meth c hadm hx hb hml hret hlocks hnm hts hown hex hP
  obtain ⟨rfl, rfl, hW, hV, hK⟩ := hP
  have hA2 : ∀ q, s.heap.size ≤ q → sx_A ι κ SH s.heap.size q := fun q h => .inl (.inr h)
  have hC : sx_C p { frames := 60, cells := 1, slots := (rw_q σ w k).2.2.length, locals := 2400 } s m [.ref (ad 0), .int (nI w), .int kI].toArray c D cl ad d 5 cX1_rowOf (sx_A ι κ SH s.heap.size) := ⟨hx, hb, hml, hown, hts, hcl, hK, hA2, (by show 12 ≤ 60; decide), (by show 480 ≤ 2400; decide)⟩
  have hG := sx_G.start hW hV
  have hl := lv_entry ([.ref (ad 0), .int (nI w), .int kI]) (n := 5) (Nat.le_of_ble_eq_true rfl)
  rw [lg_entry_eq]
  generalize (lg_sl ([.ref (ad 0), .int (nI w), .int kI]) ++ List.replicate (5 - (lg_sl ([.ref (ad 0), .int (nI w), .int kI])).length) Slot.unset).toArray = ls at hl ⊢
  have hl : lv_has ls 5 [(0, .ref (ad 0)), (1, .int (nI w)), (2, .int kI)] := hl
  refine lv_iload_n hx hb dX1_rowOf_0 rfl (lv_at hl 1 rfl) ?_
  refine lv_iconst hx hb dX1_rowOf_1 rfl ?_
  -- 2: .if_icmp .ne 26
  refine lv_icmp_ne hx hb dX1_rowOf_2 rfl (fun hne => ?_) (fun heq => ?_)
  · -- the kinds of a node
    have hw4 : w = 4 := by
      rcases hwk with rfl | ⟨h, -⟩
      · exact absurd rfl hne
      · exact h
    subst hw4
    obtain ⟨-, hkl⟩ : 4 = 4 ∧ k < (cs_t σ 100).length := by
      rcases hwk with h | h
      · cases h
      · exact h
    obtain rfl := hk rfl
    obtain ⟨hlf, hwf, h40⟩ := hnd k hkl
    obtain ⟨t0, ht0⟩ : ∃ t0, (cs_t σ 100).getD k .leaf = t0 := ⟨_, rfl⟩
    rw [ht0] at hlf hwf h40
    have hq4 : rw_q σ 4 k = (4, .leaf, tr_kl t0) := by rw [← ht0]; rfl
    have hnode : tr_nd t0 = true := tr_okn hwf hlf
    have hlen : (rw_q σ 4 k).2.2.length = tr_sz t0 := by rw [hq4]; exact tr_kl_len t0
    have hlk : (tr_kl t0).length = (rw_q σ 4 k).2.2.length := by rw [hq4]
    refine lv_aload_n hx hb dX1_rowOf_28 rfl (lv_at hl 0 rfl) ?_
    -- 29: .getfield 35
    refine sx_fld hC hG.1 0 (by decide) q894 (v := .ref (ad 100)) rfl dX1_rowOf_29 ?_
    refine lv_iload_n hx hb dX1_rowOf_32 rfl (lv_at hl 2 rfl) ?_
    -- 33: .invokevirtual 73
    refine sx_get (rr := []) hC hG dX1_rowOf_33 hl.1 (by decide) ⟨Nat.zero_le _, Nat.zero_le _⟩ hkl h120 (fun ι1 H1 locs1 rv hG1 hle1 _ _ _ hT1 => ?_)
    rw [ht0] at hT1
    obtain ⟨c1, -, -, rfl⟩ := cx_nid hnode hT1
    refine sx_castN hC hG1.1 dX1_rowOf_36 hnode hT1 ?_
    refine sx_nf hx hb hts hown hK.1 hcl hG1.1 hnode hT1 (i := 2) (.inr ⟨rfl, rfl, rfl⟩) q139 dX1_rowOf_39 ?_
    refine sx_newa (atype := .char) (D := D) (cl := cl) (dk := d 4) hx hb (hts _ q966) (hK.1.2 4 _ rfl).2 rfl (nI_pos (by omega)) (N := (rw_q σ 4 k).2.2.length) (by rw [nI_clamp (by omega), hlen]) (by rw [hlen]; show tr_sz t0 * 2 ≤ _; omega) (Nat.le_refl _) (Nat.le_of_eq (Nat.zero_add _)) dX1_rowOf_42 (fun H2 hrow2 hz2 hk2 => ?_)
    rw [Nat.zero_add, Nat.zero_add]
    have hG2 := hG1.grow (by omega) hk2
    have hr0 : s.heap.size ≤ H1.size := hG1.2.2.2.2.2.1
    have hr2 : H1.size < H2.size := by omega
    have hrn : ∀ c ∈ ι1.1, ι1.2.1 c ≠ H1.size := fun c hc z => by
      have := va_at.lt (hG1.1.1 c hc)
      dsimp only at this
      omega
    refine lv_astore_n hx hb dX1_rowOf_44 rfl hl (by decide) rfl (fun ls hl => ?_)
    refine lv_aload_n hx hb dX1_rowOf_45 rfl (lv_at hl 1 rfl) ?_
    -- 46: .getfield 35
    refine sx_fld hC hG2.1 0 (by decide) q894 (v := .ref (ad 100)) rfl dX1_rowOf_46 ?_
    refine lv_iload_n hx hb dX1_rowOf_49 rfl (lv_at hl 3 rfl) ?_
    -- 50: .invokevirtual 73
    refine sx_get (rr := []) hC hG2 dX1_rowOf_50 hl.1 (by decide) ⟨by show 1 ≤ 1; omega, Nat.le_refl _⟩ hkl h120 (fun ι3 H3 locs3 rv hG3 hle3 hA3 hz3 hk3 hT3 => ?_)
    rw [ht0] at hT3
    have hrow3 : va_at D cl (H1.size, .inl (d 4, (rw_q σ 4 k).2.2.length, .inl fun _ => 0)) H3 := va_at.kept hrow2 (hk3 _ hr2 (by
      rintro (⟨c, hc, e⟩ | e)
      · exact hrn c hc e.symm
      · omega))
    have hrn3 : ∀ c ∈ ι3.1, ι3.2.1 c ≠ H1.size := fun c hc z => by
      rcases hA3 c hc with ⟨c', q1, q2⟩ | q
      · exact hrn c' q1 (q2.symm.trans z)
      · omega
    obtain ⟨c3, -, -, rfl⟩ := cx_nid hnode hT3
    refine sx_castN hC hG3.1 dX1_rowOf_53 hnode hT3 ?_
    refine lv_aload_n hx hb dX1_rowOf_56 rfl (lv_at hl 0 rfl) ?_
    refine lv_iconst hx hb dX1_rowOf_57 rfl ?_
    -- 58: .invokestatic 357
    obtain ⟨mk, hnamed⟩ := Cond.code_named (hts _ q965)
    have hr3 : H1.size < H3.size := by omega
    have hsub : ∀ q, ly_A ι3 H3.size H1.size q → sx_A ι κ SH s.heap.size q := by
      rintro q ((⟨c, hc, rfl⟩ | h) | rfl)
      · exact hG3.2.2.2.1 c hc
      · exact hA2 _ (by omega)
      · exact hA2 _ hr0
    have hdp : tr_dp t0 ≤ 40 := Nat.le_trans (tr_sz_dp t0) h40
    refine xm_callR (xm_runS (own := RX1) (n := 3) (Ts := lw_all) (As := [.ref (ι3.2.1 c3), .ref H1.size, .int (nI 0)]) (rest := []) ⟨hx, hb, hml, hown, hts⟩ (sx_lays (D := D) (d := d) hcl t0 hwf hlf ι3 σ H3.size H1.size (rw_q σ 4 k).2.2.length 0 (fun _ => 0) (.ref (ι3.2.1 c3)) hT3 hrn3 (by omega) (by omega)) (cx_B hts cb_lays ⟨by show tr_dp t0 + 1 + 1 ≤ 60; omega, by show 40 * (tr_dp t0 + 1 + 1) ≤ 2400; omega⟩) (hts _ q963) (hts _ q964) hnamed ⟨by decide, by decide⟩ (by decide +kernel) ⟨ly_blind, fun U hU hWm => ?_⟩ rfl hl.1 rfl (by decide) dX1_rowOf_58 ⟨Nat.le_refl _, Nat.le_refl _⟩) (fun v st₀ t1 L h0 hWm hq1 hL => ?_) (fun x st₀ t1 L h0 hWm hq1 hL => ?_)
    · refine ⟨rfl, by rw [hU], by rw [hU]; exact hG3.1, by rw [hU]; exact hrow3, va_K.moved hWm.alike hK.1, hK.2.1.warm hWm, ?_⟩
      rw [hU]
      exact ((hK.2.2.moved hWm.alike).kept (fun q g1 g2 => hG3.2.2.2.2.2.2.1 q g1 g2)).narrow hsub
    · obtain ⟨hv, ι4, j1, j2, j3, j4, j5, j6⟩ := hq1
      cases hv
      rw [h0] at j5 j6
      have g6 := hG3.2.2.2.2.2
      have hS4 : va_S (sx_A ι κ SH s.heap.size) s.heap t1.heap (locs3 ++ L) := ⟨Nat.le_trans g6.1 j5, fun q g1 g2 => by rw [j6 q (Nat.lt_of_lt_of_le g1 g6.1) (fun z => g2 (hsub q z))]; exact g6.2.1 q g1 g2, fun q g1 => by
        rcases List.mem_append.mp g1 with g | g
        · exact g6.2.2 q g
        · exact hsub _ (hL q g)⟩
      have hG4 := hG3.call2 hA2 j1 j2 j3 j5 (fun j hj => j6 _ (hG3.2.1.2.2.2.1 j hj) (by
        rintro (h | h)
        · exact sx_has.lt hG3.2.1 hj h
        · have := hG1.2.1.2.2.2.1 j hj
          omega)) hS4
      refine lv_istore hx hb dX1_rowOf_61 hl (by decide) rfl (fun ls hl => ?_)
      refine lv_aload_n hx hb dX1_rowOf_63 rfl (lv_at hl 1 rfl) ?_
      -- 64: .areturn
      refine xm_W (W.aret hx hb hret (.inl ⟨_, rfl⟩) (.inr ⟨_, rfl⟩) (fun t2 ht hWm => ?_) hS4.2.2 dX1_rowOf_64 hlocks) (fun t => xm_MQ.of)
      refine ⟨ι4, H1.size, rfl, ?_, ?_, hr0, fun c hc z => ?_⟩
      · rw [ht]
        exact ⟨hG4.1, hG4.2.1, hG4.2.2.1, hG4.2.2.2.1, hG4.2.2.2.2.1, hS4.1, hS4.2.1, fun q h => by cases h⟩
      · rw [ht]
        have : ly (fun _ => 0) 0 (tr_kl t0) = fun j => nI ((tr_kl t0).getD j 0) := by
          funext j
          unfold ly
          by_cases hj : j < (tr_kl t0).length
          · rw [if_pos ⟨Nat.zero_le _, by omega⟩, Nat.sub_zero]
          · rw [if_neg (by omega), List.getD_eq_getElem?_getD, List.getElem?_eq_none (by omega)]
            rfl
        rw [this] at j4
        have e : sx_row d (rw_q σ 4 k) = .inl (d 4, (rw_q σ 4 k).2.2.length, .inl fun j => nI ((tr_kl t0).getD j 0)) := by rw [hq4]; rfl
        rw [e]
        exact j4
      · rcases j3 c hc with ⟨c', q1, q2⟩ | q
        · exact hrn3 c' q1 (q2.symm.trans z)
        · omega
    · obtain ⟨hv, -⟩ := hq1
      cases hv
  · -- the ear
    have hw3 : w = 3 := by
      rcases hwk with h | ⟨rfl, -⟩
      · exact h
      · exact absurd heq (by decide)
    subst hw3
    have hq3 : rw_q σ 3 k = (3, .leaf, sh_ear σ) := rfl
    have hlen : (rw_q σ 3 k).2.2.length = h := by
      show (sh_ear σ).length = h
      unfold sh_ear
      rw [List.length_map, List.length_range, hheard, nI_clamp (by omega)]
    have hi9 : (cx_fs ad σ)[9]? = some (.int (nI h)) := by rw [← hheard]; rfl
    refine lv_aload_n hx hb dX1_rowOf_5 rfl (lv_at hl 0 rfl) ?_
    -- 6: .getfield 197
    refine sx_fld hC hG.1 9 (by decide) q903 hi9 dX1_rowOf_6 ?_
    refine sx_newa (atype := .byte) (D := D) (cl := cl) (dk := d 3) hx hb (hts _ q850) (hK.1.2 3 _ rfl).2 rfl (nI_pos (by omega)) (N := (rw_q σ 3 k).2.2.length) (by rw [nI_clamp (by omega), hlen]) (by rw [hlen]; show h * 1 ≤ _; omega) (Nat.le_refl _) (Nat.le_of_eq (Nat.zero_add _)) dX1_rowOf_9 (fun H2 hrow2 hz2 hk2 => ?_)
    rw [Nat.zero_add, Nat.zero_add]
    have hG2 := hG.grow (by omega) hk2
    refine lv_astore_n hx hb dX1_rowOf_11 rfl hl (by decide) rfl (fun ls hl => ?_)
    refine lv_aload_n hx hb dX1_rowOf_12 rfl (lv_at hl 1 rfl) ?_
    -- 13: .getfield 200
    refine sx_fld hC hG2.1 8 (by decide) q902 (v := .ref (ad 108)) rfl dX1_rowOf_13 ?_
    refine lv_iconst hx hb dX1_rowOf_16 rfl ?_
    refine lv_aload_n hx hb dX1_rowOf_17 rfl (lv_at hl 0 rfl) ?_
    refine lv_iconst hx hb dX1_rowOf_18 rfl ?_
    refine lv_aload_n hx hb dX1_rowOf_19 rfl (lv_at hl 1 rfl) ?_
    -- 20: .getfield 197
    refine sx_fld hC hG2.1 9 (by decide) q903 hi9 dX1_rowOf_20 ?_
    obtain ⟨q0, -, hat⟩ := cx_at (d := d) hG2.1 (c := 108) (by decide)
    have hear0 : va_at D cl (ad 108, .inl (d 3, 20, .inl (σ.2.1 108))) H2 := cw_P hG2.1.1 q0 _ hat
    refine sx_copyi hx hb (by rw [hml]; exact hl.1.symm) hown (hts _ q589) (hts _ q312) (hts _ q311) (hts _ q88) hK.1 3 hear0 hrow2 rfl rfl (by decide) (by decide) (nI_pos (by omega)) (by rw [nI_clamp (by omega)]; show 0 + h ≤ 20; omega) (by rw [nI_clamp (by omega), hlen]; show 0 + h ≤ h; omega) (fun i _ => hG2.1.2.2.2.2.2.2.2.2.1 108 20 rfl _) (by show 1 ≤ 60; decide) (by show 0 + _ ≤ 2400; decide) dX1_rowOf_23 (fun H3 L hrow3 hz3 hk3 hL => ?_)
    have hrA : sx_A ι κ SH s.heap.size s.heap.size := hA2 _ (Nat.le_refl _)
    have hS3 : va_S (sx_A ι κ SH s.heap.size) s.heap H3 ([] ++ L) := ⟨by omega, fun q g1 g2 => by rw [hk3 q (by omega), hk2 q g1], fun q g1 => by
      rw [List.nil_append] at g1
      rw [hL q g1]
      exact hrA⟩
    have hG3 := hG2.call2 (locs' := [] ++ L) hA2 (cx_le.rf ι) (hG2.1.kept fun c hc => hk3 _ fun z => by
        have := va_at.lt (hG.1.1 c hc)
        dsimp only at this
        omega) (fun c hc => .inl ⟨c, hc, rfl⟩) (by omega) (fun j hj => hk3 _ fun z => by
        have := hG.2.1.2.2.2.1 j hj
        omega) hS3
    refine lv_aload_n hx hb dX1_rowOf_26 rfl (lv_at hl 0 rfl) ?_
    -- 27: .areturn
    refine xm_W (W.aret hx hb hret (.inl ⟨_, rfl⟩) (.inr ⟨_, rfl⟩) (fun t2 ht hWm => ?_) hS3.2.2 dX1_rowOf_27 hlocks) (fun t => xm_MQ.of)
    refine ⟨ι, s.heap.size, rfl, ?_, ?_, Nat.le_refl _, fun c hc z => ?_⟩
    · rw [ht]
      exact ⟨hG3.1, hG3.2.1, hG3.2.2.1, hG3.2.2.2.1, hG3.2.2.2.2.1, hS3.1, hS3.2.1, fun q h => by cases h⟩
    · rw [ht]
      have : va_cpy (σ.2.1 108) (fun _ => (0 : Int32)) (Int32.ofInt 0).toNatClampNeg (Int32.ofInt 0).toNatClampNeg (nI h).toNatClampNeg = fun j => nI ((sh_ear σ).getD j 0) := by
        funext j
        rw [nI_clamp (by omega), show (Int32.ofInt 0).toNatClampNeg = 0 from by decide]
        unfold va_cpy
        show (if 0 ≤ j ∧ j < 0 + h then σ.2.1 108 (0 + (j - 0)) else 0) = _
        by_cases hj : j < h
        · rw [if_pos ⟨Nat.zero_le _, by omega⟩, Nat.sub_zero, Nat.zero_add]
          unfold sh_ear
          rw [hheard, nI_clamp (by omega), gd_map hj]
          obtain ⟨w, hw, e⟩ := hear j hj
          show σ.2.1 108 j = nI (σ.2.1 108 j).toNatClampNeg
          rw [e, nI_clamp (by omega)]
        · have hle : (sh_ear σ).length ≤ j := by
            show (rw_q σ 3 k).2.2.length ≤ j
            omega
          rw [if_neg (by omega), List.getD_eq_getElem?_getD, List.getElem?_eq_none hle]
          rfl
      rw [this] at hrow3
      exact hrow3
    · have := va_at.lt (hG.1.1 c hc)
      dsimp only at this
      omega
