/-! THE ABSTRACT MACHINE IS SOUND: one stack instruction. (Printed by gen/core.py.) -/
section
variable {p : Program} {l : Launch} {e : Env} {R : Room} {s : State} {m : MethodId} {args : Array Value} {below : List Frame} {meth : Method} {c : Code} {H : Heap} {locs : List Loc} {cells slots : Nat} {Q : State → Prop}
variable {cc : ByteArray} {α : Type} {res : α} {TR : Tr → Value → Prop} {ad : Nat → Nat}
theorem am_sw_ok {pc : Nat} {rls : Array Slot} {rr : List Value} {x : Int32} {dflt lo hi : Int} {offs : Array Int} {len : Nat} (hx : p.tables.exec = Jvm.exec) (hb : c.code = cc) (hd : decode cc pc = .ok (.tableswitch dflt lo hi offs, len)) (h0 : 0 ≤ lo) (hh : hi + 1 = lo + (offs.size : Int)) (hm : hi < 1000) {d : Nat} (hdt : (pc : Int) + dflt = (d : Int)) {k : Nat → Option α}
    (hk : ∀ t, k t = some res → W p l e R s m args below meth c H locs cells slots Q (F0 m t rls rr)) :
    ∀ (ts : List Nat) (n : Nat), lo.toNat + offs.size = n + ts.length → lo.toNat ≤ n → (∀ j, j < ts.length → ∃ t : Nat, ts[j]? = some t ∧ ∃ o, offs[n - lo.toNat + j]? = some o ∧ (pc : Int) + o = (t : Int)) → (x.toInt < (lo.toNat : Int) ∨ (n : Int) ≤ x.toInt) → am_sw x n d ts k = some res → W p l e R s m args below meth c H locs cells slots Q (F0 m pc rls (.int x :: rr))
  | [], n, hn, hl, _, ho, he => by
    simp only [List.length_nil, Nat.add_zero] at hn
    exact lv_tableOut hx hb hd (by omega) hdt (hk _ he)
  | t :: ts, n, hn, hl, hts, ho, he => by
    simp only [List.length_cons] at hn
    unfold am_sw at he
    have hnI : (nI n).toInt = (n : Int) := nI_toInt (by omega)
    split at he
    · rename_i hxn
      subst hxn
      obtain ⟨t', h1, o, h2, h3⟩ := hts 0 (by simp)
      simp only [List.getElem?_cons_zero, Option.some.injEq] at h1
      subst h1
      refine lv_tableIn (off := o) hx hb hd (by omega) (by omega) ?_ h3 (hk _ he)
      rw [hnI]
      have : ((n : Int) - lo).toNat = n - lo.toNat + 0 := by omega
      rw [this]
      exact h2
    · rename_i hxn
      refine am_sw_ok hx hb hd h0 hh hm hdt hk ts (n + 1) (by omega) (by omega) (fun j hj => ?_) ?_ he
      · obtain ⟨t', h1, o, h2, h3⟩ := hts (j + 1) (by simp; omega)
        refine ⟨t', by simpa using h1, o, ?_, h3⟩
        rw [← h2]
        congr 1
        omega
      · rcases ho with ho | ho
        · exact .inl ho
        · right
          have : x.toInt ≠ n := fun q => hxn (Int32.toInt_inj.mp (by rw [hnI]; exact q))
          omega
set_option maxHeartbeats 4000000 in
theorem am_core_ok (hx : p.tables.exec = Jvm.exec) (hb : c.code = cc) (hT : am_TRok TR) {rt : Option FieldType} {i : Instr} {len pc nL : Nat} {tg : List Nat} (hd : decode cc pc = .ok (i, len)) (hln : am_lnok i len = true) (htg : am_tgok i pc tg = true) {ls : am_L} {st : List am_V} {rls : Array Slot} {rst : List Value} (hl : am_Lr (am_vr TR ad) nL ls rls) (hst : am_S2 (am_vr TR ad) st rst)
    {kh : Option α} {kr : Option am_V → Option α} {k : Nat → am_L → List am_V → Option α} (hnL : ls.length = nL) (he : am_core rt i (pc + len) tg ls st kh kr k = some res)
    (hk : ∀ q ls' st' rls' rst', k q ls' st' = some res → ls'.length = nL → am_Lr (am_vr TR ad) nL ls' rls' → am_S2 (am_vr TR ad) st' rst' → W p l e R s m args below meth c H locs cells slots Q (F0 m q rls' rst'))
    (hri : ∀ x y, i = .ireturn → len = 1 → ((rt = some .int ∧ y = x) ∨ (rt = some .boolean ∧ y = x &&& 1)) → kr (some (.inl (.int y))) = some res → W p l e R s m args below meth c H locs cells slots Q (F0 m pc rls [.int x]))
    (hrl : ∀ x, i = .lreturn → len = 1 → rt = some .long → kr (some (.inl (.long x))) = some res → W p l e R s m args below meth c H locs cells slots Q (F0 m pc rls [.long x]))
    (hra : ∀ v rv, i = .areturn → len = 1 → (∃ n, rt = some (.object n)) → ((∃ x, v = .inl (.ref x)) ∨ ∃ t, v = .inr t) → am_vr TR ad v rv → kr (some v) = some res → W p l e R s m args below meth c H locs cells slots Q (F0 m pc rls [rv]))
    (hrv : i = .return_ → len = 1 → rt = none → kr none = some res → W p l e R s m args below meth c H locs cells slots Q (F0 m pc rls []))
    (hh : kh = some res → W p l e R s m args below meth c H locs cells slots Q (F0 m pc rls rst)) : W p l e R s m args below meth c H locs cells slots Q (F0 m pc rls rst) := by
  have hc : ∀ v rv, am_vr TR ad v rv → rv.category = am_cat v := fun v rv h => am_vr_cat hT h
  have hs1 : ∀ (j : Nat) (v : am_V), (am_set1 ls j v).length = nL := fun j v => by unfold am_set1; rw [List.length_set, am_clr_len, hnL]
  have hs2 : ∀ (j : Nat) (v : am_V), (am_set2 ls j v).length = nL := fun j v => by unfold am_set2; rw [List.length_set, List.length_set, am_clr_len, hnL]
  have hlt : ∀ (j : Nat) (v : am_V), ls[j]? = some (some v) → j < nL := fun j v h => by rw [← hnL]; exact (List.getElem?_eq_some_iff.mp h).1
  cases i
  case iconst n =>
    dsimp only [am_core] at he
    obtain rfl : len = 1 := by simpa [am_lnok] using hln
    exact lv_iconst hx hb hd rfl (hk _ _ _ _ _ he hnL hl ⟨rfl, hst⟩)
  case bipush n =>
    dsimp only [am_core] at he
    simp only [am_lnok, Bool.and_eq_true, beq_iff_eq, decide_eq_true_eq] at hln
    obtain ⟨rfl, hv⟩ := hln
    exact lv_bipush hx hb hd hv (hk _ _ _ _ _ he hnL hl ⟨rfl, hst⟩)
  case sipush n =>
    dsimp only [am_core] at he
    simp only [am_lnok, Bool.and_eq_true, beq_iff_eq, decide_eq_true_eq] at hln
    obtain ⟨rfl, hv⟩ := hln
    exact lv_sipush hx hb hd hv (hk _ _ _ _ _ he hnL hl ⟨rfl, hst⟩)
  case lconst n =>
    dsimp only [am_core] at he
    obtain rfl : len = 1 := by simpa [am_lnok] using hln
    exact lv_lconst hx hb hd rfl (hk _ _ _ _ _ he hnL hl ⟨rfl, hst⟩)
  case aconst_null =>
    dsimp only [am_core] at he
    obtain rfl : len = 1 := by simpa [am_lnok] using hln
    exact lv_null hx hb hd (hk _ _ _ _ _ he hnL hl ⟨hT.1, hst⟩)
  case iload_n n =>
    dsimp only [am_core] at he
    obtain rfl : len = 1 := by simpa [am_lnok] using hln
    obtain ⟨x, h1, he⟩ := am_ldi_e he
    obtain ⟨rv, h2, rfl⟩ := am_Lr_at hl h1
    exact lv_iload_n hx hb hd rfl h2 (hk _ _ _ _ _ he hnL hl ⟨rfl, hst⟩)
  case iload n =>
    dsimp only [am_core] at he
    obtain rfl : len = 2 := by simpa [am_lnok] using hln
    obtain ⟨x, h1, he⟩ := am_ldi_e he
    obtain ⟨rv, h2, rfl⟩ := am_Lr_at hl h1
    exact lv_iload hx hb hd h2 (hk _ _ _ _ _ he hnL hl ⟨rfl, hst⟩)
  case lload_n n =>
    dsimp only [am_core] at he
    obtain rfl : len = 1 := by simpa [am_lnok] using hln
    obtain ⟨x, h1, he⟩ := am_ldl_e he
    obtain ⟨rv, h2, rfl⟩ := am_Lr_at hl h1
    exact lv_lload_n hx hb hd rfl h2 (hk _ _ _ _ _ he hnL hl ⟨rfl, hst⟩)
  case lload n =>
    dsimp only [am_core] at he
    obtain rfl : len = 2 := by simpa [am_lnok] using hln
    obtain ⟨x, h1, he⟩ := am_ldl_e he
    obtain ⟨rv, h2, rfl⟩ := am_Lr_at hl h1
    exact lv_lload hx hb hd h2 (hk _ _ _ _ _ he hnL hl ⟨rfl, hst⟩)
  case aload_n n =>
    dsimp only [am_core] at he
    obtain rfl : len = 1 := by simpa [am_lnok] using hln
    obtain ⟨v, h1, hv, he⟩ := am_lda_e he
    obtain ⟨rv, h2, h3⟩ := am_Lr_at hl h1
    rcases hv with ⟨y, rfl⟩ | ⟨t, rfl⟩
    · obtain rfl : rv = .ref (ad y) := h3
      exact lv_aload_n hx hb hd rfl h2 (hk _ _ _ _ _ he hnL hl ⟨rfl, hst⟩)
    · rcases hT.2 t rv h3 with ⟨-, rfl⟩ | ⟨-, a, rfl⟩
      · exact lv_aload_nN hx hb hd rfl h2 (hk _ _ _ _ _ he hnL hl ⟨h3, hst⟩)
      · exact lv_aload_n hx hb hd rfl h2 (hk _ _ _ _ _ he hnL hl ⟨h3, hst⟩)
  case aload n =>
    dsimp only [am_core] at he
    obtain rfl : len = 2 := by simpa [am_lnok] using hln
    obtain ⟨v, h1, hv, he⟩ := am_lda_e he
    obtain ⟨rv, h2, h3⟩ := am_Lr_at hl h1
    rcases hv with ⟨y, rfl⟩ | ⟨t, rfl⟩
    · obtain rfl : rv = .ref (ad y) := h3
      exact lv_aload hx hb hd h2 (hk _ _ _ _ _ he hnL hl ⟨rfl, hst⟩)
    · rcases hT.2 t rv h3 with ⟨-, rfl⟩ | ⟨-, a, rfl⟩
      · exact lv_aloadN hx hb hd h2 (hk _ _ _ _ _ he hnL hl ⟨h3, hst⟩)
      · exact lv_aload hx hb hd h2 (hk _ _ _ _ _ he hnL hl ⟨h3, hst⟩)
  case istore_n n =>
    dsimp only [am_core] at he
    obtain rfl : len = 1 := by simpa [am_lnok] using hln
    obtain ⟨x, r, rfl, he⟩ := am_i1_e he
    obtain ⟨hn, he⟩ := am_bd_e he
    rw [hnL] at hn
    obtain ⟨rr, rfl, hs9⟩ := am_S2_i hst
    obtain ⟨rl, h1, h2, h3⟩ := hl
    exact lv_istore_n hx hb hd rfl h1 hn rfl (fun ls' hl' => hk _ _ _ _ _ he (hs1 _ _) (am_Lr_set1 hc hn h2 h3 (am_vr_i _ _ _) hl') hs9)
  case istore n =>
    dsimp only [am_core] at he
    obtain rfl : len = 2 := by simpa [am_lnok] using hln
    obtain ⟨x, r, rfl, he⟩ := am_i1_e he
    obtain ⟨hn, he⟩ := am_bd_e he
    rw [hnL] at hn
    obtain ⟨rr, rfl, hs9⟩ := am_S2_i hst
    obtain ⟨rl, h1, h2, h3⟩ := hl
    exact lv_istore hx hb hd h1 hn rfl (fun ls' hl' => hk _ _ _ _ _ he (hs1 _ _) (am_Lr_set1 hc hn h2 h3 (am_vr_i _ _ _) hl') hs9)
  case lstore_n n =>
    dsimp only [am_core] at he
    obtain rfl : len = 1 := by simpa [am_lnok] using hln
    obtain ⟨x, r, rfl, he⟩ := am_l1_e he
    obtain ⟨hn, he⟩ := am_bd_e he
    rw [hnL] at hn
    obtain ⟨rr, rfl, hs9⟩ := am_S2_l hst
    obtain ⟨rl, h1, h2, h3⟩ := hl
    exact lv_lstore_n hx hb hd rfl h1 hn rfl (fun ls' hl' => hk _ _ _ _ _ he (hs2 _ _) (am_Lr_set2 hc h2 h3 (am_vr_l _ _ _) hl') hs9)
  case lstore n =>
    dsimp only [am_core] at he
    obtain rfl : len = 2 := by simpa [am_lnok] using hln
    obtain ⟨x, r, rfl, he⟩ := am_l1_e he
    obtain ⟨hn, he⟩ := am_bd_e he
    rw [hnL] at hn
    obtain ⟨rr, rfl, hs9⟩ := am_S2_l hst
    obtain ⟨rl, h1, h2, h3⟩ := hl
    exact lv_lstore hx hb hd h1 hn rfl (fun ls' hl' => hk _ _ _ _ _ he (hs2 _ _) (am_Lr_set2 hc h2 h3 (am_vr_l _ _ _) hl') hs9)
  case astore_n n =>
    dsimp only [am_core] at he
    obtain rfl : len = 1 := by simpa [am_lnok] using hln
    obtain ⟨v, r, rfl, hv, he⟩ := am_a1_e he
    obtain ⟨hn, he⟩ := am_bd_e he
    rw [hnL] at hn
    obtain ⟨rv, rr, rfl, h3v, hs9⟩ := am_S2_c hst
    obtain ⟨rl, h1, h2, h3⟩ := hl
    rcases hv with ⟨y, rfl⟩ | ⟨t, rfl⟩
    · obtain rfl : rv = .ref (ad y) := h3v
      exact lv_astore_n hx hb hd rfl h1 hn rfl (fun ls' hl' => hk _ _ _ _ _ he (hs1 _ _) (am_Lr_set1 hc hn h2 h3 (am_vr_r _ _ _) hl') hs9)
    · rcases hT.2 t rv h3v with ⟨-, rfl⟩ | ⟨-, a, rfl⟩
      · exact lv_astore_nN hx hb hd rfl h1 hn rfl (fun ls' hl' => hk _ _ _ _ _ he (hs1 _ _) (am_Lr_set1 hc hn h2 h3 h3v hl') hs9)
      · exact lv_astore_n hx hb hd rfl h1 hn rfl (fun ls' hl' => hk _ _ _ _ _ he (hs1 _ _) (am_Lr_set1 hc hn h2 h3 h3v hl') hs9)
  case astore n =>
    dsimp only [am_core] at he
    obtain rfl : len = 2 := by simpa [am_lnok] using hln
    obtain ⟨v, r, rfl, hv, he⟩ := am_a1_e he
    obtain ⟨hn, he⟩ := am_bd_e he
    rw [hnL] at hn
    obtain ⟨rv, rr, rfl, h3v, hs9⟩ := am_S2_c hst
    obtain ⟨rl, h1, h2, h3⟩ := hl
    rcases hv with ⟨y, rfl⟩ | ⟨t, rfl⟩
    · obtain rfl : rv = .ref (ad y) := h3v
      exact lv_astore hx hb hd h1 hn rfl (fun ls' hl' => hk _ _ _ _ _ he (hs1 _ _) (am_Lr_set1 hc hn h2 h3 (am_vr_r _ _ _) hl') hs9)
    · rcases hT.2 t rv h3v with ⟨-, rfl⟩ | ⟨-, a, rfl⟩
      · exact lv_astoreN hx hb hd h1 hn rfl (fun ls' hl' => hk _ _ _ _ _ he (hs1 _ _) (am_Lr_set1 hc hn h2 h3 h3v hl') hs9)
      · exact lv_astore hx hb hd h1 hn rfl (fun ls' hl' => hk _ _ _ _ _ he (hs1 _ _) (am_Lr_set1 hc hn h2 h3 h3v hl') hs9)
  case iinc n d =>
    dsimp only [am_core] at he
    obtain rfl : len = 3 := by simpa [am_lnok] using hln
    obtain ⟨x, h1, he⟩ := am_ldi_e he
    have hn := hlt _ _ h1
    obtain ⟨rl, h0, h2, h3⟩ := hl
    obtain ⟨rv, h4, rfl⟩ := h3 _ _ h1
    obtain ⟨j, hj⟩ := List.getElem?_of_mem h4
    exact lv_iinc hx hb hd h0 hj rfl hn rfl (fun ls' hl' => hk _ _ _ _ _ he (hs1 _ _) (am_Lr_set1 hc hn h2 h3 (am_vr_i _ _ _) hl') hst)
  case iadd =>
    dsimp only [am_core] at he
    obtain rfl : len = 1 := by simpa [am_lnok] using hln
    obtain ⟨x, y, r, rfl, he⟩ := am_i2_e he
    obtain ⟨r1, rfl, hs8⟩ := am_S2_i hst
    obtain ⟨rr, rfl, hs9⟩ := am_S2_i hs8
    exact lv_iadd hx hb hd (hk _ _ _ _ _ he hnL hl ⟨rfl, hs9⟩)
  case isub =>
    dsimp only [am_core] at he
    obtain rfl : len = 1 := by simpa [am_lnok] using hln
    obtain ⟨x, y, r, rfl, he⟩ := am_i2_e he
    obtain ⟨r1, rfl, hs8⟩ := am_S2_i hst
    obtain ⟨rr, rfl, hs9⟩ := am_S2_i hs8
    exact lv_isub hx hb hd (hk _ _ _ _ _ he hnL hl ⟨rfl, hs9⟩)
  case imul =>
    dsimp only [am_core] at he
    obtain rfl : len = 1 := by simpa [am_lnok] using hln
    obtain ⟨x, y, r, rfl, he⟩ := am_i2_e he
    obtain ⟨r1, rfl, hs8⟩ := am_S2_i hst
    obtain ⟨rr, rfl, hs9⟩ := am_S2_i hs8
    exact lv_imul hx hb hd (hk _ _ _ _ _ he hnL hl ⟨rfl, hs9⟩)
  case iand =>
    dsimp only [am_core] at he
    obtain rfl : len = 1 := by simpa [am_lnok] using hln
    obtain ⟨x, y, r, rfl, he⟩ := am_i2_e he
    obtain ⟨r1, rfl, hs8⟩ := am_S2_i hst
    obtain ⟨rr, rfl, hs9⟩ := am_S2_i hs8
    exact lv_iand hx hb hd (hk _ _ _ _ _ he hnL hl ⟨rfl, hs9⟩)
  case ior =>
    dsimp only [am_core] at he
    obtain rfl : len = 1 := by simpa [am_lnok] using hln
    obtain ⟨x, y, r, rfl, he⟩ := am_i2_e he
    obtain ⟨r1, rfl, hs8⟩ := am_S2_i hst
    obtain ⟨rr, rfl, hs9⟩ := am_S2_i hs8
    exact lv_ior hx hb hd (hk _ _ _ _ _ he hnL hl ⟨rfl, hs9⟩)
  case ixor =>
    dsimp only [am_core] at he
    obtain rfl : len = 1 := by simpa [am_lnok] using hln
    obtain ⟨x, y, r, rfl, he⟩ := am_i2_e he
    obtain ⟨r1, rfl, hs8⟩ := am_S2_i hst
    obtain ⟨rr, rfl, hs9⟩ := am_S2_i hs8
    exact lv_ixor hx hb hd (hk _ _ _ _ _ he hnL hl ⟨rfl, hs9⟩)
  case ishl =>
    dsimp only [am_core] at he
    obtain rfl : len = 1 := by simpa [am_lnok] using hln
    obtain ⟨x, y, r, rfl, he⟩ := am_i2_e he
    obtain ⟨r1, rfl, hs8⟩ := am_S2_i hst
    obtain ⟨rr, rfl, hs9⟩ := am_S2_i hs8
    exact lv_ishl hx hb hd (hk _ _ _ _ _ he hnL hl ⟨rfl, hs9⟩)
  case ishr =>
    dsimp only [am_core] at he
    obtain rfl : len = 1 := by simpa [am_lnok] using hln
    obtain ⟨x, y, r, rfl, he⟩ := am_i2_e he
    obtain ⟨r1, rfl, hs8⟩ := am_S2_i hst
    obtain ⟨rr, rfl, hs9⟩ := am_S2_i hs8
    exact lv_ishr hx hb hd (hk _ _ _ _ _ he hnL hl ⟨rfl, hs9⟩)
  case idiv =>
    dsimp only [am_core] at he
    obtain rfl : len = 1 := by simpa [am_lnok] using hln
    obtain ⟨x, y, r, rfl, he⟩ := am_i2_e he
    obtain ⟨r1, rfl, hs8⟩ := am_S2_i hst
    obtain ⟨rr, rfl, hs9⟩ := am_S2_i hs8
    obtain ⟨hne, he⟩ := am_dz_e he
    exact lv_idiv hx hb hd hne (hk _ _ _ _ _ he hnL hl ⟨rfl, hs9⟩)
  case irem =>
    dsimp only [am_core] at he
    obtain rfl : len = 1 := by simpa [am_lnok] using hln
    obtain ⟨x, y, r, rfl, he⟩ := am_i2_e he
    obtain ⟨r1, rfl, hs8⟩ := am_S2_i hst
    obtain ⟨rr, rfl, hs9⟩ := am_S2_i hs8
    obtain ⟨hne, he⟩ := am_dz_e he
    exact lv_irem hx hb hd hne (hk _ _ _ _ _ he hnL hl ⟨rfl, hs9⟩)
  case ladd =>
    dsimp only [am_core] at he
    obtain rfl : len = 1 := by simpa [am_lnok] using hln
    obtain ⟨x, y, r, rfl, he⟩ := am_l2_e he
    obtain ⟨r1, rfl, hs8⟩ := am_S2_l hst
    obtain ⟨rr, rfl, hs9⟩ := am_S2_l hs8
    exact lv_ladd hx hb hd (hk _ _ _ _ _ he hnL hl ⟨rfl, hs9⟩)
  case lsub =>
    dsimp only [am_core] at he
    obtain rfl : len = 1 := by simpa [am_lnok] using hln
    obtain ⟨x, y, r, rfl, he⟩ := am_l2_e he
    obtain ⟨r1, rfl, hs8⟩ := am_S2_l hst
    obtain ⟨rr, rfl, hs9⟩ := am_S2_l hs8
    exact lv_lsub hx hb hd (hk _ _ _ _ _ he hnL hl ⟨rfl, hs9⟩)
  case lmul =>
    dsimp only [am_core] at he
    obtain rfl : len = 1 := by simpa [am_lnok] using hln
    obtain ⟨x, y, r, rfl, he⟩ := am_l2_e he
    obtain ⟨r1, rfl, hs8⟩ := am_S2_l hst
    obtain ⟨rr, rfl, hs9⟩ := am_S2_l hs8
    exact lv_lmul hx hb hd (hk _ _ _ _ _ he hnL hl ⟨rfl, hs9⟩)
  case land =>
    dsimp only [am_core] at he
    obtain rfl : len = 1 := by simpa [am_lnok] using hln
    obtain ⟨x, y, r, rfl, he⟩ := am_l2_e he
    obtain ⟨r1, rfl, hs8⟩ := am_S2_l hst
    obtain ⟨rr, rfl, hs9⟩ := am_S2_l hs8
    exact lv_land hx hb hd (hk _ _ _ _ _ he hnL hl ⟨rfl, hs9⟩)
  case lor =>
    dsimp only [am_core] at he
    obtain rfl : len = 1 := by simpa [am_lnok] using hln
    obtain ⟨x, y, r, rfl, he⟩ := am_l2_e he
    obtain ⟨r1, rfl, hs8⟩ := am_S2_l hst
    obtain ⟨rr, rfl, hs9⟩ := am_S2_l hs8
    exact lv_lor hx hb hd (hk _ _ _ _ _ he hnL hl ⟨rfl, hs9⟩)
  case ldiv =>
    dsimp only [am_core] at he
    obtain rfl : len = 1 := by simpa [am_lnok] using hln
    obtain ⟨x, y, r, rfl, he⟩ := am_l2_e he
    obtain ⟨r1, rfl, hs8⟩ := am_S2_l hst
    obtain ⟨rr, rfl, hs9⟩ := am_S2_l hs8
    obtain ⟨hne, he⟩ := am_dzl_e he
    exact lv_ldiv hx hb hd hne (hk _ _ _ _ _ he hnL hl ⟨rfl, hs9⟩)
  case lrem =>
    dsimp only [am_core] at he
    obtain rfl : len = 1 := by simpa [am_lnok] using hln
    obtain ⟨x, y, r, rfl, he⟩ := am_l2_e he
    obtain ⟨r1, rfl, hs8⟩ := am_S2_l hst
    obtain ⟨rr, rfl, hs9⟩ := am_S2_l hs8
    obtain ⟨hne, he⟩ := am_dzl_e he
    exact lv_lrem hx hb hd hne (hk _ _ _ _ _ he hnL hl ⟨rfl, hs9⟩)
  case lshl =>
    dsimp only [am_core] at he
    obtain rfl : len = 1 := by simpa [am_lnok] using hln
    obtain ⟨x, y, r, rfl, he⟩ := am_il_e he
    obtain ⟨r1, rfl, hs8⟩ := am_S2_i hst
    obtain ⟨rr, rfl, hs9⟩ := am_S2_l hs8
    exact lv_lshl hx hb hd rfl (hk _ _ _ _ _ he hnL hl ⟨rfl, hs9⟩)
  case lcmp =>
    dsimp only [am_core] at he
    obtain rfl : len = 1 := by simpa [am_lnok] using hln
    obtain ⟨x, y, r, rfl, he⟩ := am_l2_e he
    obtain ⟨r1, rfl, hs8⟩ := am_S2_l hst
    obtain ⟨rr, rfl, hs9⟩ := am_S2_l hs8
    exact W.lcmp hx hb hd (hk _ _ _ _ _ he hnL hl ⟨rfl, hs9⟩)
  case i2l =>
    dsimp only [am_core] at he
    obtain rfl : len = 1 := by simpa [am_lnok] using hln
    obtain ⟨x, r, rfl, he⟩ := am_i1_e he
    obtain ⟨rr, rfl, hs9⟩ := am_S2_i hst
    exact lv_i2l hx hb hd rfl (hk _ _ _ _ _ he hnL hl ⟨rfl, hs9⟩)
  case i2b =>
    dsimp only [am_core] at he
    obtain rfl : len = 1 := by simpa [am_lnok] using hln
    obtain ⟨x, r, rfl, he⟩ := am_i1_e he
    obtain ⟨rr, rfl, hs9⟩ := am_S2_i hst
    exact lv_i2b hx hb hd rfl (hk _ _ _ _ _ he hnL hl ⟨rfl, hs9⟩)
  case i2c =>
    dsimp only [am_core] at he
    obtain rfl : len = 1 := by simpa [am_lnok] using hln
    obtain ⟨x, r, rfl, he⟩ := am_i1_e he
    obtain ⟨rr, rfl, hs9⟩ := am_S2_i hst
    exact lv_i2c hx hb hd rfl (hk _ _ _ _ _ he hnL hl ⟨rfl, hs9⟩)
  case dup =>
    dsimp only [am_core] at he
    obtain rfl : len = 1 := by simpa [am_lnok] using hln
    obtain ⟨v, r, rfl, hv, he⟩ := am_w1_e he
    obtain ⟨rv, rr, rfl, h3v, hs9⟩ := am_S2_c hst
    exact lv_dup hx hb hd ((hc _ _ h3v).trans hv) (hk _ _ _ _ _ he hnL hl ⟨h3v, h3v, hs9⟩)
  case pop =>
    dsimp only [am_core] at he
    obtain rfl : len = 1 := by simpa [am_lnok] using hln
    obtain ⟨v, r, rfl, hv, he⟩ := am_w1_e he
    obtain ⟨rv, rr, rfl, h3v, hs9⟩ := am_S2_c hst
    exact lv_pop hx hb hd ((hc _ _ h3v).trans hv) (hk _ _ _ _ _ he hnL hl hs9)
  case dup2 =>
    dsimp only [am_core] at he
    obtain rfl : len = 1 := by simpa [am_lnok] using hln
    obtain ⟨v, r, rfl, hv, he⟩ := am_w1_e he
    obtain ⟨rv, rr, rfl, h3v, hs9⟩ := am_S2_c hst
    obtain ⟨u, r, rfl, hu, he⟩ := am_w1_e he
    obtain ⟨ru, rr, rfl, h3u, hs8⟩ := am_S2_c hs9
    exact lv_dup2_11 hx hb hd ((hc _ _ h3v).trans hv) ((hc _ _ h3u).trans hu) (hk _ _ _ _ _ he hnL hl ⟨h3v, h3u, h3v, h3u, hs8⟩)
  case if_icmp cnd off =>
    dsimp only [am_core] at he
    obtain rfl : len = 3 := by simpa [am_lnok] using hln
    obtain ⟨x, y, r, rfl, he⟩ := am_i2_e he
    obtain ⟨r1, rfl, hs8⟩ := am_S2_i hst
    obtain ⟨rr, rfl, hs9⟩ := am_S2_i hs8
    obtain ⟨t, ts, rfl, he8⟩ := am_tg_e he
    have ht : (pc : Int) + off = (t : Int) := by
      cases ts with
      | nil => simpa [am_tgok] using htg
      | cons _ _ => simp [am_tgok] at htg
    cases cnd
    case eq =>
      simp only [am_cmp] at he8
      refine lv_icmp_eq hx hb hd ht (fun h => ?_) (fun h => ?_)
      · rw [if_pos h] at he8; exact hk _ _ _ _ _ he8 hnL hl hs9
      · rw [if_neg h] at he8; exact hk _ _ _ _ _ he8 hnL hl hs9
    case ne =>
      simp only [am_cmp] at he8
      refine lv_icmp_ne hx hb hd ht (fun h => ?_) (fun h => ?_)
      · rw [if_neg h] at he8; exact hk _ _ _ _ _ he8 hnL hl hs9
      · rw [if_pos h] at he8; exact hk _ _ _ _ _ he8 hnL hl hs9
    case lt =>
      simp only [am_cmp] at he8
      refine lv_icmp_lt hx hb hd ht (fun h => ?_) (fun h => ?_)
      · rw [if_pos h] at he8; exact hk _ _ _ _ _ he8 hnL hl hs9
      · rw [if_neg h] at he8; exact hk _ _ _ _ _ he8 hnL hl hs9
    case ge =>
      simp only [am_cmp] at he8
      refine lv_icmp_ge hx hb hd ht (fun h => ?_) (fun h => ?_)
      · rw [if_pos h] at he8; exact hk _ _ _ _ _ he8 hnL hl hs9
      · rw [if_neg h] at he8; exact hk _ _ _ _ _ he8 hnL hl hs9
    case gt =>
      simp only [am_cmp] at he8
      refine lv_icmp_gt hx hb hd ht (fun h => ?_) (fun h => ?_)
      · rw [if_pos h] at he8; exact hk _ _ _ _ _ he8 hnL hl hs9
      · rw [if_neg h] at he8; exact hk _ _ _ _ _ he8 hnL hl hs9
    case le =>
      simp only [am_cmp] at he8
      refine lv_icmp_le hx hb hd ht (fun h => ?_) (fun h => ?_)
      · rw [if_pos h] at he8; exact hk _ _ _ _ _ he8 hnL hl hs9
      · rw [if_neg h] at he8; exact hk _ _ _ _ _ he8 hnL hl hs9
  case ifCond cnd off =>
    dsimp only [am_core] at he
    obtain rfl : len = 3 := by simpa [am_lnok] using hln
    obtain ⟨x, r, rfl, he⟩ := am_i1_e he
    obtain ⟨rr, rfl, hs9⟩ := am_S2_i hst
    obtain ⟨t, ts, rfl, he8⟩ := am_tg_e he
    have ht : (pc : Int) + off = (t : Int) := by
      cases ts with
      | nil => simpa [am_tgok] using htg
      | cons _ _ => simp [am_tgok] at htg
    cases cnd
    case eq =>
      simp only [am_cmp] at he8
      refine lv_if_eq hx hb hd ht (fun h => ?_) (fun h => ?_)
      · rw [if_pos h] at he8; exact hk _ _ _ _ _ he8 hnL hl hs9
      · rw [if_neg h] at he8; exact hk _ _ _ _ _ he8 hnL hl hs9
    case ne =>
      simp only [am_cmp] at he8
      refine lv_if_ne hx hb hd ht (fun h => ?_) (fun h => ?_)
      · rw [if_neg h] at he8; exact hk _ _ _ _ _ he8 hnL hl hs9
      · rw [if_pos h] at he8; exact hk _ _ _ _ _ he8 hnL hl hs9
    case lt =>
      simp only [am_cmp] at he8
      refine lv_if_lt hx hb hd ht (fun h => ?_) (fun h => ?_)
      · rw [if_pos h] at he8; exact hk _ _ _ _ _ he8 hnL hl hs9
      · rw [if_neg h] at he8; exact hk _ _ _ _ _ he8 hnL hl hs9
    case ge =>
      simp only [am_cmp] at he8
      refine lv_if_ge hx hb hd ht (fun h => ?_) (fun h => ?_)
      · rw [if_pos h] at he8; exact hk _ _ _ _ _ he8 hnL hl hs9
      · rw [if_neg h] at he8; exact hk _ _ _ _ _ he8 hnL hl hs9
    case gt =>
      simp only [am_cmp] at he8
      refine lv_if_gt hx hb hd ht (fun h => ?_) (fun h => ?_)
      · rw [if_pos h] at he8; exact hk _ _ _ _ _ he8 hnL hl hs9
      · rw [if_neg h] at he8; exact hk _ _ _ _ _ he8 hnL hl hs9
    case le =>
      simp only [am_cmp] at he8
      refine lv_if_le hx hb hd ht (fun h => ?_) (fun h => ?_)
      · rw [if_pos h] at he8; exact hk _ _ _ _ _ he8 hnL hl hs9
      · rw [if_neg h] at he8; exact hk _ _ _ _ _ he8 hnL hl hs9
  case ifnull off =>
    dsimp only [am_core] at he
    obtain rfl : len = 3 := by simpa [am_lnok] using hln
    obtain ⟨v, r, rfl, hv, he⟩ := am_a1_e he
    obtain ⟨rv, rr, rfl, h3v, hs9⟩ := am_S2_c hst
    obtain ⟨t, ts, rfl, he8⟩ := am_tg_e he
    have ht : (pc : Int) + off = (t : Int) := by
      cases ts with
      | nil => simpa [am_tgok] using htg
      | cons _ _ => simp [am_tgok] at htg
    rcases hv with ⟨y, rfl⟩ | ⟨q, rfl⟩
    · obtain rfl : rv = .ref (ad y) := h3v
      exact lv_ifnull hx hb hd (hk _ _ _ _ _ he8 hnL hl hs9)
    · rcases hT.2 q rv h3v with ⟨hq, rfl⟩ | ⟨hq, a, rfl⟩
      · simp only [am_nul, hq, cond_true, cond_false] at he8
        exact lv_ifnullN hx hb hd ht (hk _ _ _ _ _ he8 hnL hl hs9)
      · simp only [am_nul, hq, cond_true, cond_false] at he8
        exact lv_ifnull hx hb hd (hk _ _ _ _ _ he8 hnL hl hs9)
  case ifnonnull off =>
    dsimp only [am_core] at he
    obtain rfl : len = 3 := by simpa [am_lnok] using hln
    obtain ⟨v, r, rfl, hv, he⟩ := am_a1_e he
    obtain ⟨rv, rr, rfl, h3v, hs9⟩ := am_S2_c hst
    obtain ⟨t, ts, rfl, he8⟩ := am_tg_e he
    have ht : (pc : Int) + off = (t : Int) := by
      cases ts with
      | nil => simpa [am_tgok] using htg
      | cons _ _ => simp [am_tgok] at htg
    rcases hv with ⟨y, rfl⟩ | ⟨q, rfl⟩
    · obtain rfl : rv = .ref (ad y) := h3v
      exact lv_ifnonnull hx hb hd ht (hk _ _ _ _ _ he8 hnL hl hs9)
    · rcases hT.2 q rv h3v with ⟨hq, rfl⟩ | ⟨hq, a, rfl⟩
      · simp only [am_nul, hq, cond_true, cond_false] at he8
        exact lv_ifnonnullN hx hb hd (hk _ _ _ _ _ he8 hnL hl hs9)
      · simp only [am_nul, hq, cond_true, cond_false] at he8
        exact lv_ifnonnull hx hb hd ht (hk _ _ _ _ _ he8 hnL hl hs9)
  case goto off =>
    dsimp only [am_core] at he
    obtain rfl : len = 3 := by simpa [am_lnok] using hln
    obtain ⟨t, ts, rfl, he8⟩ := am_tg_e he
    have ht : (pc : Int) + off = (t : Int) := by
      cases ts with
      | nil => simpa [am_tgok] using htg
      | cons _ _ => simp [am_tgok] at htg
    exact lv_goto hx hb hd ht (hk _ _ _ _ _ he8 hnL hl hst)
  case tableswitch dflt lo hi offs =>
    dsimp only [am_core] at he
    obtain ⟨x, r, rfl, he⟩ := am_i1_e he
    obtain ⟨rr, rfl, hs9⟩ := am_S2_i hst
    cases tg with
    | nil => cases he
    | cons d ts =>
      simp only [am_tgok, Bool.and_eq_true, decide_eq_true_eq, List.map_cons, beq_iff_eq, List.cons.injEq] at htg
      obtain ⟨⟨⟨h0, hh1⟩, hm⟩, hdt, hts⟩ := htg
      have hlen : offs.size = ts.length := by have := congrArg List.length hts; simpa using this
      refine am_sw_ok hx hb hd h0 hh1 hm hdt (fun t ht => hk _ _ _ _ _ ht hnL hl hs9) ts lo.toNat (by omega) (Nat.le_refl _) (fun j hj => ?_) (by omega) he
      have h1 : (ts.map (fun (t : Nat) => (t : Int)))[j]? = (offs.toList.map (fun o => (pc : Int) + o))[j]? := by rw [hts]
      rw [List.getElem?_map, List.getElem?_map, List.getElem?_eq_getElem hj, List.getElem?_eq_getElem (by simpa [hlen] using hj)] at h1
      simp only [Option.map_some, Option.some.injEq] at h1
      refine ⟨ts[j], List.getElem?_eq_getElem hj, offs.toList[j]'(by simpa [hlen] using hj), ?_, h1.symm⟩
      rw [Nat.sub_self, Nat.zero_add, ← Array.getElem?_toList]
      exact List.getElem?_eq_getElem _
  case ireturn =>
    dsimp only [am_core] at he
    obtain rfl : len = 1 := by simpa [am_lnok] using hln
    obtain ⟨x, r, rfl, he⟩ := am_i1_e he
    obtain ⟨rr, rfl, hs9⟩ := am_S2_i hst
    cases r with
    | nil =>
      obtain rfl := am_S2_n hs9
      obtain ⟨y, hy, he⟩ := am_kri_e he
      exact hri x y rfl rfl hy he
    | cons _ _ => cases he
  case lreturn =>
    dsimp only [am_core] at he
    obtain rfl : len = 1 := by simpa [am_lnok] using hln
    obtain ⟨x, r, rfl, he⟩ := am_l1_e he
    obtain ⟨rr, rfl, hs9⟩ := am_S2_l hst
    cases r with
    | nil =>
      obtain rfl := am_S2_n hs9
      obtain ⟨hy, he⟩ := am_krl_e he
      exact hrl x rfl rfl hy he
    | cons _ _ => cases he
  case areturn =>
    dsimp only [am_core] at he
    obtain rfl : len = 1 := by simpa [am_lnok] using hln
    obtain ⟨v, r, rfl, hv, he⟩ := am_a1_e he
    obtain ⟨rv, rr, rfl, h3v, hs9⟩ := am_S2_c hst
    cases r with
    | nil =>
      obtain rfl := am_S2_n hs9
      obtain ⟨hy, he⟩ := am_kra_e he
      exact hra v rv rfl rfl hy hv h3v he
    | cons _ _ => cases he
  case return_ =>
    dsimp only [am_core] at he
    obtain rfl : len = 1 := by simpa [am_lnok] using hln
    cases st with
    | nil =>
      obtain rfl := am_S2_n hst
      obtain ⟨hy, he⟩ := am_krv_e he
      exact hrv rfl rfl hy he
    | cons _ _ => cases he
  all_goals exact hh he
end
