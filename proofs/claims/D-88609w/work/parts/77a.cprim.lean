set_option maxRecDepth 16384
/-! WHAT THE MACHINE DOESN'T RUN: the lists' members and new nodes, over the component's world. -/
theorem rm_mono {s : State} {pl : Platform} {r r' : Room} (h : s.hasRoom pl r' = true) (hr : r.frames ≤ r'.frames ∧ r.cells ≤ r'.cells ∧ r.slots ≤ r'.slots ∧ r.locals ≤ r'.locals) : s.hasRoom pl r = true := by
  obtain ⟨r1, r2, r3, r4⟩ := hr
  unfold State.hasRoom at h ⊢
  simp only [Bool.and_eq_true, decide_eq_true_eq] at h ⊢
  obtain ⟨⟨⟨⟨h1, h2, h3, h4, h5, h6⟩, h7⟩, h8⟩, h9⟩ := h
  exact ⟨⟨⟨⟨by omega, by omega, by omega, by omega, by omega, h6⟩, by omega⟩, by omega⟩, h9⟩
/-- a contract out of contracts that hang on the start -/
theorem xm_cons {l : Launch} {y : MethodName} {ws : List Cond} {R : Room} {Pc' : Array Value → State → Prop} {Qc' : Array Value → State → Outcome → State → Prop} {mc ms : Nat} {free' : Addr → Prop}
    (h : ∀ a U, Pc' a U → ∃ (rm : Room) (Pc : Array Value → State → Prop) (Qc : Array Value → State → Outcome → State → Prop) (free : Addr → Prop), Met l y ws rm Pc Qc mc ms free ∧ (rm.frames ≤ R.frames ∧ rm.cells ≤ R.cells ∧ rm.slots ≤ R.slots ∧ rm.locals ≤ R.locals) ∧ Pc a U ∧ (∀ o t, Qc a U o t → Qc' a U o t) ∧ ∀ q, free q → free' q) : xm_Met l y ws R Pc' Qc' mc ms free' := by
  intro p e ha hc hk s m args below hf happ hP hK
  obtain ⟨rm, Pc, Qc, free, hM, hr, hPc, hQ, hfr⟩ := h args s hP
  obtain ⟨a1, a2, a3, a4, a5, a6, a7, a8⟩ := (Spec.appliesLoose_iff hf).mp happ
  obtain ⟨n, o, h1, h2, h3, h4, L, h5, h6⟩ := xm_Met.of hM p e ha hc hk s m args below hf ((Spec.appliesLoose_iff hf).mpr ⟨a1, a2, a3, a4, a5, a6, rm_mono a7 hr, a8⟩) hPc hK
  exact ⟨n, o, h1, h2, h3, hQ _ _ h4, L, h5, fun q hq => hfr _ (h6 q hq)⟩
section
variable {D : va_G} {cl : List vw_C} {ad : Nat → Nat} {d : Nat → ClassId} {ι ι' : cx_I} {σ σ' : cs_S} {H H1 : Heap}
theorem va_P1 {p : Nat × va_E} (h : va_at D cl p H) : va_P D cl [p] H := by
  intro k r hk
  cases k with
  | zero => cases hk; exact h
  | succ k => cases hk
theorem va_P2 {p q : Nat × va_E} (h : va_at D cl p H) (h' : va_at D cl q H) : va_P D cl [p, q] H := by
  intro k r hk
  cases k with
  | zero => cases hk; exact h
  | succ k =>
    cases k with
    | zero => cases hk; exact h'
    | succ k => cases hk
/-- what stands in a cell, where the rest has changed -/
theorem cx_E_ch {c : Nat} (h1 : σ'.1 = σ.1) (h2 : σ'.2.1 = σ.2.1) (h3 : σ'.2.2.1 = σ.2.2.1) (hy : 400 ≤ c → c ≤ 999 → (cs_y σ').getD (c - 400) 0 = (cs_y σ).getD (c - 400) 0) (h115 : ι'.2.2.2 115 = ι.2.2.2 115) (ht : c ≤ 999 → cs_t σ' c = cs_t σ c ∧ cs_c σ' c = cs_c σ c ∧ ι'.2.1 (c + 1000) = ι.2.1 (c + 1000)) (ha : 1000 ≤ c → c ≤ 1999 → cs_c σ' (c - 1000) = cs_c σ (c - 1000) ∧ ι'.2.2.2 (c - 1000) = ι.2.2.2 (c - 1000)) (hn : ι'.2.2.1 c = ι.2.2.1 c) : cx_E ad d ι' σ' c = cx_E ad d ι σ c := by
  have e1 : cs_i σ' = cs_i σ := by funext j; unfold cs_i; rw [h1]
  have hl : (cs_isL c || (Nat.ble 400 c && Nat.ble c 999)) = true → cx_lf ad ι' σ' c = cx_lf ad ι σ c := by
    intro hh
    have h9 : c ≤ 999 := by
      rcases (Bool.or_eq_true _ _).mp hh with h | h
      · rcases cs_isL_e h with rfl | rfl <;> omega
      · exact Nat.le_of_ble_eq_true ((Bool.and_eq_true _ _).mp h).2
    obtain ⟨t1, t2, t3⟩ := ht h9
    unfold cx_lf
    rw [t1, t2, t3]
    by_cases h4 : 400 ≤ c
    · rw [hy h4 h9]
    · rw [nl_f (by omega)]
      rfl
  unfold cx_E cx_fs
  rw [e1, h2, h3, h115, hn]
  cases hh : (cs_isL c || (Nat.ble 400 c && Nat.ble c 999)) with
  | true => rw [hl hh]; cases h5 : (Nat.ble 1000 c && Nat.ble c 1999) <;> rfl
  | false =>
    cases h5 : (Nat.ble 1000 c && Nat.ble c 1999) with
    | true =>
      obtain ⟨b1, b2⟩ := (Bool.and_eq_true _ _).mp h5
      obtain ⟨z1, z2⟩ := ha (Nat.le_of_ble_eq_true b1) (Nat.le_of_ble_eq_true b2)
      rw [z1, z2]
      rfl
    | false => rfl
theorem cx_isl_b (hW : cx_inv ad ι σ) {c : Nat} (h : cx_isl σ c) : (c = 100 ∨ c = 106 ∨ 400 ≤ c ∧ c ≤ 900) ∧ c ∈ ι.1 := by
  obtain ⟨i1, i2, -⟩ := hW
  rcases h with rfl | rfl | ⟨n, rfl, hn⟩
  · exact ⟨.inl rfl, (i1 100 (by decide)).1⟩
  · exact ⟨.inr (.inl rfl), (i1 106 (by decide)).1⟩
  · have := (List.getElem?_eq_some_iff.mp hn).1
    exact ⟨.inr (.inr ⟨by omega, by omega⟩), i2.2.1 n this⟩
/-- a list's cell -/
theorem cx_E_l {c : Nat} (hb : c = 100 ∨ c = 106 ∨ 400 ≤ c ∧ c ≤ 900) : cx_E ad d ι σ c = .inr (10, cx_lf ad ι σ c) := by
  rcases hb with rfl | rfl | ⟨h1, h2⟩
  · rfl
  · rfl
  · unfold cx_E
    rw [nb_f (by omega : c ≠ 0), nb_f (by omega : c ≠ 105), nb_f (by omega : c ≠ 110), nb_f (by omega : c ≠ 115), nl_t h1, nl_t (by omega : c ≤ 999), nl_f (by omega : 220 < c)]
    have : cs_isW c = false := by
      unfold cs_isW
      rw [nb_f (by omega : c ≠ 103), nb_f (by omega : c ≠ 104)]
      rfl
    rw [this, Bool.and_false, Bool.and_self, Bool.or_true]
    rfl
theorem cx_lf_r {c : Nat} (h : cx_isl σ c) : cx_lf ad ι σ c = [.int (cs_c σ c).2, .ref (bif Nat.beq (cs_c σ c).1 0 then ad 190 else ι.2.1 (c + 1000)), .int (nI (cs_t σ c).length)] := by
  unfold cx_lf
  rcases h with rfl | rfl | ⟨n, rfl, hn⟩
  · rfl
  · rfl
  · have : (cs_y σ).getD (400 + n - 400) 0 = 1 := by
      rw [Nat.add_sub_cancel_left, List.getD_eq_getElem?_getD, hn]
      rfl
    rw [this, nl_t (by omega : 400 ≤ 400 + n)]
    rfl
/-- its array -/
theorem cx_E_a {c : Nat} (hb : c = 100 ∨ c = 106 ∨ 400 ≤ c ∧ c ≤ 900) : cx_E ad d ι σ (c + 1000) = .inl (d 8, (cs_c σ c).1, .inr (.inr (.inr (.inr (ι.2.2.2 c))))) := by
  rcases hb with rfl | rfl | ⟨h1, h2⟩
  · rfl
  · rfl
  · unfold cx_E
    rw [nb_f (by omega : c + 1000 ≠ 0), nb_f (by omega : c + 1000 ≠ 105), nb_f (by omega : c + 1000 ≠ 110), nb_f (by omega : c + 1000 ≠ 115), nl_t (by omega : 400 ≤ c + 1000), nl_f (by omega : 999 < c + 1000), nl_f (by omega : 220 < c + 1000), nl_t (by omega : 1000 ≤ c + 1000), nl_t (by omega : c + 1000 ≤ 1999), Nat.add_sub_cancel]
    have e1 : cs_isW (c + 1000) = false := by
      unfold cs_isW
      rw [nb_f (by omega : c + 1000 ≠ 103), nb_f (by omega : c + 1000 ≠ 104)]
      rfl
    have e2 : cs_isL (c + 1000) = false := by
      unfold cs_isL
      rw [nb_f (by omega : c + 1000 ≠ 100), nb_f (by omega : c + 1000 ≠ 106)]
      rfl
    rw [e1, e2, Bool.and_false, Bool.and_false, Bool.or_false]
    rfl
/-- the receiver of a list's member -/
theorem cs_lid_e {v : am_V} {rv : Value} {k : Nat → am_R cs_S} {r : am_O × cs_S} (hi : cx_inv ad ι σ) (hv : am_vr (cx_TR ad ι) ad v rv) (h : cs_lid σ v k = some r) : ∃ c, cx_isl σ c ∧ k c = some r ∧ rv = .ref (ι.2.1 c) := by
  unfold cs_lid at h
  split at h
  · rename_i c
    obtain ⟨h1, h2⟩ := bif_e h
    obtain ⟨i1, -⟩ := hi
    refine ⟨c, ?_, h2, ?_⟩
    · rcases cs_isL_e h1 with rfl | rfl
      · exact .inl rfl
      · exact .inr (.inl rfl)
    · have hv : rv = .ref (ad c) := hv
      rw [hv]
      rcases cs_isL_e h1 with rfl | rfl
      · rw [(i1 100 (by decide)).2]
      · rw [(i1 106 (by decide)).2]
  · rename_i n v0 x0 y0
    split at h
    · rename_i hn
      refine ⟨400 + n, .inr (.inr ⟨n, rfl, hn⟩), h, ?_⟩
      rcases hv with ⟨h9, -⟩ | ⟨h9, -⟩ | ⟨-, -, -, h9⟩
      · omega
      · omega
      · exact h9
    · cases h
  · cases h
/-- a node: its id -/
theorem cx_nid {t : Tr} {rv : Value} (ht : tr_nd t = true) (h : cx_TR ad ι t rv) : ∃ c, 10000 ≤ c ∧ c ∈ ι.1 ∧ rv = .ref (ι.2.1 c) := by
  cases t with
  | leaf => cases ht
  | inner n k v x y =>
    have hk : k ≤ 9 := Nat.le_of_ble_eq_true ht
    rcases h with ⟨-, c, rx, ry, h1, h2, h3, -⟩ | ⟨h, -⟩ | ⟨h, -⟩
    · exact ⟨c, h1, h2, h3⟩
    · omega
    · omega
/-- it may stand in a list -/
theorem cx_nany {A : Nat → Prop} {U : State} (hcl : cx_clok cl) (hW : cx_W D cl ad d ι σ H) (hK : cx_K D cl ad d A U) {t : Tr} {a : Nat} (ht : tr_nd t = true) (h : cx_TR ad ι t (.ref a)) : a < H.size ∧ va_Any "java/lang/Object" U H a := by
  obtain ⟨a', q0, rx, ry, he, hk9, hat, -, -⟩ := cx_nat (d := d) hW ht h
  cases he
  obtain ⟨-, hq9⟩ := cx_q_in _ hk9
  refine ⟨va_at.lt (cw_P hW.1 q0 _ hat), va_rAny hK.1 (cw_P hW.1) hat (hcl _ _ hq9) fun comp c0 hc h0 => ?_⟩
  obtain ⟨c1, t1, f1, f2, f3⟩ := Cond.castable_spec (va_Nw.use (A := #[]) rfl (cx_cast hK.2.1 _ hk9).2)
  cases h0.symm.trans f1
  cases hc.symm.trans f2
  exact f3
/-- a list has changed -/
theorem cx_W_pt {c q : Nat} {g' : Nat → Option Nat} {l' : List Tr} {cap' : Nat} {mc' : Int32} (hW : cx_W D cl ad d ι σ H) (hc : cx_isl σ c) (hq : (c + 1000 ∈ ι.1 ∧ q = ι.2.1 (c + 1000)) ∨ H.size ≤ q)
    (h1 : va_at D cl (ι.2.1 c, .inr (10, [.int mc', .ref q, .int (nI l'.length)])) H1) (h2 : va_at D cl (q, .inl (d 8, cap', .inr (.inr (.inr (.inr g'))))) H1) (hk : ∀ c' ∈ ι.1, c' ≠ c → c' ≠ c + 1000 → H1[ι.2.1 c']? = H[ι.2.1 c']?)
    (hcap : l'.length ≤ cap') (h10 : 10 ≤ cap') (h65 : cap' ≤ 65000) (hel : ∀ j, j < l'.length → tr_nd (l'.getD j .leaf) = true ∧ cx_TR ad ι (l'.getD j .leaf) (va_rf (g' j))) (hno : ∀ j, l'.length ≤ j → g' j = none) :
    ∃ ι', cx_le ι ι' ∧ cx_W D cl ad d ι' (cs_pt σ c l' (cap', mc')) H1 ∧ ∀ c ∈ ι'.1, cx_A ι H.size (ι'.2.1 c) := by
  obtain ⟨w1, w2, w3, hi⟩ := hW
  obtain ⟨hb, hci⟩ := cx_isl_b hi hc
  have hc1000 : c < 1000 := by omega
  obtain ⟨i1, i2, i3, i4, i5, i6, i7⟩ := hi
  have hids : ∃ ids' : List Nat, (∀ c' ∈ ι.1, c' ∈ ids') ∧ c + 1000 ∈ ids' ∧ (∀ c' ∈ ids', c' ∈ ι.1 ∨ c' = c + 1000) ∧ ids'.Nodup := by
    by_cases h : c + 1000 ∈ ι.1
    · exact ⟨ι.1, fun _ h => h, h, fun _ h => .inl h, w3⟩
    · refine ⟨ι.1 ++ [c + 1000], fun _ h => List.mem_append_left _ h, List.mem_append_right _ List.mem_cons_self, fun c' h' => ?_, ?_⟩
      · rcases List.mem_append.mp h' with h' | h'
        · exact .inl h'
        · exact .inr (List.mem_singleton.mp h')
      · refine List.nodup_append.mpr ⟨w3, List.nodup_cons.mpr ⟨by simp, List.nodup_nil⟩, fun a ha b hb2 e => ?_⟩
        rw [List.mem_singleton.mp hb2] at e
        exact h (e ▸ ha)
  obtain ⟨ids', s1, s2, s3, s4⟩ := hids
  have hle : cx_le ι (ids', va_up ι.2.1 (c + 1000) q, ι.2.2.1, va_up ι.2.2.2 c g') := ⟨s1, fun c' hc' h => va_up_ne _ _ (by omega), fun _ _ => rfl⟩
  have hqn : ∀ c' ∈ ι.1, c' ≠ c + 1000 → ι.2.1 c' ≠ q := by
    intro c' hc' hne e
    rcases hq with ⟨q1, q2⟩ | q1
    · exact hne (w2 c' hc' _ q1 (e.trans q2))
    · have := va_at.lt (w1 c' hc')
      dsimp only at this
      omega
  have t1 : cs_t (cs_pt σ c l' (cap', mc')) c = l' := va_up_self _ _ _
  have t2 : cs_c (cs_pt σ c l' (cap', mc')) c = (cap', mc') := va_up_self _ _ _
  have t3 : va_up ι.2.2.2 c g' c = g' := va_up_self _ _ _
  have t5 : ∀ j, j ≠ c → cs_c (cs_pt σ c l' (cap', mc')) j = cs_c σ j := fun j h => va_up_ne _ _ h
  have t6 : ∀ j, j ≠ c → va_up ι.2.2.2 c g' j = ι.2.2.2 j := fun j h => va_up_ne _ _ h
  have u1 : va_up ι.2.1 (c + 1000) q (c + 1000) = q := va_up_self _ _ _
  have u2 : ∀ c', c' ≠ c + 1000 → va_up ι.2.1 (c + 1000) q c' = ι.2.1 c' := fun c' h => va_up_ne _ _ h
  have hyl : ∀ c', cx_isl (cs_pt σ c l' (cap', mc')) c' ↔ cx_isl σ c' := fun c' => Iff.rfl
  refine ⟨(ids', va_up ι.2.1 (c + 1000) q, ι.2.2.1, va_up ι.2.2.2 c g'), hle, ⟨?_, ?_, s4, ?_, ?_, ?_, ?_, ?_, i6, i7⟩, ?_⟩
  · intro c' hc'
    by_cases e1 : c' = c
    · rw [e1, cx_E_l hb, cx_lf_r ((hyl c).mpr hc), t1, t2]
      dsimp only
      rw [u1, u2 c (by omega), nb_f (by omega : cap' ≠ 0)]
      exact h1
    · by_cases e2 : c' = c + 1000
      · rw [e2, cx_E_a hb, t2]
        dsimp only
        rw [u1, t3]
        exact h2
      · rcases s3 c' hc' with h | h
        · rw [cx_E_ch (ι := ι) (σ := σ) (ι' := (ids', va_up ι.2.1 (c + 1000) q, ι.2.2.1, va_up ι.2.2.2 c g')) (σ' := cs_pt σ c l' (cap', mc')) (c := c') rfl rfl rfl (fun _ _ => rfl) (va_up_ne _ _ (fun z => cx_isl_ne hc z.symm)) (fun z => ⟨va_up_ne _ _ e1, va_up_ne _ _ e1, u2 (c' + 1000) (by omega)⟩) (fun z1 z2 => ⟨t5 (c' - 1000) (by omega), t6 (c' - 1000) (by omega)⟩) rfl]
          dsimp only
          rw [u2 c' e2]
          exact va_at.kept (w1 c' h) (hk c' h e1 e2)
        · exact absurd h e2
  · intro a ha b hb2 e
    have e : va_up ι.2.1 (c + 1000) q a = va_up ι.2.1 (c + 1000) q b := e
    by_cases ea : a = c + 1000
    · by_cases eb : b = c + 1000
      · rw [ea, eb]
      · rw [ea, va_up_self, va_up_ne _ _ eb] at e
        rcases s3 b hb2 with h | h
        · exact absurd e.symm (hqn b h eb)
        · exact absurd h eb
    · rcases s3 a ha with h | h
      · by_cases eb : b = c + 1000
        · rw [eb, va_up_self, va_up_ne _ _ ea] at e
          exact absurd e (hqn a h ea)
        · rcases s3 b hb2 with h' | h'
          · rw [va_up_ne _ _ ea, va_up_ne _ _ eb] at e
            exact w2 a h b h' e
          · exact absurd h' eb
      · exact absurd h ea
  · intro c' hc'
    have := cx_fix_lt c' hc'
    exact ⟨s1 _ (i1 c' hc').1, (va_up_ne _ _ (by omega)).trans (i1 c' hc').2⟩
  · refine ⟨i2.1, fun n hn => s1 _ (i2.2.1 n hn), fun c' hc' h3 h4 => ?_⟩
    rcases s3 c' hc' with h | h
    · exact i2.2.2 c' h h3 h4
    · omega
  · intro c' hc'
    by_cases e1 : c' = c
    · subst e1
      unfold cx_lok
      rw [t1, t2]
      refine ⟨hcap, .inr ⟨h10, s2⟩, h65, fun j hj => ⟨(hel j hj).1, ?_⟩, fun j hj => ?_⟩
      · show cx_TR ad _ (l'.getD j .leaf) (va_rf (va_up ι.2.2.2 c' g' c' j))
        rw [t3]
        exact hle.cr _ _ (hel j hj).2
      · show va_up ι.2.2.2 c' g' c' j = none
        rw [t3]
        exact hno j hj
    · exact (i3 c' ((hyl c').mp hc')).mono hle (va_up_ne _ _ e1) (va_up_ne _ _ e1) (va_up_ne _ _ e1)
  · intro c' hc' h3 h4
    by_cases e2 : c' = c + 1000
    · subst e2
      rw [Nat.add_sub_cancel]
      refine ⟨hc, ?_⟩
      rw [t2]
      show cap' ≠ 0
      omega
    · rcases s3 c' hc' with h | h
      · obtain ⟨z1, z2⟩ := i4 c' h h3 h4
        refine ⟨z1, ?_⟩
        rw [t5 _ (by omega)]
        exact z2
      · exact absurd h e2
  · intro j hj
    show cx_TR ad _ (cs_p σ j) (va_rf (va_up ι.2.2.2 c g' 115 j))
    rw [va_up_ne _ _ (fun z => cx_isl_ne hc z.symm)]
    exact hle.cr _ _ (i5 j hj)
  · intro c' hc'
    show cx_A ι H.size (va_up ι.2.1 (c + 1000) q c')
    by_cases e2 : c' = c + 1000
    · rw [e2, va_up_self]
      rcases hq with ⟨q1, q2⟩ | q1
      · exact .inl ⟨_, q1, q2⟩
      · exact .inr q1
    · rcases s3 c' hc' with h | h
      · rw [va_up_ne _ _ e2]
        exact .inl ⟨c', h, rfl⟩
      · exact absurd h e2
end
