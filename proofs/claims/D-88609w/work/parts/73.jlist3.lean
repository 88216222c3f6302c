/-! ARRAYLIST: grow, add. (Printed by gen/jlist3.py; the numbers of growing are turned from the kit's list laws.) -/
section
variable {l : Launch} {D : va_G} {cl : List vw_C}
theorem jm_num {cap : Nat} (h10 : 10 ≤ cap) (h65 : cap ≤ 65000) : Int32.ofNat cap + (if nI (cap + 1) - Int32.ofNat cap < Int32.ofNat cap >>> ((1 : Int32) &&& 31) then Int32.ofNat cap >>> ((1 : Int32) &&& 31) else nI (cap + 1) - Int32.ofNat cap) = nI (cap + cap / 2) := by
  have es : Int32.ofNat cap >>> ((1 : Int32) &&& 31) = nI (cap / 2) := by
    have k := pk_shrN (n := cap) (by omega) ((1 : Int32) &&& 31) 1 (by decide)
    rw [Nat.pow_one] at k
    exact k
  have ed : nI (cap + 1) - Int32.ofNat cap = nI 1 := by
    have k := pk_sub (a := cap + 1) (b := cap) (by omega)
    rw [Nat.add_sub_cancel_left] at k
    exact k
  rw [es, ed, if_pos (nI_lt (by omega) (by omega))]
  exact nI_add cap (cap / 2)
theorem jm_gN (hcl : cx_clok cl) (x ea cap sz : Nat) (cA : ClassId) (mc n : Int32) (g : Nat → Option Nat) (h10 : 10 ≤ cap) (h65 : cap ≤ 65000) (hxe : x ≠ ea) : Met l yJ2_grow_2 (ws_ yJ2_grow_2 cJ2_grow_2 4 (some (.array (.object "java/lang/Object")))) { frames := 3, cells := 1, slots := (cap + cap / 2), locals := 120 } (fun a U => a = [.ref x, .int (nI (cap + 1))].toArray ∧ U.heap.size = sz ∧ va_P D cl [(x, .inr (10, [.int mc, .ref ea, .int n])), (ea, .inl (cA, cap, .inr (.inr (.inr (.inr g)))))] U.heap ∧ va_K D cl [(cA, .object "java/lang/Object")] U ∧ jm_S U ∧ ∀ j y, j < cap → g j = some y → y < sz ∧ va_Any "java/lang/Object" U U.heap y) (fun _ st o t => ∃ q, o = .returned (some (.ref q)) ∧ sz ≤ q ∧ va_P D cl [(x, .inr (10, [.int mc, .ref q, .int n])), (q, .inl (cA, (cap + cap / 2), .inr (.inr (.inr (.inr (va_cpy g (fun _ => none) 0 0 cap))))))] t.heap ∧ va_F (fun z => z = x ∨ z = ea ∨ sz ≤ z) st t) 1 (cap + cap / 2) (fun z => z = x ∨ z = ea ∨ sz ≤ z) := by
  refine Met.ofW (cc := cJ2_grow_2) (maxL := 4) (ret := (some (.array (.object "java/lang/Object")))) (by decide) rfl ?_
  intro p e s m args below meth c s₁ B hml hv
  obtain ⟨rfl, hsz, hP, hK, hSS, hel⟩ := hv
  subst hsz
  have hD : va_D (fun z => z = x ∨ z = ea ∨ s.heap.size ≤ z) [(x, .inr (10, [.int mc, .ref ea, .int n])), (ea, .inl (cA, cap, .inr (.inr (.inr (.inr g)))))] := ⟨fun i j a b ha hb hab => by
    have h1 : i < 2 := (List.getElem?_eq_some_iff.mp ha).1
    have h2 : j < 2 := (List.getElem?_eq_some_iff.mp hb).1
    match i, j, h1, h2 with
    | 0, 0, _, _ => rfl
    | 1, 1, _, _ => rfl
    | 0, 1, _, _ => cases ha; cases hb; exact absurd hab hxe
    | 1, 0, _, _ => cases ha; cases hb; exact absurd hab.symm hxe, fun k q hk => by
    have h1 : k < 2 := (List.getElem?_eq_some_iff.mp hk).1
    match k, h1 with
    | 0, _ => cases hk; exact .inl rfl
    | 1, _ => cases hk; exact .inr (.inl rfl)⟩
  have hx := B.exec
  have hb := B.bytes
  have hr := B.returns
  have hts := atoms_spec (ws := ws_ yJ2_grow_2 cJ2_grow_2 4 (some (.array (.object "java/lang/Object")))) B.pre
  have hts : ∀ w ∈ lw_all, w.before _ s = true := fun w h => hts w (List.mem_cons_of_mem _ h)
  have hown : s.vm.findClass RJ2 = some m.cls := findClass_of_methodNamed B.named
  have hlocks := B.notSynchronized
  have hl := lv_entry ([.ref x, .int (nI (cap + 1))]) (n := 4) (Nat.le_of_ble_eq_true rfl)
  rw [lg_entry_eq]
  generalize (lg_sl ([.ref x, .int (nI (cap + 1))]) ++ List.replicate (4 - (lg_sl ([.ref x, .int (nI (cap + 1))])).length) Slot.unset).toArray = ls at hl ⊢
  have hl : lv_has ls 4 [(0, .ref x), (1, .int (nI (cap + 1)))] := hl
  refine lv_aload_n hx hb dJ2_grow_2_0 rfl (lv_at hl 0 rfl) ?_
  refine va_get (ci := 10) (v := .ref ea) (C := RJ2) (T := TJ2) (N := 3) hx hb hts in_J2 hown hK hP 0 rfl (hcl 10 _ rfl) 1 (by decide) (hts _ q652) (fun _ h9 => h9) rfl dJ2_grow_2_1 ?_
  refine va_alen hx hb hK hP 1 0 rfl rfl rfl dJ2_grow_2_4 ?_
  refine lv_istore_n hx hb dJ2_grow_2_5 rfl hl (by decide) rfl (fun ls hl => ?_)
  refine lv_iload_n hx hb dJ2_grow_2_6 rfl (lv_at hl 0 rfl) ?_
  refine lv_if_gt hx hb dJ2_grow_2_7 rfl (fun _ => ?_) (fun h => absurd (show (0 : Int32) < Int32.ofNat cap from nI_lt (a := 0) (b := cap) (by omega) (by omega)) h)
  refine lv_iload_n hx hb dJ2_grow_2_20 rfl (lv_at hl 0 rfl) ?_
  refine lv_iload_n hx hb dJ2_grow_2_21 rfl (lv_at hl 2 rfl) ?_
  refine lv_iload_n hx hb dJ2_grow_2_22 rfl (lv_at hl 0 rfl) ?_
  refine lv_isub hx hb dJ2_grow_2_23 ?_
  refine lv_iload_n hx hb dJ2_grow_2_24 rfl (lv_at hl 0 rfl) ?_
  refine lv_iconst hx hb dJ2_grow_2_25 rfl ?_
  refine lv_ishr hx hb dJ2_grow_2_26 ?_
  refine am_callR (va_runS (own := RJ2) (n := 3) (Ts := lw_all) (As := [.int (Int32.ofNat cap), .int (nI (cap + 1) - Int32.ofNat cap), .int (Int32.ofNat cap >>> ((1 : Int32) &&& 31))]) (rest := []) ⟨hx, hb, hml, hown, hts⟩ (jm_nl _ _ _ (nI (cap + cap / 2)) (jm_num h10 h65) (nI_nle (by omega) (by omega)) (nI_nlt (a := 2147483639) (by omega) (by omega))) (va_cwS 3 hts (lw_S q265 q266 q86 q267) rfl rfl rfl ⟨by decide, by decide, by decide +kernel⟩ ⟨Nat.le_of_ble_eq_true rfl, Nat.le_of_ble_eq_true rfl⟩) ⟨fun _ _ _ _ h => h, fun U hU hW => rfl⟩ rfl rfl hl.1 rfl (lv_room (Nat.le_of_ble_eq_true rfl)) dJ2_grow_2_27 ⟨Nat.le_of_ble_eq_true rfl, Nat.zero_le _⟩) (fun v st₀ t L h0 hWm hq hL => ?_)
  obtain ⟨hv, hH⟩ := hq
  cases hv
  rw [h0] at hH
  rw [hH]
  have hL1 : ∀ z ∈ [] ++ L, (fun z => z = x ∨ z = ea ∨ s.heap.size ≤ z) z.base := fun z hz => by rw [List.nil_append] at hz; exact (hL z hz).elim
  generalize [] ++ L = L1 at hL1 ⊢
  refine lv_istore_n hx hb dJ2_grow_2_30 rfl hl (by decide) rfl (fun ls hl => ?_)
  refine lv_aload_n hx hb dJ2_grow_2_31 rfl (lv_at hl 2 rfl) ?_
  refine lv_aload_n hx hb dJ2_grow_2_32 rfl (lv_at hl 2 rfl) ?_
  refine va_get (ci := 10) (v := .ref ea) (C := RJ2) (T := TJ2) (N := 3) hx hb hts in_J2 hown hK hP 0 rfl (hcl 10 _ rfl) 1 (by decide) (hts _ q652) (fun _ h9 => h9) rfl dJ2_grow_2_33 ?_
  refine lv_iload_n hx hb dJ2_grow_2_36 rfl (lv_at hl 0 rfl) ?_
  refine am_callR (va_runS (own := RJ2) (n := 2) (Ts := lw_all) (As := [.ref ea, .int (nI (cap + cap / 2))]) (rest := [.ref x]) ⟨hx, hb, hml, hown, hts⟩ (jm_co ea cap (cap + cap / 2) s.heap.size cA g (by omega) (by omega)) (va_cwS 2 hts (lw_S q273 q274 q87 q275) rfl rfl rfl ⟨by decide, by decide, by decide +kernel⟩ ⟨Nat.le_of_ble_eq_true rfl, Nat.le_of_ble_eq_true rfl⟩) ⟨fun a U gg mk q => ⟨q.1, q.2.1, q.2.2.1, va_K.moved (u := U) (U := U.calling gg mk a) (Vm.Alike.refl U.vm) q.2.2.2.1, jm_S.moved (u := U) (U := U.calling gg mk a) (Vm.Alike.refl U.vm) q.2.2.2.2.1, fun j y h1 h2 => ⟨(q.2.2.2.2.2 j y h1 h2).1, jm_any (U := U) (V := U.calling gg mk a) (Vm.Alike.refl U.vm) (q.2.2.2.2.2 j y h1 h2).2⟩⟩, fun U hU hW => ⟨rfl, by rw [hU], by rw [hU]; exact hP.sub [1] rfl, va_K.moved hW.alike hK, hSS.moved hW.alike, fun j y h1 h2 => by rw [hU]; exact ⟨(hel j y h1 h2).1, jm_any hW.alike (hel j y h1 h2).2⟩⟩⟩ rfl rfl hl.1 rfl (lv_room (Nat.le_of_ble_eq_true rfl)) dJ2_grow_2_37 ⟨Nat.le_of_ble_eq_true rfl, Nat.le_of_eq (Nat.zero_add _)⟩) (fun vb st₀b tb Lb h0b hWmb hqb hLb => ?_)
  obtain ⟨q, hv, hq1, hP1, hF1, hF2⟩ := hqb
  cases hv
  rw [h0b] at hF1 hF2
  rw [show 0 + 0 + (cap + cap / 2) = (cap + cap / 2) by omega]
  have hxl : x < s.heap.size := (hP 0 _ rfl).lt
  have hPx : va_P D cl [(x, .inr (10, [.int mc, .ref ea, .int n])), (q, .inl (cA, (cap + cap / 2), .inr (.inr (.inr (.inr (va_cpy g (fun _ => none) 0 0 cap))))))] tb.heap := (va_P.kept (hP.sub [0] rfl) (fun k z hk => by
    have h1 : k < 1 := (List.getElem?_eq_some_iff.mp hk).1
    have h2 : k = 0 := by omega
    subst h2
    cases hk
    exact hF2 x hxl (Nat.not_le.mpr hxl))).app hP1
  have hDx : va_D (fun z => z = x ∨ z = ea ∨ s.heap.size ≤ z) [(x, .inr (10, [.int mc, .ref ea, .int n])), (q, .inl (cA, (cap + cap / 2), .inr (.inr (.inr (.inr (va_cpy g (fun _ => none) 0 0 cap))))))] := ⟨fun i j a b ha hb hab => by
      have h1 : i < 2 := (List.getElem?_eq_some_iff.mp ha).1
      have h2 : j < 2 := (List.getElem?_eq_some_iff.mp hb).1
      match i, j, h1, h2 with
      | 0, 0, _, _ => rfl
      | 1, 1, _, _ => rfl
      | 0, 1, _, _ => cases ha; cases hb; exact absurd hab (by omega)
      | 1, 0, _, _ => cases ha; cases hb; exact absurd hab (by omega), fun k z hk => by
      have h1 : k < 2 := (List.getElem?_eq_some_iff.mp hk).1
      match k, h1 with
      | 0, _ => cases hk; exact .inl rfl
      | 1, _ => cases hk; exact .inr (.inr hq1)⟩
  have hSx : va_S (fun z => z = x ∨ z = ea ∨ s.heap.size ≤ z) s.heap tb.heap (L1 ++ Lb) := ⟨hF1, fun z h1 h2 => hF2 z h1 (fun y => h2 (.inr (.inr y))), fun z hz => by
    rcases List.mem_append.mp hz with h | h
    · exact hL1 z h
    · exact (hLb z h).elim (fun e => .inr (.inl e)) (fun e => .inr (.inr e))⟩
  refine lv_dup_x1 hx hb dJ2_grow_2_40 rfl rfl ?_
  refine va_put (ci := 10) (v := .ref q) (ty := .array (.object "java/lang/Object")) (C := RJ2) (T := TJ2) (N := 3) hx hb hts in_J2 tyJ2 tyJ2_ok nmJ2 hown hK hPx hDx hSx 0 rfl (hcl 10 _ rfl) 1 (by decide) (hts _ q652) (fun _ h9 => h9) rfl (by decide +kernel) rfl rfl (Nat.le_of_ble_eq_true rfl) dJ2_grow_2_41 (fun H2 locs2 hP2 hD2 hS2 => ?_)
  exact W.aret hx hb hr (.inr ⟨_, rfl⟩) (.inr ⟨_, rfl⟩) (fun t1 ht hW => ⟨q, rfl, hq1, by rw [ht]; exact hP2, hS2.F ht⟩) hS2.2.2 dJ2_grow_2_44 hlocks
theorem jm_g0 (hcl : cx_clok cl) (x e0 sz : Nat) (cA : ClassId) (mc : Int32) : Met l yJ2_grow_2 (ws_ yJ2_grow_2 cJ2_grow_2 4 (some (.array (.object "java/lang/Object")))) { frames := 3, cells := 1, slots := 10, locals := 120 } (fun a U => a = [.ref x, .int (nI 1)].toArray ∧ U.heap.size = sz ∧ va_P D cl [(x, .inr (10, [.int mc, .ref e0, .int 0]))] U.heap ∧ va_K D cl [(cA, .object "java/lang/Object")] U ∧ jm_S U ∧ va_Z "java/util/ArrayList" "DEFAULTCAPACITY_EMPTY_ELEMENTDATA" "[Ljava/lang/Object;" (.ref e0) (fun z => z = x ∨ sz ≤ z) U U.heap ∧ va_T (.object "java/lang/Object") e0 0 (fun _ => .null) (fun z => z = x ∨ sz ≤ z) U U.heap) (fun _ st o t => ∃ q, o = .returned (some (.ref q)) ∧ sz ≤ q ∧ va_P D cl [(x, .inr (10, [.int mc, .ref q, .int 0])), (q, .inl (cA, 10, .inr (.inr (.inr (.inr (fun _ => none))))))] t.heap ∧ va_F (fun z => z = x ∨ sz ≤ z) st t) 1 10 (fun z => z = x ∨ sz ≤ z) := by
  refine Met.ofW (cc := cJ2_grow_2) (maxL := 4) (ret := (some (.array (.object "java/lang/Object")))) (by decide) rfl ?_
  intro p e s m args below meth c s₁ B hml hv
  obtain ⟨rfl, hsz, hP, hK, hSS, hZ, hT⟩ := hv
  subst hsz
  have hD : va_D (fun z => z = x ∨ s.heap.size ≤ z) [(x, .inr (10, [.int mc, .ref e0, .int 0]))] := ⟨fun i j a b ha hb _ => by
    have h1 : i < 1 := (List.getElem?_eq_some_iff.mp ha).1
    have h2 : j < 1 := (List.getElem?_eq_some_iff.mp hb).1
    omega, fun k q hk => by
    have h1 : k < 1 := (List.getElem?_eq_some_iff.mp hk).1
    have h2 : k = 0 := by omega
    subst h2
    cases hk
    exact .inl rfl⟩
  have hx := B.exec
  have hb := B.bytes
  have hr := B.returns
  have hts := atoms_spec (ws := ws_ yJ2_grow_2 cJ2_grow_2 4 (some (.array (.object "java/lang/Object")))) B.pre
  have hts : ∀ w ∈ lw_all, w.before _ s = true := fun w h => hts w (List.mem_cons_of_mem _ h)
  have hown : s.vm.findClass RJ2 = some m.cls := findClass_of_methodNamed B.named
  have hlocks := B.notSynchronized
  have hl := lv_entry ([.ref x, .int (nI 1)]) (n := 4) (Nat.le_of_ble_eq_true rfl)
  rw [lg_entry_eq]
  generalize (lg_sl ([.ref x, .int (nI 1)]) ++ List.replicate (4 - (lg_sl ([.ref x, .int (nI 1)])).length) Slot.unset).toArray = ls at hl ⊢
  have hl : lv_has ls 4 [(0, .ref x), (1, .int (nI 1))] := hl
  refine lv_aload_n hx hb dJ2_grow_2_0 rfl (lv_at hl 0 rfl) ?_
  refine va_get (ci := 10) (v := .ref e0) (C := RJ2) (T := TJ2) (N := 3) hx hb hts in_J2 hown hK hP 0 rfl (hcl 10 _ rfl) 1 (by decide) (hts _ q652) (fun _ h9 => h9) rfl dJ2_grow_2_1 ?_
  refine va_tlen hx hb hT va_S.rf rfl dJ2_grow_2_4 ?_
  refine lv_istore_n hx hb dJ2_grow_2_5 rfl hl (by decide) rfl (fun ls hl => ?_)
  refine lv_iload_n hx hb dJ2_grow_2_6 rfl (lv_at hl 0 rfl) ?_
  refine lv_if_gt hx hb dJ2_grow_2_7 rfl (fun h => absurd h (by decide)) (fun _ => ?_)
  refine lv_aload_n hx hb dJ2_grow_2_10 rfl (lv_at hl 1 rfl) ?_
  refine va_get (ci := 10) (v := .ref e0) (C := RJ2) (T := TJ2) (N := 3) hx hb hts in_J2 hown hK hP 0 rfl (hcl 10 _ rfl) 1 (by decide) (hts _ q652) (fun _ h9 => h9) rfl dJ2_grow_2_11 ?_
  refine va_gets hx hb hZ va_S.rf hown (hts _ q263) (fun _ h => h) dJ2_grow_2_14 ?_
  refine lv_acmp_eq (rx := some e0) (ry := some e0) hx hb dJ2_grow_2_17 rfl (fun _ => ?_) (fun h => absurd rfl h)
  refine lv_aload_n hx hb dJ2_grow_2_45 rfl (lv_at hl 1 rfl) ?_
  refine lv_bipush hx hb dJ2_grow_2_46 rfl ?_
  refine lv_iload_n hx hb dJ2_grow_2_48 rfl (lv_at hl 2 rfl) ?_
  refine va_mmax hx hb (hml.trans hl.1.symm) hown (hts _ q313) (hts _ q173) (hts _ q81) (hts _ q174) (by decide) (Nat.le_of_ble_eq_true rfl) (by decide) (by decide) dJ2_grow_2_49 ?_
  refine va_newq hx hb hown (hts _ q314) hSS.1 hK hP hD va_S.rf (fun q h => .inr h) (N' := 10) (by decide) (by decide) (by decide) (by decide) (by decide) dJ2_grow_2_52 (fun q cB H1 hK1 hP1 hD1 hS1 => ?_)
  have hcB : cB = cA := by
    obtain ⟨_, _, _, _, _, e1⟩ := (hK1.2 0 _ rfl).2
    obtain ⟨_, _, _, _, _, e2⟩ := (hK1.2 1 _ rfl).2
    exact Option.some.inj (e2.symm.trans e1)
  subst hcB
  have hq1 : s.heap.size ≤ q := by
    rcases hD1.2 1 _ rfl with hA | hA
    · exact absurd (hD1.1 1 0 _ _ rfl rfl hA) (by decide)
    · exact hA
  refine lv_dup_x1 hx hb dJ2_grow_2_55 rfl rfl ?_
  refine va_put (ci := 10) (v := .ref q) (ty := .array (.object "java/lang/Object")) (C := RJ2) (T := TJ2) (N := 3) hx hb hts in_J2 tyJ2 tyJ2_ok nmJ2 hown hK1 hP1 hD1 hS1 0 rfl (hcl 10 _ rfl) 1 (by decide) (hts _ q652) (fun _ h9 => h9) rfl (by decide +kernel) rfl rfl (Nat.le_of_ble_eq_true rfl) dJ2_grow_2_56 (fun H2 locs2 hP2 hD2 hS2 => ?_)
  exact W.aret hx hb hr (.inr ⟨_, rfl⟩) (.inr ⟨_, rfl⟩) (fun t1 ht hW => ⟨q, rfl, hq1, by rw [ht]; exact hP2, hS2.F ht⟩) hS2.2.2 dJ2_grow_2_59 hlocks
theorem jm_wN (hcl : cx_clok cl) (x ea cap sz : Nat) (cA : ClassId) (mc : Int32) (g : Nat → Option Nat) (h10 : 10 ≤ cap) (h65 : cap ≤ 65000) (hxe : x ≠ ea) : Met l yJ2_grow (ws_ yJ2_grow cJ2_grow 1 (some (.array (.object "java/lang/Object")))) { frames := 4, cells := 1, slots := (cap + cap / 2), locals := 160 } (fun a U => a = [.ref x].toArray ∧ U.heap.size = sz ∧ va_P D cl [(x, .inr (10, [.int mc, .ref ea, .int (nI cap)])), (ea, .inl (cA, cap, .inr (.inr (.inr (.inr g)))))] U.heap ∧ va_K D cl [(cA, .object "java/lang/Object")] U ∧ jm_S U ∧ ∀ j y, j < cap → g j = some y → y < sz ∧ va_Any "java/lang/Object" U U.heap y) (fun _ st o t => ∃ q, o = .returned (some (.ref q)) ∧ sz ≤ q ∧ va_P D cl [(x, .inr (10, [.int mc, .ref q, .int (nI cap)])), (q, .inl (cA, (cap + cap / 2), .inr (.inr (.inr (.inr (va_cpy g (fun _ => none) 0 0 cap))))))] t.heap ∧ va_F (fun z => z = x ∨ z = ea ∨ sz ≤ z) st t) 1 (cap + cap / 2) (fun z => z = x ∨ z = ea ∨ sz ≤ z) := by
  refine Met.ofW (cc := cJ2_grow) (maxL := 1) (ret := (some (.array (.object "java/lang/Object")))) (by decide) rfl ?_
  intro p e s m args below meth c s₁ B hml hv
  obtain ⟨rfl, hsz, hP, hK, hSS, hel⟩ := hv
  subst hsz
  have hx := B.exec
  have hb := B.bytes
  have hr := B.returns
  have hts := atoms_spec (ws := ws_ yJ2_grow cJ2_grow 1 (some (.array (.object "java/lang/Object")))) B.pre
  have hts : ∀ w ∈ lw_all, w.before _ s = true := fun w h => hts w (List.mem_cons_of_mem _ h)
  have hown : s.vm.findClass RJ2 = some m.cls := findClass_of_methodNamed B.named
  have hlocks := B.notSynchronized
  have hl := lv_entry ([.ref x]) (n := 1) (Nat.le_of_ble_eq_true rfl)
  rw [lg_entry_eq]
  generalize (lg_sl ([.ref x]) ++ List.replicate (1 - (lg_sl ([.ref x])).length) Slot.unset).toArray = ls at hl ⊢
  have hl : lv_has ls 1 [(0, .ref x)] := hl
  refine lv_aload_n hx hb dJ2_grow_0 rfl (lv_at hl 0 rfl) ?_
  refine lv_aload_n hx hb dJ2_grow_1 rfl (lv_at hl 0 rfl) ?_
  refine va_get (ci := 10) (v := .int (nI cap)) (C := RJ2) (T := TJ2) (N := 3) hx hb hts in_J2 hown hK hP 0 rfl (hcl 10 _ rfl) 2 (by decide) (hts _ q653) (fun _ h9 => h9) rfl dJ2_grow_2 ?_
  refine lv_iconst hx hb dJ2_grow_5 rfl ?_
  refine lv_iadd hx hb dJ2_grow_6 ?_
  rw [show Int32.ofInt 1 = (1 : Int32) by decide, nI_1]
  refine am_callR (va_runV (own := RJ2) (C := RJ2) (n := 1) (Ts := lw_all) (b := x) (As := [.int (nI (cap + 1))]) (rest := []) ⟨hx, hb, hml, hown, hts⟩ (jm_gN hcl x ea cap s.heap.size cA mc (nI cap) g h10 h65 hxe) (cwV 1 hts (lw_V q259 q261 qs3 q68 q262) rfl rfl rfl ⟨rfl, by decide, by decide, by decide +kernel⟩ ⟨Nat.le_of_ble_eq_true rfl, Nat.le_of_ble_eq_true rfl⟩) ⟨fun a U gg mk q => ⟨q.1, q.2.1, q.2.2.1, va_K.moved (u := U) (U := U.calling gg mk a) (Vm.Alike.refl U.vm) q.2.2.2.1, jm_S.moved (u := U) (U := U.calling gg mk a) (Vm.Alike.refl U.vm) q.2.2.2.2.1, fun j y h1 h2 => ⟨(q.2.2.2.2.2 j y h1 h2).1, jm_any (U := U) (V := U.calling gg mk a) (Vm.Alike.refl U.vm) (q.2.2.2.2.2 j y h1 h2).2⟩⟩, va_recv hK hP (hcl 10 _ rfl) (q0 := 0) rfl, fun U hU hW => ⟨rfl, by rw [hU], by rw [hU]; exact hP, va_K.moved hW.alike hK, hSS.moved hW.alike, fun j y h1 h2 => by rw [hU]; exact ⟨(hel j y h1 h2).1, jm_any hW.alike (hel j y h1 h2).2⟩⟩⟩ rfl rfl hl.1 rfl (lv_room (Nat.le_of_ble_eq_true rfl)) dJ2_grow_7 ⟨Nat.le_of_ble_eq_true rfl, Nat.le_of_eq (Nat.zero_add _)⟩) (fun v st₀ t L h0 hWm hq hL => ?_)
  obtain ⟨q, hv, hq1, hP1, hF⟩ := hq
  cases hv
  rw [show 0 + (cap + cap / 2) = (cap + cap / 2) by omega]
  obtain ⟨hF1, hF2⟩ := hF
  rw [h0] at hF1 hF2
  exact W.aret hx hb hr (.inr ⟨_, rfl⟩) (.inr ⟨_, rfl⟩) (fun t1 ht hW => ⟨q, rfl, hq1, by rw [ht]; exact hP1, by rw [ht]; exact hF1, fun z h1 h2 => by rw [ht]; exact hF2 z h1 h2⟩) (fun z h => by rw [List.nil_append] at h; exact hL z h) dJ2_grow_10 hlocks
theorem jm_w0 (hcl : cx_clok cl) (x e0 sz : Nat) (cA : ClassId) (mc : Int32) : Met l yJ2_grow (ws_ yJ2_grow cJ2_grow 1 (some (.array (.object "java/lang/Object")))) { frames := 4, cells := 1, slots := 10, locals := 160 } (fun a U => a = [.ref x].toArray ∧ U.heap.size = sz ∧ va_P D cl [(x, .inr (10, [.int mc, .ref e0, .int 0]))] U.heap ∧ va_K D cl [(cA, .object "java/lang/Object")] U ∧ jm_S U ∧ va_Z "java/util/ArrayList" "DEFAULTCAPACITY_EMPTY_ELEMENTDATA" "[Ljava/lang/Object;" (.ref e0) (fun z => z = x ∨ sz ≤ z) U U.heap ∧ va_T (.object "java/lang/Object") e0 0 (fun _ => .null) (fun z => z = x ∨ sz ≤ z) U U.heap) (fun _ st o t => ∃ q, o = .returned (some (.ref q)) ∧ sz ≤ q ∧ va_P D cl [(x, .inr (10, [.int mc, .ref q, .int 0])), (q, .inl (cA, 10, .inr (.inr (.inr (.inr (fun _ => none))))))] t.heap ∧ va_F (fun z => z = x ∨ sz ≤ z) st t) 1 10 (fun z => z = x ∨ sz ≤ z) := by
  refine Met.ofW (cc := cJ2_grow) (maxL := 1) (ret := (some (.array (.object "java/lang/Object")))) (by decide) rfl ?_
  intro p e s m args below meth c s₁ B hml hv
  obtain ⟨rfl, hsz, hP, hK, hSS, hZ, hT⟩ := hv
  subst hsz
  have hx := B.exec
  have hb := B.bytes
  have hr := B.returns
  have hts := atoms_spec (ws := ws_ yJ2_grow cJ2_grow 1 (some (.array (.object "java/lang/Object")))) B.pre
  have hts : ∀ w ∈ lw_all, w.before _ s = true := fun w h => hts w (List.mem_cons_of_mem _ h)
  have hown : s.vm.findClass RJ2 = some m.cls := findClass_of_methodNamed B.named
  have hlocks := B.notSynchronized
  have hl := lv_entry ([.ref x]) (n := 1) (Nat.le_of_ble_eq_true rfl)
  rw [lg_entry_eq]
  generalize (lg_sl ([.ref x]) ++ List.replicate (1 - (lg_sl ([.ref x])).length) Slot.unset).toArray = ls at hl ⊢
  have hl : lv_has ls 1 [(0, .ref x)] := hl
  refine lv_aload_n hx hb dJ2_grow_0 rfl (lv_at hl 0 rfl) ?_
  refine lv_aload_n hx hb dJ2_grow_1 rfl (lv_at hl 0 rfl) ?_
  refine va_get (ci := 10) (v := .int 0) (C := RJ2) (T := TJ2) (N := 3) hx hb hts in_J2 hown hK hP 0 rfl (hcl 10 _ rfl) 2 (by decide) (hts _ q653) (fun _ h9 => h9) rfl dJ2_grow_2 ?_
  refine lv_iconst hx hb dJ2_grow_5 rfl ?_
  refine lv_iadd hx hb dJ2_grow_6 ?_
  refine am_callR (va_runV (own := RJ2) (C := RJ2) (n := 1) (Ts := lw_all) (b := x) (As := [.int (nI 1)]) (rest := []) ⟨hx, hb, hml, hown, hts⟩ (jm_g0 hcl x e0 s.heap.size cA mc) (cwV 1 hts (lw_V q259 q261 qs3 q68 q262) rfl rfl rfl ⟨rfl, by decide, by decide, by decide +kernel⟩ ⟨Nat.le_of_ble_eq_true rfl, Nat.le_of_ble_eq_true rfl⟩) ⟨fun a U gg mk q => ⟨q.1, q.2.1, q.2.2.1, va_K.moved (u := U) (U := U.calling gg mk a) (Vm.Alike.refl U.vm) q.2.2.2.1, jm_S.moved (u := U) (U := U.calling gg mk a) (Vm.Alike.refl U.vm) q.2.2.2.2.1, va_Z.moved (u := U) (U := U.calling gg mk a) (Vm.Alike.refl U.vm) q.2.2.2.2.2.1, va_T.moved (u := U) (U := U.calling gg mk a) (Vm.Alike.refl U.vm) q.2.2.2.2.2.2⟩, va_recv hK hP (hcl 10 _ rfl) (q0 := 0) rfl, fun U hU hW => ⟨rfl, by rw [hU], by rw [hU]; exact hP, va_K.moved hW.alike hK, hSS.moved hW.alike, by rw [hU]; exact hZ.moved hW.alike, by rw [hU]; exact hT.moved hW.alike⟩⟩ rfl rfl hl.1 rfl (lv_room (Nat.le_of_ble_eq_true rfl)) dJ2_grow_7 ⟨Nat.le_of_ble_eq_true rfl, Nat.le_of_ble_eq_true rfl⟩) (fun v st₀ t L h0 hWm hq hL => ?_)
  obtain ⟨q, hv, hq1, hP1, hF⟩ := hq
  cases hv
  obtain ⟨hF1, hF2⟩ := hF
  rw [h0] at hF1 hF2
  exact W.aret hx hb hr (.inr ⟨_, rfl⟩) (.inr ⟨_, rfl⟩) (fun t1 ht hW => ⟨q, rfl, hq1, by rw [ht]; exact hP1, by rw [ht]; exact hF1, fun z h1 h2 => by rw [ht]; exact hF2 z h1 h2⟩) (fun z h => by rw [List.nil_append] at h; exact hL z h) dJ2_grow_10 hlocks
end
