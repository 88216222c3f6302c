/-! ARRAYLIST: add. (Printed by gen/jlist4.py.) -/
section
variable {l : Launch} {D : va_G} {cl : List vw_C}
theorem jm_ad2_room (hcl : cx_clok cl) (x ea cap k vr sz : Nat) (cA : ClassId) (mc : Int32) (g : Nat → Option Nat) (hk : k < cap) (h65 : cap ≤ 65000) (hxe : x ≠ ea) : Met l yJ2_add_2 (ws_ yJ2_add_2 cJ2_add_2 4 none) { frames := 5, cells := 0, slots := 0, locals := 200 } (fun a U => a = [.ref x, .ref vr, .ref ea, .int (nI k)].toArray ∧ U.heap.size = sz ∧ va_P D cl [(x, .inr (10, [.int mc, .ref ea, .int (nI k)])), (ea, .inl (cA, cap, .inr (.inr (.inr (.inr (g))))))] U.heap ∧ va_K D cl [(cA, .object "java/lang/Object")] U ∧ jm_S U ∧ vr < sz ∧ va_Any "java/lang/Object" U U.heap vr) (fun _ st o t => o = .returned none ∧ va_P D cl [(x, .inr (10, [.int mc, .ref ea, .int (nI (k + 1))])), (ea, .inl (cA, cap, .inr (.inr (.inr (.inr (va_up g k (some vr)))))))] t.heap ∧ va_F (fun z => z = x ∨ z = ea ∨ sz ≤ z) st t) 0 0 (fun z => z = x ∨ z = ea ∨ sz ≤ z) := by
  refine Met.ofW (cc := cJ2_add_2) (maxL := 4) (ret := none) (by decide) rfl ?_
  intro p e s m args below meth c s₁ B hml hv
  obtain ⟨rfl, hsz, hP, hK, hSS, hv1, hv2⟩ := hv
  subst hsz
  have hD : va_D (fun z => z = x ∨ z = ea ∨ s.heap.size ≤ z) [(x, .inr (10, [.int mc, .ref ea, .int (nI k)])), (ea, .inl (cA, cap, .inr (.inr (.inr (.inr g)))))] := ⟨fun i j a b ha hb hab => by
    have h1 : i < 2 := (List.getElem?_eq_some_iff.mp ha).1
    have h2 : j < 2 := (List.getElem?_eq_some_iff.mp hb).1
    match i, j, h1, h2 with
    | 0, 0, _, _ => rfl
    | 1, 1, _, _ => rfl
    | 0, 1, _, _ => cases ha; cases hb; exact absurd hab hxe
    | 1, 0, _, _ => cases ha; cases hb; exact absurd hab.symm hxe, fun k q hk => by
    have h1 : k < 2 := (List.getElem?_eq_some_iff.mp hk).1
    match k, h1 with
    | 0, _ => cases hk; exact .inl rfl
    | 1, _ => cases hk; exact .inr (.inl rfl)⟩
  have hx := B.exec
  have hb := B.bytes
  have hr := B.returns
  have hts := atoms_spec (ws := ws_ yJ2_add_2 cJ2_add_2 4 none) B.pre
  have hts : ∀ w ∈ lw_all, w.before _ s = true := fun w h => hts w (List.mem_cons_of_mem _ h)
  have hown : s.vm.findClass RJ2 = some m.cls := findClass_of_methodNamed B.named
  have hlocks := B.notSynchronized
  have hl := lv_entry ([.ref x, .ref vr, .ref ea, .int (nI k)]) (n := 4) (Nat.le_of_ble_eq_true rfl)
  rw [lg_entry_eq]
  generalize (lg_sl ([.ref x, .ref vr, .ref ea, .int (nI k)]) ++ List.replicate (4 - (lg_sl ([.ref x, .ref vr, .ref ea, .int (nI k)])).length) Slot.unset).toArray = ls at hl ⊢
  have hl : lv_has ls 4 [(0, .ref x), (1, .ref vr), (2, .ref ea), (3, .int (nI k))] := hl
  refine lv_iload_n hx hb dJ2_add_2_0 rfl (lv_at hl 3 rfl) ?_
  refine lv_aload_n hx hb dJ2_add_2_1 rfl (lv_at hl 2 rfl) ?_
  refine va_alen hx hb hK hP 1 0 rfl rfl rfl dJ2_add_2_2 ?_
  refine lv_icmp_ne hx hb dJ2_add_2_3 rfl (fun _ => ?_) (fun h => absurd ((nI_eq (a := k) (b := cap) (by omega) (by omega)).mp h) (by omega))
  have hS := va_S.rf (A := fun z => z = x ∨ z = ea ∨ s.heap.size ≤ z) (H0 := s.heap)
  have hvA := hv2
  refine lv_aload_n hx hb dJ2_add_2_11 rfl (lv_at hl 2 rfl) ?_
  refine lv_iload_n hx hb dJ2_add_2_12 rfl (lv_at hl 3 rfl) ?_
  refine lv_aload_n hx hb dJ2_add_2_13 rfl (lv_at hl 1 rfl) ?_
  refine va_astqM hx hb hK hP hD hS 1 0 rfl rfl hvA (vp_in_nI hk (by omega)) dJ2_add_2_14 (fun H2 locs2 hP2 hD2 hS2 => ?_)
  refine lv_aload_n hx hb dJ2_add_2_15 rfl (lv_at hl 0 rfl) ?_
  refine lv_iload_n hx hb dJ2_add_2_16 rfl (lv_at hl 3 rfl) ?_
  refine lv_iconst hx hb dJ2_add_2_17 rfl ?_
  refine lv_iadd hx hb dJ2_add_2_18 ?_
  rw [nI_clamp (show k < 2 ^ 31 by omega)] at hP2 hD2
  rw [show Int32.ofInt 1 = (1 : Int32) by decide, nI_1]
  refine va_put (ci := 10) (v := .int (nI (k + 1))) (ty := .int) (C := RJ2) (T := TJ2) (N := 3) hx hb hts in_J2 tyJ2 tyJ2_ok nmJ2 hown hK hP2 hD2 hS2 0 rfl (hcl 10 _ rfl) 2 (by decide) (hts _ q653) (fun _ h9 => h9) rfl (by decide +kernel) rfl rfl (Nat.le_of_ble_eq_true rfl) dJ2_add_2_19 (fun H3 locs3 hP3 hD3 hS3 => ?_)
  exact W.vret hx hb hr (fun t1 ht hW => ⟨rfl, by rw [ht]; exact hP3, hS3.F ht⟩) hS3.2.2 dJ2_add_2_22 hlocks
theorem jm_ad2_full (hcl : cx_clok cl) (x ea cap vr sz : Nat) (cA : ClassId) (mc : Int32) (g : Nat → Option Nat) (h10 : 10 ≤ cap) (h65 : cap ≤ 65000) (hxe : x ≠ ea) (hvx : vr ≠ x) (hve : vr ≠ ea) : Met l yJ2_add_2 (ws_ yJ2_add_2 cJ2_add_2 4 none) { frames := 5, cells := 1, slots := (cap + cap / 2), locals := 200 } (fun a U => a = [.ref x, .ref vr, .ref ea, .int (nI cap)].toArray ∧ U.heap.size = sz ∧ va_P D cl [(x, .inr (10, [.int mc, .ref ea, .int (nI cap)])), (ea, .inl (cA, cap, .inr (.inr (.inr (.inr (g))))))] U.heap ∧ va_K D cl [(cA, .object "java/lang/Object")] U ∧ jm_S U ∧ (vr < sz ∧ va_Any "java/lang/Object" U U.heap vr) ∧ ∀ j y, j < cap → g j = some y → y < sz ∧ va_Any "java/lang/Object" U U.heap y) (fun _ st o t => o = .returned none ∧ ∃ q, sz ≤ q ∧ va_P D cl [(x, .inr (10, [.int mc, .ref q, .int (nI (cap + 1))])), (q, .inl (cA, (cap + cap / 2), .inr (.inr (.inr (.inr (va_up (va_cpy g (fun _ => none) 0 0 cap) cap (some vr)))))))] t.heap ∧ va_F (fun z => z = x ∨ z = ea ∨ sz ≤ z) st t) 1 (cap + cap / 2) (fun z => z = x ∨ z = ea ∨ sz ≤ z) := by
  refine Met.ofW (cc := cJ2_add_2) (maxL := 4) (ret := none) (by decide) rfl ?_
  intro p e s m args below meth c s₁ B hml hv
  obtain ⟨rfl, hsz, hP, hK, hSS, ⟨hv1, hv2⟩, hel⟩ := hv
  subst hsz
  have hD : va_D (fun z => z = x ∨ z = ea ∨ s.heap.size ≤ z) [(x, .inr (10, [.int mc, .ref ea, .int (nI cap)])), (ea, .inl (cA, cap, .inr (.inr (.inr (.inr g)))))] := ⟨fun i j a b ha hb hab => by
    have h1 : i < 2 := (List.getElem?_eq_some_iff.mp ha).1
    have h2 : j < 2 := (List.getElem?_eq_some_iff.mp hb).1
    match i, j, h1, h2 with
    | 0, 0, _, _ => rfl
    | 1, 1, _, _ => rfl
    | 0, 1, _, _ => cases ha; cases hb; exact absurd hab hxe
    | 1, 0, _, _ => cases ha; cases hb; exact absurd hab.symm hxe, fun k q hk => by
    have h1 : k < 2 := (List.getElem?_eq_some_iff.mp hk).1
    match k, h1 with
    | 0, _ => cases hk; exact .inl rfl
    | 1, _ => cases hk; exact .inr (.inl rfl)⟩
  have hx := B.exec
  have hb := B.bytes
  have hr := B.returns
  have hts := atoms_spec (ws := ws_ yJ2_add_2 cJ2_add_2 4 none) B.pre
  have hts : ∀ w ∈ lw_all, w.before _ s = true := fun w h => hts w (List.mem_cons_of_mem _ h)
  have hown : s.vm.findClass RJ2 = some m.cls := findClass_of_methodNamed B.named
  have hlocks := B.notSynchronized
  have hl := lv_entry ([.ref x, .ref vr, .ref ea, .int (nI cap)]) (n := 4) (Nat.le_of_ble_eq_true rfl)
  rw [lg_entry_eq]
  generalize (lg_sl ([.ref x, .ref vr, .ref ea, .int (nI cap)]) ++ List.replicate (4 - (lg_sl ([.ref x, .ref vr, .ref ea, .int (nI cap)])).length) Slot.unset).toArray = ls at hl ⊢
  have hl : lv_has ls 4 [(0, .ref x), (1, .ref vr), (2, .ref ea), (3, .int (nI cap))] := hl
  refine lv_iload_n hx hb dJ2_add_2_0 rfl (lv_at hl 3 rfl) ?_
  refine lv_aload_n hx hb dJ2_add_2_1 rfl (lv_at hl 2 rfl) ?_
  refine va_alen hx hb hK hP 1 0 rfl rfl rfl dJ2_add_2_2 ?_
  refine lv_icmp_ne hx hb dJ2_add_2_3 rfl (fun h => absurd rfl h) (fun _ => ?_)
  refine lv_aload_n hx hb dJ2_add_2_6 rfl (lv_at hl 0 rfl) ?_
  refine am_callR (va_runV (own := RJ2) (C := RJ2) (n := 0) (Ts := lw_all) (b := x) (As := []) (rest := []) ⟨hx, hb, hml, hown, hts⟩ (jm_wN hcl x ea cap s.heap.size cA mc g h10 h65 hxe) (cwV 0 hts (lw_V q255 q257 qs2 q68 q258) rfl rfl rfl ⟨rfl, by decide, by decide, by decide +kernel⟩ ⟨Nat.le_of_ble_eq_true rfl, Nat.le_of_ble_eq_true rfl⟩) ⟨fun a U gg mk q => ⟨q.1, q.2.1, q.2.2.1, va_K.moved (u := U) (U := U.calling gg mk a) (Vm.Alike.refl U.vm) q.2.2.2.1, jm_S.moved (u := U) (U := U.calling gg mk a) (Vm.Alike.refl U.vm) q.2.2.2.2.1, fun j y h1 h2 => ⟨(q.2.2.2.2.2 j y h1 h2).1, jm_any (U := U) (V := U.calling gg mk a) (Vm.Alike.refl U.vm) (q.2.2.2.2.2 j y h1 h2).2⟩⟩, va_recv hK hP (hcl 10 _ rfl) (q0 := 0) rfl, fun U hU hW => ⟨rfl, by rw [hU], by rw [hU]; exact hP, va_K.moved hW.alike hK, hSS.moved hW.alike, fun j y h1 h2 => by rw [hU]; exact ⟨(hel j y h1 h2).1, jm_any hW.alike (hel j y h1 h2).2⟩⟩⟩ rfl rfl hl.1 rfl (lv_room (Nat.le_of_ble_eq_true rfl)) dJ2_add_2_7 ⟨Nat.le_of_ble_eq_true rfl, Nat.le_of_eq (Nat.zero_add _)⟩) (fun v st₀ t L h0 hWm hq hL => ?_)
  obtain ⟨q, hv, hq1, hP1, hF1, hF2⟩ := hq
  cases hv
  rw [show 0 + (cap + cap / 2) = (cap + cap / 2) by omega]
  rw [h0] at hF1 hF2
  have hxl : x < s.heap.size := (hP 0 _ rfl).lt
  have hD1 : va_D (fun z => z = x ∨ z = ea ∨ s.heap.size ≤ z) [(x, .inr (10, [.int mc, .ref q, .int (nI cap)])), (q, .inl (cA, (cap + cap / 2), .inr (.inr (.inr (.inr (va_cpy g (fun _ => none) 0 0 cap))))))] := ⟨fun i j a b ha hb hab => by
      have h1 : i < 2 := (List.getElem?_eq_some_iff.mp ha).1
      have h2 : j < 2 := (List.getElem?_eq_some_iff.mp hb).1
      match i, j, h1, h2 with
      | 0, 0, _, _ => rfl
      | 1, 1, _, _ => rfl
      | 0, 1, _, _ => cases ha; cases hb; exact absurd hab (by omega)
      | 1, 0, _, _ => cases ha; cases hb; exact absurd hab (by omega), fun k z hk => by
      have h1 : k < 2 := (List.getElem?_eq_some_iff.mp hk).1
      match k, h1 with
      | 0, _ => cases hk; exact .inl rfl
      | 1, _ => cases hk; exact .inr (.inr hq1)⟩
  have hS : va_S (fun z => z = x ∨ z = ea ∨ s.heap.size ≤ z) s.heap t.heap ([] ++ L) := ⟨hF1, hF2, fun z hz => by rw [List.nil_append] at hz; exact hL z hz⟩
  have hvA : va_Any "java/lang/Object" s t.heap vr := by
    obtain ⟨cell, a1, a2, a3, a4⟩ := hv2
    refine ⟨cell, ?_, a2, a3, a4⟩
    rw [hF2 vr hv1 (fun z => z.elim hvx (fun z => z.elim hve (fun z => absurd hv1 (Nat.not_lt.mpr z))))]
    exact a1
  generalize [] ++ L = L1 at hS ⊢
  generalize t.heap = H1 at hP1 hS hvA ⊢
  clear hF1 hF2
  have hP := hP1
  have hD := hD1
  refine lv_astore_n hx hb dJ2_add_2_10 rfl hl (by decide) rfl (fun ls hl => ?_)
  refine lv_aload_n hx hb dJ2_add_2_11 rfl (lv_at hl 0 rfl) ?_
  refine lv_iload_n hx hb dJ2_add_2_12 rfl (lv_at hl 3 rfl) ?_
  refine lv_aload_n hx hb dJ2_add_2_13 rfl (lv_at hl 2 rfl) ?_
  refine va_astqM hx hb hK hP hD hS 1 0 rfl rfl hvA (vp_in_nI (by omega) (by omega)) dJ2_add_2_14 (fun H2 locs2 hP2 hD2 hS2 => ?_)
  refine lv_aload_n hx hb dJ2_add_2_15 rfl (lv_at hl 1 rfl) ?_
  refine lv_iload_n hx hb dJ2_add_2_16 rfl (lv_at hl 3 rfl) ?_
  refine lv_iconst hx hb dJ2_add_2_17 rfl ?_
  refine lv_iadd hx hb dJ2_add_2_18 ?_
  rw [nI_clamp (show cap < 2 ^ 31 by omega)] at hP2 hD2
  rw [show Int32.ofInt 1 = (1 : Int32) by decide, nI_1]
  refine va_put (ci := 10) (v := .int (nI (cap + 1))) (ty := .int) (C := RJ2) (T := TJ2) (N := 3) hx hb hts in_J2 tyJ2 tyJ2_ok nmJ2 hown hK hP2 hD2 hS2 0 rfl (hcl 10 _ rfl) 2 (by decide) (hts _ q653) (fun _ h9 => h9) rfl (by decide +kernel) rfl rfl (Nat.le_of_ble_eq_true rfl) dJ2_add_2_19 (fun H3 locs3 hP3 hD3 hS3 => ?_)
  exact W.vret hx hb hr (fun t1 ht hW => ⟨rfl, q, hq1, by rw [ht]; exact hP3, hS3.F ht⟩) hS3.2.2 dJ2_add_2_22 hlocks
theorem jm_ad2_first (hcl : cx_clok cl) (x e0 vr sz : Nat) (cA : ClassId) (mc : Int32) (hvx : vr ≠ x) : Met l yJ2_add_2 (ws_ yJ2_add_2 cJ2_add_2 4 none) { frames := 5, cells := 1, slots := 10, locals := 200 } (fun a U => a = [.ref x, .ref vr, .ref e0, .int 0].toArray ∧ U.heap.size = sz ∧ va_P D cl [(x, .inr (10, [.int mc, .ref e0, .int 0]))] U.heap ∧ va_K D cl [(cA, .object "java/lang/Object")] U ∧ jm_S U ∧ (vr < sz ∧ va_Any "java/lang/Object" U U.heap vr) ∧ va_Z "java/util/ArrayList" "DEFAULTCAPACITY_EMPTY_ELEMENTDATA" "[Ljava/lang/Object;" (.ref e0) (fun z => z = x ∨ sz ≤ z) U U.heap ∧ va_T (.object "java/lang/Object") e0 0 (fun _ => .null) (fun z => z = x ∨ sz ≤ z) U U.heap) (fun _ st o t => o = .returned none ∧ ∃ q, sz ≤ q ∧ va_P D cl [(x, .inr (10, [.int mc, .ref q, .int (nI 1)])), (q, .inl (cA, 10, .inr (.inr (.inr (.inr (va_up (fun _ => none) 0 (some vr)))))))] t.heap ∧ va_F (fun z => z = x ∨ sz ≤ z) st t) 1 10 (fun z => z = x ∨ sz ≤ z) := by
  refine Met.ofW (cc := cJ2_add_2) (maxL := 4) (ret := none) (by decide) rfl ?_
  intro p e s m args below meth c s₁ B hml hv
  obtain ⟨rfl, hsz, hP, hK, hSS, ⟨hv1, hv2⟩, hZ, hT⟩ := hv
  subst hsz
  have hD : va_D (fun z => z = x ∨ s.heap.size ≤ z) [(x, .inr (10, [.int mc, .ref e0, .int 0]))] := ⟨fun i j a b ha hb _ => by
    have h1 : i < 1 := (List.getElem?_eq_some_iff.mp ha).1
    have h2 : j < 1 := (List.getElem?_eq_some_iff.mp hb).1
    omega, fun k q hk => by
    have h1 : k < 1 := (List.getElem?_eq_some_iff.mp hk).1
    have h2 : k = 0 := by omega
    subst h2
    cases hk
    exact .inl rfl⟩
  have hx := B.exec
  have hb := B.bytes
  have hr := B.returns
  have hts := atoms_spec (ws := ws_ yJ2_add_2 cJ2_add_2 4 none) B.pre
  have hts : ∀ w ∈ lw_all, w.before _ s = true := fun w h => hts w (List.mem_cons_of_mem _ h)
  have hown : s.vm.findClass RJ2 = some m.cls := findClass_of_methodNamed B.named
  have hlocks := B.notSynchronized
  have hl := lv_entry ([.ref x, .ref vr, .ref e0, .int 0]) (n := 4) (Nat.le_of_ble_eq_true rfl)
  rw [lg_entry_eq]
  generalize (lg_sl ([.ref x, .ref vr, .ref e0, .int 0]) ++ List.replicate (4 - (lg_sl ([.ref x, .ref vr, .ref e0, .int 0])).length) Slot.unset).toArray = ls at hl ⊢
  have hl : lv_has ls 4 [(0, .ref x), (1, .ref vr), (2, .ref e0), (3, .int 0)] := hl
  refine lv_iload_n hx hb dJ2_add_2_0 rfl (lv_at hl 3 rfl) ?_
  refine lv_aload_n hx hb dJ2_add_2_1 rfl (lv_at hl 2 rfl) ?_
  refine va_tlen hx hb hT va_S.rf rfl dJ2_add_2_2 ?_
  refine lv_icmp_ne hx hb dJ2_add_2_3 rfl (fun h => absurd rfl h) (fun _ => ?_)
  refine lv_aload_n hx hb dJ2_add_2_6 rfl (lv_at hl 0 rfl) ?_
  refine am_callR (va_runV (own := RJ2) (C := RJ2) (n := 0) (Ts := lw_all) (b := x) (As := []) (rest := []) ⟨hx, hb, hml, hown, hts⟩ (jm_w0 hcl x e0 s.heap.size cA mc) (cwV 0 hts (lw_V q255 q257 qs2 q68 q258) rfl rfl rfl ⟨rfl, by decide, by decide, by decide +kernel⟩ ⟨Nat.le_of_ble_eq_true rfl, Nat.le_of_ble_eq_true rfl⟩) ⟨fun a U gg mk q => ⟨q.1, q.2.1, q.2.2.1, va_K.moved (u := U) (U := U.calling gg mk a) (Vm.Alike.refl U.vm) q.2.2.2.1, jm_S.moved (u := U) (U := U.calling gg mk a) (Vm.Alike.refl U.vm) q.2.2.2.2.1, va_Z.moved (u := U) (U := U.calling gg mk a) (Vm.Alike.refl U.vm) q.2.2.2.2.2.1, va_T.moved (u := U) (U := U.calling gg mk a) (Vm.Alike.refl U.vm) q.2.2.2.2.2.2⟩, va_recv hK hP (hcl 10 _ rfl) (q0 := 0) rfl, fun U hU hW => ⟨rfl, by rw [hU], by rw [hU]; exact hP, va_K.moved hW.alike hK, hSS.moved hW.alike, by rw [hU]; exact hZ.moved hW.alike, by rw [hU]; exact hT.moved hW.alike⟩⟩ rfl rfl hl.1 rfl (lv_room (Nat.le_of_ble_eq_true rfl)) dJ2_add_2_7 ⟨Nat.le_of_ble_eq_true rfl, Nat.le_of_ble_eq_true rfl⟩) (fun v st₀ t L h0 hWm hq hL => ?_)
  obtain ⟨q, hv, hq1, hP1, hF1, hF2⟩ := hq
  cases hv
  rw [h0] at hF1 hF2
  have hxl : x < s.heap.size := (hP 0 _ rfl).lt
  have hD1 : va_D (fun z => z = x ∨ s.heap.size ≤ z) [(x, .inr (10, [.int mc, .ref q, .int 0])), (q, .inl (cA, 10, .inr (.inr (.inr (.inr (fun _ => none))))))] := ⟨fun i j a b ha hb hab => by
      have h1 : i < 2 := (List.getElem?_eq_some_iff.mp ha).1
      have h2 : j < 2 := (List.getElem?_eq_some_iff.mp hb).1
      match i, j, h1, h2 with
      | 0, 0, _, _ => rfl
      | 1, 1, _, _ => rfl
      | 0, 1, _, _ => cases ha; cases hb; exact absurd hab (by omega)
      | 1, 0, _, _ => cases ha; cases hb; exact absurd hab (by omega), fun k z hk => by
      have h1 : k < 2 := (List.getElem?_eq_some_iff.mp hk).1
      match k, h1 with
      | 0, _ => cases hk; exact .inl rfl
      | 1, _ => cases hk; exact .inr hq1⟩
  have hS : va_S (fun z => z = x ∨ s.heap.size ≤ z) s.heap t.heap ([] ++ L) := ⟨hF1, hF2, fun z hz => by rw [List.nil_append] at hz; exact hL z hz⟩
  have hvA : va_Any "java/lang/Object" s t.heap vr := by
    obtain ⟨cell, a1, a2, a3, a4⟩ := hv2
    refine ⟨cell, ?_, a2, a3, a4⟩
    rw [hF2 vr hv1 (fun z => z.elim hvx (fun z => absurd hv1 (Nat.not_lt.mpr z)))]
    exact a1
  generalize [] ++ L = L1 at hS ⊢
  generalize t.heap = H1 at hP1 hS hvA ⊢
  clear hF1 hF2
  have hP := hP1
  have hD := hD1
  refine lv_astore_n hx hb dJ2_add_2_10 rfl hl (by decide) rfl (fun ls hl => ?_)
  refine lv_aload_n hx hb dJ2_add_2_11 rfl (lv_at hl 0 rfl) ?_
  refine lv_iload_n hx hb dJ2_add_2_12 rfl (lv_at hl 3 rfl) ?_
  refine lv_aload_n hx hb dJ2_add_2_13 rfl (lv_at hl 2 rfl) ?_
  refine va_astqM hx hb hK hP hD hS 1 0 rfl rfl hvA (by unfold vp_in; decide) dJ2_add_2_14 (fun H2 locs2 hP2 hD2 hS2 => ?_)
  refine lv_aload_n hx hb dJ2_add_2_15 rfl (lv_at hl 1 rfl) ?_
  refine lv_iload_n hx hb dJ2_add_2_16 rfl (lv_at hl 3 rfl) ?_
  refine lv_iconst hx hb dJ2_add_2_17 rfl ?_
  refine lv_iadd hx hb dJ2_add_2_18 ?_
  refine va_put (ci := 10) (v := .int (nI 1)) (ty := .int) (C := RJ2) (T := TJ2) (N := 3) hx hb hts in_J2 tyJ2 tyJ2_ok nmJ2 hown hK hP2 hD2 hS2 0 rfl (hcl 10 _ rfl) 2 (by decide) (hts _ q653) (fun _ h9 => h9) rfl (by decide +kernel) rfl rfl (Nat.le_of_ble_eq_true rfl) dJ2_add_2_19 (fun H3 locs3 hP3 hD3 hS3 => ?_)
  exact W.vret hx hb hr (fun t1 ht hW => ⟨rfl, q, hq1, by rw [ht]; exact hP3, hS3.F ht⟩) hS3.2.2 dJ2_add_2_22 hlocks
theorem jm_add_room (hcl : cx_clok cl) (x ea cap k vr sz : Nat) (cA : ClassId) (mc : Int32) (g : Nat → Option Nat) (hk : k < cap) (h65 : cap ≤ 65000) (hxe : x ≠ ea) (hvx : vr ≠ x) (hve : vr ≠ ea) : Met l yJ2_add (ws_ yJ2_add cJ2_add 2 (some .boolean)) { frames := 6, cells := 0, slots := 0, locals := 240 } (fun a U => a = [.ref x, .ref vr].toArray ∧ U.heap.size = sz ∧ va_P D cl [(x, .inr (10, [.int mc, .ref ea, .int (nI k)])), (ea, .inl (cA, cap, .inr (.inr (.inr (.inr (g))))))] U.heap ∧ va_K D cl [(cA, .object "java/lang/Object")] U ∧ jm_S U ∧ vr < sz ∧ va_Any "java/lang/Object" U U.heap vr) (fun _ st o t => o = .returned (some (.int 1)) ∧ va_P D cl [(x, .inr (10, [.int (mc + 1), .ref ea, .int (nI (k + 1))])), (ea, .inl (cA, cap, .inr (.inr (.inr (.inr (va_up g k (some vr)))))))] t.heap ∧ va_F (fun z => z = x ∨ z = ea ∨ sz ≤ z) st t) 0 0 (fun z => z = x ∨ z = ea ∨ sz ≤ z) := by
  refine Met.ofW (cc := cJ2_add) (maxL := 2) (ret := (some .boolean)) (by decide) rfl ?_
  intro p e s m args below meth c s₁ B hml hv
  obtain ⟨rfl, hsz, hP, hK, hSS, hv1, hv2⟩ := hv
  subst hsz
  have hD : va_D (fun z => z = x ∨ z = ea ∨ s.heap.size ≤ z) [(x, .inr (10, [.int mc, .ref ea, .int (nI k)])), (ea, .inl (cA, cap, .inr (.inr (.inr (.inr g)))))] := ⟨fun i j a b ha hb hab => by
    have h1 : i < 2 := (List.getElem?_eq_some_iff.mp ha).1
    have h2 : j < 2 := (List.getElem?_eq_some_iff.mp hb).1
    match i, j, h1, h2 with
    | 0, 0, _, _ => rfl
    | 1, 1, _, _ => rfl
    | 0, 1, _, _ => cases ha; cases hb; exact absurd hab hxe
    | 1, 0, _, _ => cases ha; cases hb; exact absurd hab.symm hxe, fun k q hk => by
    have h1 : k < 2 := (List.getElem?_eq_some_iff.mp hk).1
    match k, h1 with
    | 0, _ => cases hk; exact .inl rfl
    | 1, _ => cases hk; exact .inr (.inl rfl)⟩
  have hx := B.exec
  have hb := B.bytes
  have hr := B.returns
  have hts := atoms_spec (ws := ws_ yJ2_add cJ2_add 2 (some .boolean)) B.pre
  have hts : ∀ w ∈ lw_all, w.before _ s = true := fun w h => hts w (List.mem_cons_of_mem _ h)
  have hown : s.vm.findClass RJ2 = some m.cls := findClass_of_methodNamed B.named
  have hlocks := B.notSynchronized
  have hl := lv_entry ([.ref x, .ref vr]) (n := 2) (Nat.le_of_ble_eq_true rfl)
  rw [lg_entry_eq]
  generalize (lg_sl ([.ref x, .ref vr]) ++ List.replicate (2 - (lg_sl ([.ref x, .ref vr])).length) Slot.unset).toArray = ls at hl ⊢
  have hl : lv_has ls 2 [(0, .ref x), (1, .ref vr)] := hl
  refine lv_aload_n hx hb dJ2_add_0 rfl (lv_at hl 0 rfl) ?_
  refine lv_dup hx hb dJ2_add_1 rfl ?_
  refine va_get (ci := 10) (v := .int mc) (C := RJ2) (T := TJ2) (N := 3) hx hb hts in_J2 hown hK hP 0 rfl (hcl 10 _ rfl) 0 (by decide) (hts _ q655) (u_same (hts _ q656)) rfl dJ2_add_2 ?_
  refine lv_iconst hx hb dJ2_add_5 rfl ?_
  refine lv_iadd hx hb dJ2_add_6 ?_
  rw [show mc + Int32.ofInt 1 = mc + 1 by rw [show Int32.ofInt 1 = (1 : Int32) by decide]]
  refine va_put (ci := 10) (v := .int (mc + 1)) (ty := .int) (C := RJ2) (T := TJ2) (N := 3) hx hb hts in_J2 tyJ2 tyJ2_ok nmJ2 hown hK hP hD va_S.rf 0 rfl (hcl 10 _ rfl) 0 (by decide) (hts _ q655) (u_same (hts _ q656)) rfl (by decide +kernel) rfl rfl (Nat.le_of_ble_eq_true rfl) dJ2_add_7 (fun H2 locs2 hP2 hD2 hS2 => ?_)
  have hP : va_P D cl [(x, .inr (10, [.int (mc + 1), .ref ea, .int (nI k)])), (ea, .inl (cA, cap, .inr (.inr (.inr (.inr (g))))))] H2 := hP2
  refine lv_aload_n hx hb dJ2_add_10 rfl (lv_at hl 0 rfl) ?_
  refine lv_aload_n hx hb dJ2_add_11 rfl (lv_at hl 1 rfl) ?_
  refine lv_aload_n hx hb dJ2_add_12 rfl (lv_at hl 0 rfl) ?_
  refine va_get (ci := 10) (v := .ref ea) (C := RJ2) (T := TJ2) (N := 3) hx hb hts in_J2 hown hK hP 0 rfl (hcl 10 _ rfl) 1 (by decide) (hts _ q652) (fun _ h9 => h9) rfl dJ2_add_13 ?_
  refine lv_aload_n hx hb dJ2_add_16 rfl (lv_at hl 0 rfl) ?_
  refine va_get (ci := 10) (v := .int (nI k)) (C := RJ2) (T := TJ2) (N := 3) hx hb hts in_J2 hown hK hP 0 rfl (hcl 10 _ rfl) 2 (by decide) (hts _ q653) (fun _ h9 => h9) rfl dJ2_add_17 ?_
  have hvA : va_Any "java/lang/Object" s H2 vr := by
    obtain ⟨cell, a1, a2, a3, a4⟩ := hv2
    refine ⟨cell, ?_, a2, a3, a4⟩
    rw [hS2.2.1 vr hv1 (fun z => z.elim hvx (fun z => z.elim hve (fun z => absurd hv1 (Nat.not_lt.mpr z))))]
    exact a1
  have hv3 : vr < H2.size := Nat.lt_of_lt_of_le hv1 hS2.1
  refine am_callR (va_runV (own := RJ2) (C := RJ2) (n := 3) (Ts := lw_all) (b := x) (As := [.ref vr, .ref ea, .int (nI k)]) (rest := []) ⟨hx, hb, hml, hown, hts⟩ (jm_ad2_room hcl x ea cap k vr H2.size cA (mc + 1) g hk h65 hxe) (cwV 3 hts (lw_V q250 q252 qs1 q68 q254) rfl rfl rfl ⟨rfl, by decide, by decide, by decide +kernel⟩ ⟨Nat.le_of_ble_eq_true rfl, Nat.le_of_ble_eq_true rfl⟩) ⟨fun a U gg mk q => ⟨q.1, q.2.1, q.2.2.1, va_K.moved (u := U) (U := U.calling gg mk a) (Vm.Alike.refl U.vm) q.2.2.2.1, jm_S.moved (u := U) (U := U.calling gg mk a) (Vm.Alike.refl U.vm) q.2.2.2.2.1, q.2.2.2.2.2.1, jm_any (U := U) (V := U.calling gg mk a) (Vm.Alike.refl U.vm) q.2.2.2.2.2.2⟩, va_recv hK hP (hcl 10 _ rfl) (q0 := 0) rfl, fun U hU hW => ⟨rfl, by rw [hU], by rw [hU]; exact hP, va_K.moved hW.alike hK, hSS.moved hW.alike, hv3, by rw [hU]; exact jm_any hW.alike hvA⟩⟩ rfl rfl hl.1 rfl (lv_room (Nat.le_of_ble_eq_true rfl)) dJ2_add_20 ⟨Nat.le_of_ble_eq_true rfl, Nat.le_of_ble_eq_true rfl⟩) (fun v st₀ t L h0 hWm hq hL => ?_)
  obtain ⟨hv, hP3, hF1, hF2⟩ := hq
  cases hv
  rw [h0] at hF1 hF2
  have hsub := fun z (hz : z = x ∨ z = ea ∨ H2.size ≤ z) => show z = x ∨ z = ea ∨ s.heap.size ≤ z from hz.imp id (fun e => e.imp id (fun e => Nat.le_trans hS2.1 e))
  refine lv_iconst hx hb dJ2_add_23 rfl ?_
  refine am_nret (w := 1) hx hb hr (by decide) (fun t1 ht hW => ⟨rfl, by rw [ht]; exact hP3, by rw [ht]; exact Nat.le_trans hS2.1 hF1, fun z h1 h2 => ?_⟩) (fun z hz => ?_) dJ2_add_24 hlocks
  · rcases List.mem_append.mp hz with h | h
    · exact hS2.2.2 z h
    · exact hsub _ (hL z h)
  · rw [ht, hF2 z (Nat.lt_of_lt_of_le h1 hS2.1) (fun e => h2 (hsub z e))]
    exact hS2.2.1 z h1 h2
theorem jm_add_full (hcl : cx_clok cl) (x ea cap vr sz : Nat) (cA : ClassId) (mc : Int32) (g : Nat → Option Nat) (h10 : 10 ≤ cap) (h65 : cap ≤ 65000) (hxe : x ≠ ea) (hvx : vr ≠ x) (hve : vr ≠ ea) (hny : ∀ j y, j < cap → g j = some y → y ≠ x ∧ y ≠ ea) : Met l yJ2_add (ws_ yJ2_add cJ2_add 2 (some .boolean)) { frames := 6, cells := 1, slots := (cap + cap / 2), locals := 240 } (fun a U => a = [.ref x, .ref vr].toArray ∧ U.heap.size = sz ∧ va_P D cl [(x, .inr (10, [.int mc, .ref ea, .int (nI cap)])), (ea, .inl (cA, cap, .inr (.inr (.inr (.inr (g))))))] U.heap ∧ va_K D cl [(cA, .object "java/lang/Object")] U ∧ jm_S U ∧ (vr < sz ∧ va_Any "java/lang/Object" U U.heap vr) ∧ ∀ j y, j < cap → g j = some y → y < sz ∧ va_Any "java/lang/Object" U U.heap y) (fun _ st o t => o = .returned (some (.int 1)) ∧ ∃ q, sz ≤ q ∧ va_P D cl [(x, .inr (10, [.int (mc + 1), .ref q, .int (nI (cap + 1))])), (q, .inl (cA, (cap + cap / 2), .inr (.inr (.inr (.inr (va_up (va_cpy g (fun _ => none) 0 0 cap) cap (some vr)))))))] t.heap ∧ va_F (fun z => z = x ∨ z = ea ∨ sz ≤ z) st t) 1 (cap + cap / 2) (fun z => z = x ∨ z = ea ∨ sz ≤ z) := by
  refine Met.ofW (cc := cJ2_add) (maxL := 2) (ret := (some .boolean)) (by decide) rfl ?_
  intro p e s m args below meth c s₁ B hml hv
  obtain ⟨rfl, hsz, hP, hK, hSS, ⟨hv1, hv2⟩, hel⟩ := hv
  subst hsz
  have hD : va_D (fun z => z = x ∨ z = ea ∨ s.heap.size ≤ z) [(x, .inr (10, [.int mc, .ref ea, .int (nI cap)])), (ea, .inl (cA, cap, .inr (.inr (.inr (.inr g)))))] := ⟨fun i j a b ha hb hab => by
    have h1 : i < 2 := (List.getElem?_eq_some_iff.mp ha).1
    have h2 : j < 2 := (List.getElem?_eq_some_iff.mp hb).1
    match i, j, h1, h2 with
    | 0, 0, _, _ => rfl
    | 1, 1, _, _ => rfl
    | 0, 1, _, _ => cases ha; cases hb; exact absurd hab hxe
    | 1, 0, _, _ => cases ha; cases hb; exact absurd hab.symm hxe, fun k q hk => by
    have h1 : k < 2 := (List.getElem?_eq_some_iff.mp hk).1
    match k, h1 with
    | 0, _ => cases hk; exact .inl rfl
    | 1, _ => cases hk; exact .inr (.inl rfl)⟩
  have hx := B.exec
  have hb := B.bytes
  have hr := B.returns
  have hts := atoms_spec (ws := ws_ yJ2_add cJ2_add 2 (some .boolean)) B.pre
  have hts : ∀ w ∈ lw_all, w.before _ s = true := fun w h => hts w (List.mem_cons_of_mem _ h)
  have hown : s.vm.findClass RJ2 = some m.cls := findClass_of_methodNamed B.named
  have hlocks := B.notSynchronized
  have hl := lv_entry ([.ref x, .ref vr]) (n := 2) (Nat.le_of_ble_eq_true rfl)
  rw [lg_entry_eq]
  generalize (lg_sl ([.ref x, .ref vr]) ++ List.replicate (2 - (lg_sl ([.ref x, .ref vr])).length) Slot.unset).toArray = ls at hl ⊢
  have hl : lv_has ls 2 [(0, .ref x), (1, .ref vr)] := hl
  refine lv_aload_n hx hb dJ2_add_0 rfl (lv_at hl 0 rfl) ?_
  refine lv_dup hx hb dJ2_add_1 rfl ?_
  refine va_get (ci := 10) (v := .int mc) (C := RJ2) (T := TJ2) (N := 3) hx hb hts in_J2 hown hK hP 0 rfl (hcl 10 _ rfl) 0 (by decide) (hts _ q655) (u_same (hts _ q656)) rfl dJ2_add_2 ?_
  refine lv_iconst hx hb dJ2_add_5 rfl ?_
  refine lv_iadd hx hb dJ2_add_6 ?_
  rw [show mc + Int32.ofInt 1 = mc + 1 by rw [show Int32.ofInt 1 = (1 : Int32) by decide]]
  refine va_put (ci := 10) (v := .int (mc + 1)) (ty := .int) (C := RJ2) (T := TJ2) (N := 3) hx hb hts in_J2 tyJ2 tyJ2_ok nmJ2 hown hK hP hD va_S.rf 0 rfl (hcl 10 _ rfl) 0 (by decide) (hts _ q655) (u_same (hts _ q656)) rfl (by decide +kernel) rfl rfl (Nat.le_of_ble_eq_true rfl) dJ2_add_7 (fun H2 locs2 hP2 hD2 hS2 => ?_)
  have hP : va_P D cl [(x, .inr (10, [.int (mc + 1), .ref ea, .int (nI cap)])), (ea, .inl (cA, cap, .inr (.inr (.inr (.inr (g))))))] H2 := hP2
  refine lv_aload_n hx hb dJ2_add_10 rfl (lv_at hl 0 rfl) ?_
  refine lv_aload_n hx hb dJ2_add_11 rfl (lv_at hl 1 rfl) ?_
  refine lv_aload_n hx hb dJ2_add_12 rfl (lv_at hl 0 rfl) ?_
  refine va_get (ci := 10) (v := .ref ea) (C := RJ2) (T := TJ2) (N := 3) hx hb hts in_J2 hown hK hP 0 rfl (hcl 10 _ rfl) 1 (by decide) (hts _ q652) (fun _ h9 => h9) rfl dJ2_add_13 ?_
  refine lv_aload_n hx hb dJ2_add_16 rfl (lv_at hl 0 rfl) ?_
  refine va_get (ci := 10) (v := .int (nI cap)) (C := RJ2) (T := TJ2) (N := 3) hx hb hts in_J2 hown hK hP 0 rfl (hcl 10 _ rfl) 2 (by decide) (hts _ q653) (fun _ h9 => h9) rfl dJ2_add_17 ?_
  have hvA : va_Any "java/lang/Object" s H2 vr := by
    obtain ⟨cell, a1, a2, a3, a4⟩ := hv2
    refine ⟨cell, ?_, a2, a3, a4⟩
    rw [hS2.2.1 vr hv1 (fun z => z.elim hvx (fun z => z.elim hve (fun z => absurd hv1 (Nat.not_lt.mpr z))))]
    exact a1
  have hv3 : vr < H2.size := Nat.lt_of_lt_of_le hv1 hS2.1
  have hel2 : ∀ j y, j < cap → g j = some y → y < H2.size ∧ va_Any "java/lang/Object" s H2 y := by
    intro j y hj hy
    obtain ⟨b1, cell, a1, a2, a3, a4⟩ := hel j y hj hy
    refine ⟨Nat.lt_of_lt_of_le b1 hS2.1, cell, ?_, a2, a3, a4⟩
    rw [hS2.2.1 y b1 (fun z => z.elim (hny j y hj hy).1 (fun z => z.elim (hny j y hj hy).2 (fun z => absurd b1 (Nat.not_lt.mpr z))))]
    exact a1
  refine am_callR (va_runV (own := RJ2) (C := RJ2) (n := 3) (Ts := lw_all) (b := x) (As := [.ref vr, .ref ea, .int (nI cap)]) (rest := []) ⟨hx, hb, hml, hown, hts⟩ (jm_ad2_full hcl x ea cap vr H2.size cA (mc + 1) g h10 h65 hxe hvx hve) (cwV 3 hts (lw_V q250 q252 qs1 q68 q254) rfl rfl rfl ⟨rfl, by decide, by decide, by decide +kernel⟩ ⟨Nat.le_of_ble_eq_true rfl, Nat.le_of_ble_eq_true rfl⟩) ⟨fun a U gg mk q => ⟨q.1, q.2.1, q.2.2.1, va_K.moved (u := U) (U := U.calling gg mk a) (Vm.Alike.refl U.vm) q.2.2.2.1, jm_S.moved (u := U) (U := U.calling gg mk a) (Vm.Alike.refl U.vm) q.2.2.2.2.1, ⟨q.2.2.2.2.2.1.1, jm_any (U := U) (V := U.calling gg mk a) (Vm.Alike.refl U.vm) q.2.2.2.2.2.1.2⟩, fun j y h1 h2 => ⟨(q.2.2.2.2.2.2 j y h1 h2).1, jm_any (U := U) (V := U.calling gg mk a) (Vm.Alike.refl U.vm) (q.2.2.2.2.2.2 j y h1 h2).2⟩⟩, va_recv hK hP (hcl 10 _ rfl) (q0 := 0) rfl, fun U hU hW => ⟨rfl, by rw [hU], by rw [hU]; exact hP, va_K.moved hW.alike hK, hSS.moved hW.alike, ⟨hv3, by rw [hU]; exact jm_any hW.alike hvA⟩, fun j y h1 h2 => by rw [hU]; exact ⟨(hel2 j y h1 h2).1, jm_any hW.alike (hel2 j y h1 h2).2⟩⟩⟩ rfl rfl hl.1 rfl (lv_room (Nat.le_of_ble_eq_true rfl)) dJ2_add_20 ⟨Nat.le_of_ble_eq_true rfl, Nat.le_of_eq (Nat.zero_add _)⟩) (fun v st₀ t L h0 hWm hq hL => ?_)
  obtain ⟨hv, q, hq1, hP3, hF1, hF2⟩ := hq
  cases hv
  rw [show 0 + (cap + cap / 2) = (cap + cap / 2) by omega]
  rw [h0] at hF1 hF2
  have hsub := fun z (hz : z = x ∨ z = ea ∨ H2.size ≤ z) => show z = x ∨ z = ea ∨ s.heap.size ≤ z from hz.imp id (fun e => e.imp id (fun e => Nat.le_trans hS2.1 e))
  refine lv_iconst hx hb dJ2_add_23 rfl ?_
  refine am_nret (w := 1) hx hb hr (by decide) (fun t1 ht hW => ⟨rfl, q, Nat.le_trans hS2.1 hq1, by rw [ht]; exact hP3, by rw [ht]; exact Nat.le_trans hS2.1 hF1, fun z h1 h2 => ?_⟩) (fun z hz => ?_) dJ2_add_24 hlocks
  · rcases List.mem_append.mp hz with h | h
    · exact hS2.2.2 z h
    · exact hsub _ (hL z h)
  · rw [ht, hF2 z (Nat.lt_of_lt_of_le h1 hS2.1) (fun e => h2 (hsub z e))]
    exact hS2.2.1 z h1 h2
theorem jm_add_first (hcl : cx_clok cl) (x e0 vr sz : Nat) (cA : ClassId) (mc : Int32) (hvx : vr ≠ x) : Met l yJ2_add (ws_ yJ2_add cJ2_add 2 (some .boolean)) { frames := 6, cells := 1, slots := 10, locals := 240 } (fun a U => a = [.ref x, .ref vr].toArray ∧ U.heap.size = sz ∧ va_P D cl [(x, .inr (10, [.int mc, .ref e0, .int 0]))] U.heap ∧ va_K D cl [(cA, .object "java/lang/Object")] U ∧ jm_S U ∧ (vr < sz ∧ va_Any "java/lang/Object" U U.heap vr) ∧ va_Z "java/util/ArrayList" "DEFAULTCAPACITY_EMPTY_ELEMENTDATA" "[Ljava/lang/Object;" (.ref e0) (fun z => z = x ∨ sz ≤ z) U U.heap ∧ va_T (.object "java/lang/Object") e0 0 (fun _ => .null) (fun z => z = x ∨ sz ≤ z) U U.heap) (fun _ st o t => o = .returned (some (.int 1)) ∧ ∃ q, sz ≤ q ∧ va_P D cl [(x, .inr (10, [.int (mc + 1), .ref q, .int (nI 1)])), (q, .inl (cA, 10, .inr (.inr (.inr (.inr (va_up (fun _ => none) 0 (some vr)))))))] t.heap ∧ va_F (fun z => z = x ∨ sz ≤ z) st t) 1 10 (fun z => z = x ∨ sz ≤ z) := by
  refine Met.ofW (cc := cJ2_add) (maxL := 2) (ret := (some .boolean)) (by decide) rfl ?_
  intro p e s m args below meth c s₁ B hml hv
  obtain ⟨rfl, hsz, hP, hK, hSS, ⟨hv1, hv2⟩, hZ, hT⟩ := hv
  subst hsz
  have hD : va_D (fun z => z = x ∨ s.heap.size ≤ z) [(x, .inr (10, [.int mc, .ref e0, .int 0]))] := ⟨fun i j a b ha hb _ => by
    have h1 : i < 1 := (List.getElem?_eq_some_iff.mp ha).1
    have h2 : j < 1 := (List.getElem?_eq_some_iff.mp hb).1
    omega, fun k q hk => by
    have h1 : k < 1 := (List.getElem?_eq_some_iff.mp hk).1
    have h2 : k = 0 := by omega
    subst h2
    cases hk
    exact .inl rfl⟩
  have hx := B.exec
  have hb := B.bytes
  have hr := B.returns
  have hts := atoms_spec (ws := ws_ yJ2_add cJ2_add 2 (some .boolean)) B.pre
  have hts : ∀ w ∈ lw_all, w.before _ s = true := fun w h => hts w (List.mem_cons_of_mem _ h)
  have hown : s.vm.findClass RJ2 = some m.cls := findClass_of_methodNamed B.named
  have hlocks := B.notSynchronized
  have hl := lv_entry ([.ref x, .ref vr]) (n := 2) (Nat.le_of_ble_eq_true rfl)
  rw [lg_entry_eq]
  generalize (lg_sl ([.ref x, .ref vr]) ++ List.replicate (2 - (lg_sl ([.ref x, .ref vr])).length) Slot.unset).toArray = ls at hl ⊢
  have hl : lv_has ls 2 [(0, .ref x), (1, .ref vr)] := hl
  refine lv_aload_n hx hb dJ2_add_0 rfl (lv_at hl 0 rfl) ?_
  refine lv_dup hx hb dJ2_add_1 rfl ?_
  refine va_get (ci := 10) (v := .int mc) (C := RJ2) (T := TJ2) (N := 3) hx hb hts in_J2 hown hK hP 0 rfl (hcl 10 _ rfl) 0 (by decide) (hts _ q655) (u_same (hts _ q656)) rfl dJ2_add_2 ?_
  refine lv_iconst hx hb dJ2_add_5 rfl ?_
  refine lv_iadd hx hb dJ2_add_6 ?_
  rw [show mc + Int32.ofInt 1 = mc + 1 by rw [show Int32.ofInt 1 = (1 : Int32) by decide]]
  refine va_put (ci := 10) (v := .int (mc + 1)) (ty := .int) (C := RJ2) (T := TJ2) (N := 3) hx hb hts in_J2 tyJ2 tyJ2_ok nmJ2 hown hK hP hD va_S.rf 0 rfl (hcl 10 _ rfl) 0 (by decide) (hts _ q655) (u_same (hts _ q656)) rfl (by decide +kernel) rfl rfl (Nat.le_of_ble_eq_true rfl) dJ2_add_7 (fun H2 locs2 hP2 hD2 hS2 => ?_)
  have hP : va_P D cl [(x, .inr (10, [.int (mc + 1), .ref e0, .int 0]))] H2 := hP2
  refine lv_aload_n hx hb dJ2_add_10 rfl (lv_at hl 0 rfl) ?_
  refine lv_aload_n hx hb dJ2_add_11 rfl (lv_at hl 1 rfl) ?_
  refine lv_aload_n hx hb dJ2_add_12 rfl (lv_at hl 0 rfl) ?_
  refine va_get (ci := 10) (v := .ref e0) (C := RJ2) (T := TJ2) (N := 3) hx hb hts in_J2 hown hK hP 0 rfl (hcl 10 _ rfl) 1 (by decide) (hts _ q652) (fun _ h9 => h9) rfl dJ2_add_13 ?_
  refine lv_aload_n hx hb dJ2_add_16 rfl (lv_at hl 0 rfl) ?_
  refine va_get (ci := 10) (v := .int 0) (C := RJ2) (T := TJ2) (N := 3) hx hb hts in_J2 hown hK hP 0 rfl (hcl 10 _ rfl) 2 (by decide) (hts _ q653) (fun _ h9 => h9) rfl dJ2_add_17 ?_
  have hvA : va_Any "java/lang/Object" s H2 vr := by
    obtain ⟨cell, a1, a2, a3, a4⟩ := hv2
    refine ⟨cell, ?_, a2, a3, a4⟩
    rw [hS2.2.1 vr hv1 (fun z => z.elim hvx (fun z => absurd hv1 (Nat.not_lt.mpr z)))]
    exact a1
  have hv3 : vr < H2.size := Nat.lt_of_lt_of_le hv1 hS2.1
  refine am_callR (va_runV (own := RJ2) (C := RJ2) (n := 3) (Ts := lw_all) (b := x) (As := [.ref vr, .ref e0, .int 0]) (rest := []) ⟨hx, hb, hml, hown, hts⟩ (jm_ad2_first hcl x e0 vr H2.size cA (mc + 1) hvx) (cwV 3 hts (lw_V q250 q252 qs1 q68 q254) rfl rfl rfl ⟨rfl, by decide, by decide, by decide +kernel⟩ ⟨Nat.le_of_ble_eq_true rfl, Nat.le_of_ble_eq_true rfl⟩) ⟨fun a U gg mk q => ⟨q.1, q.2.1, q.2.2.1, va_K.moved (u := U) (U := U.calling gg mk a) (Vm.Alike.refl U.vm) q.2.2.2.1, jm_S.moved (u := U) (U := U.calling gg mk a) (Vm.Alike.refl U.vm) q.2.2.2.2.1, ⟨q.2.2.2.2.2.1.1, jm_any (U := U) (V := U.calling gg mk a) (Vm.Alike.refl U.vm) q.2.2.2.2.2.1.2⟩, va_Z.moved (u := U) (U := U.calling gg mk a) (Vm.Alike.refl U.vm) q.2.2.2.2.2.2.1, va_T.moved (u := U) (U := U.calling gg mk a) (Vm.Alike.refl U.vm) q.2.2.2.2.2.2.2⟩, va_recv hK hP (hcl 10 _ rfl) (q0 := 0) rfl, fun U hU hW => ⟨rfl, by rw [hU], by rw [hU]; exact hP, va_K.moved hW.alike hK, hSS.moved hW.alike, ⟨hv3, by rw [hU]; exact jm_any hW.alike hvA⟩, by rw [hU]; exact ((hZ.kept (fun a h1 h2 => hS2.2.1 a h1 h2)).moved hW.alike).narrow (fun z (hz : z = x ∨ H2.size ≤ z) => hz.imp id (fun e => Nat.le_trans hS2.1 e)), by rw [hU]; exact ((hT.kept (fun a h1 h2 => hS2.2.1 a h1 h2)).moved hW.alike).narrow (fun z (hz : z = x ∨ H2.size ≤ z) => hz.imp id (fun e => Nat.le_trans hS2.1 e))⟩⟩ rfl rfl hl.1 rfl (lv_room (Nat.le_of_ble_eq_true rfl)) dJ2_add_20 ⟨Nat.le_of_ble_eq_true rfl, Nat.le_of_ble_eq_true rfl⟩) (fun v st₀ t L h0 hWm hq hL => ?_)
  obtain ⟨hv, q, hq1, hP3, hF1, hF2⟩ := hq
  cases hv
  rw [h0] at hF1 hF2
  have hsub := fun z (hz : z = x ∨ H2.size ≤ z) => show z = x ∨ s.heap.size ≤ z from hz.imp id (fun e => Nat.le_trans hS2.1 e)
  refine lv_iconst hx hb dJ2_add_23 rfl ?_
  refine am_nret (w := 1) hx hb hr (by decide) (fun t1 ht hW => ⟨rfl, q, Nat.le_trans hS2.1 hq1, by rw [ht]; exact hP3, by rw [ht]; exact Nat.le_trans hS2.1 hF1, fun z h1 h2 => ?_⟩) (fun z hz => ?_) dJ2_add_24 hlocks
  · rcases List.mem_append.mp hz with h | h
    · exact hS2.2.2 z h
    · exact hsub _ (hL z h)
  · rw [ht, hF2 z (Nat.lt_of_lt_of_le h1 hS2.1) (fun e => h2 (hsub z e))]
    exact hS2.2.1 z h1 h2
end
