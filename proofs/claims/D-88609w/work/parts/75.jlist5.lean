/-! ARRAYLIST: remove(the last), the constructor. (Printed by gen/jlist5.py.) -/
section
variable {l : Launch} {D : va_G} {cl : List vw_C}
theorem jm_fr (hcl : cx_clok cl) (x ea cap k sz : Nat) (cA : ClassId) (mc : Int32) (g : Nat → Option Nat) (hk : k < cap) (h65 : cap ≤ 65000) (hxe : x ≠ ea) : Met l yJ2_fastRemove (ws_ yJ2_fastRemove cJ2_fastRemove 4 none) { frames := 0, cells := 0, slots := 0, locals := 0 } (fun a U => a = [.ref x, .ref ea, .int (nI k)].toArray ∧ U.heap.size = sz ∧ va_P D cl [(x, .inr (10, [.int mc, .ref ea, .int (nI (k + 1))])), (ea, .inl (cA, cap, .inr (.inr (.inr (.inr (g))))))] U.heap ∧ va_K D cl [(cA, .object "java/lang/Object")] U) (fun _ st o t => o = .returned none ∧ va_P D cl [(x, .inr (10, [.int (mc + 1), .ref ea, .int (nI k)])), (ea, .inl (cA, cap, .inr (.inr (.inr (.inr (va_up g k none))))))] t.heap ∧ va_F (fun z => z = x ∨ z = ea ∨ sz ≤ z) st t) 0 0 (fun z => z = x ∨ z = ea ∨ sz ≤ z) := by
  refine Met.ofW (cc := cJ2_fastRemove) (maxL := 4) (ret := none) (by decide) rfl ?_
  intro p e s m args below meth c s₁ B hml hv
  obtain ⟨rfl, hsz, hP, hK⟩ := hv
  subst hsz
  have hD : va_D (fun z => z = x ∨ z = ea ∨ s.heap.size ≤ z) [(x, .inr (10, [.int mc, .ref ea, .int (nI (k + 1))])), (ea, .inl (cA, cap, .inr (.inr (.inr (.inr g)))))] := ⟨fun i j a b ha hb hab => by
    have h1 : i < 2 := (List.getElem?_eq_some_iff.mp ha).1
    have h2 : j < 2 := (List.getElem?_eq_some_iff.mp hb).1
    match i, j, h1, h2 with
    | 0, 0, _, _ => rfl
    | 1, 1, _, _ => rfl
    | 0, 1, _, _ => cases ha; cases hb; exact absurd hab hxe
    | 1, 0, _, _ => cases ha; cases hb; exact absurd hab.symm hxe, fun k q hk => by
    have h1 : k < 2 := (List.getElem?_eq_some_iff.mp hk).1
    match k, h1 with
    | 0, _ => cases hk; exact .inl rfl
    | 1, _ => cases hk; exact .inr (.inl rfl)⟩
  have hx := B.exec
  have hb := B.bytes
  have hr := B.returns
  have hts := atoms_spec (ws := ws_ yJ2_fastRemove cJ2_fastRemove 4 none) B.pre
  have hts : ∀ w ∈ lw_all, w.before _ s = true := fun w h => hts w (List.mem_cons_of_mem _ h)
  have hown : s.vm.findClass RJ2 = some m.cls := findClass_of_methodNamed B.named
  have hlocks := B.notSynchronized
  have hl := lv_entry ([.ref x, .ref ea, .int (nI k)]) (n := 4) (Nat.le_of_ble_eq_true rfl)
  rw [lg_entry_eq]
  generalize (lg_sl ([.ref x, .ref ea, .int (nI k)]) ++ List.replicate (4 - (lg_sl ([.ref x, .ref ea, .int (nI k)])).length) Slot.unset).toArray = ls at hl ⊢
  have hl : lv_has ls 4 [(0, .ref x), (1, .ref ea), (2, .int (nI k))] := hl
  refine lv_aload_n hx hb dJ2_fastRemove_0 rfl (lv_at hl 0 rfl) ?_
  refine lv_dup hx hb dJ2_fastRemove_1 rfl ?_
  refine va_get (ci := 10) (v := .int mc) (C := RJ2) (T := TJ2) (N := 3) hx hb hts in_J2 hown hK hP 0 rfl (hcl 10 _ rfl) 0 (by decide) (hts _ q655) (u_same (hts _ q656)) rfl dJ2_fastRemove_2 ?_
  refine lv_iconst hx hb dJ2_fastRemove_5 rfl ?_
  refine lv_iadd hx hb dJ2_fastRemove_6 ?_
  rw [show mc + Int32.ofInt 1 = mc + 1 by rw [show Int32.ofInt 1 = (1 : Int32) by decide]]
  refine va_put (ci := 10) (v := .int (mc + 1)) (ty := .int) (C := RJ2) (T := TJ2) (N := 3) hx hb hts in_J2 tyJ2 tyJ2_ok nmJ2 hown hK hP hD va_S.rf 0 rfl (hcl 10 _ rfl) 0 (by decide) (hts _ q655) (u_same (hts _ q656)) rfl (by decide +kernel) rfl rfl (Nat.le_of_ble_eq_true rfl) dJ2_fastRemove_7 (fun H2 locs2 hP2 hD2 hS2 => ?_)
  have hP : va_P D cl [(x, .inr (10, [.int (mc + 1), .ref ea, .int (nI (k + 1))])), (ea, .inl (cA, cap, .inr (.inr (.inr (.inr (g))))))] H2 := hP2
  have hD : va_D (fun z => z = x ∨ z = ea ∨ s.heap.size ≤ z) [(x, .inr (10, [.int (mc + 1), .ref ea, .int (nI (k + 1))])), (ea, .inl (cA, cap, .inr (.inr (.inr (.inr (g))))))] := hD2
  refine lv_aload_n hx hb dJ2_fastRemove_10 rfl (lv_at hl 0 rfl) ?_
  refine va_get (ci := 10) (v := .int (nI (k + 1))) (C := RJ2) (T := TJ2) (N := 3) hx hb hts in_J2 hown hK hP 0 rfl (hcl 10 _ rfl) 2 (by decide) (hts _ q653) (fun _ h9 => h9) rfl dJ2_fastRemove_11 ?_
  refine lv_iconst hx hb dJ2_fastRemove_14 rfl ?_
  refine lv_isub hx hb dJ2_fastRemove_15 ?_
  have hk1 : nI (k + 1) - Int32.ofInt 1 = nI k := by
    have e := pk_sub (a := k + 1) (b := 1) (by omega)
    rw [Nat.add_sub_cancel] at e
    exact e
  rw [hk1]
  refine lv_dup hx hb dJ2_fastRemove_16 rfl ?_
  refine lv_istore_n hx hb dJ2_fastRemove_17 rfl hl (by decide) rfl (fun ls hl => ?_)
  refine lv_iload_n hx hb dJ2_fastRemove_18 rfl (lv_at hl 3 rfl) ?_
  refine lv_icmp_le hx hb dJ2_fastRemove_19 rfl (fun _ => ?_) (fun h => absurd (Int32.le_refl _) h)
  refine lv_aload_n hx hb dJ2_fastRemove_34 rfl (lv_at hl 2 rfl) ?_
  refine lv_aload_n hx hb dJ2_fastRemove_35 rfl (lv_at hl 1 rfl) ?_
  refine lv_iload_n hx hb dJ2_fastRemove_36 rfl (lv_at hl 0 rfl) ?_
  refine lv_dup_x1 hx hb dJ2_fastRemove_37 rfl rfl ?_
  refine va_put (ci := 10) (v := .int (nI k)) (ty := .int) (C := RJ2) (T := TJ2) (N := 3) hx hb hts in_J2 tyJ2 tyJ2_ok nmJ2 hown hK hP hD hS2 0 rfl (hcl 10 _ rfl) 2 (by decide) (hts _ q653) (fun _ h9 => h9) rfl (by decide +kernel) rfl rfl (Nat.le_of_ble_eq_true rfl) dJ2_fastRemove_38 (fun H3 locs3 hP3 hD3 hS3 => ?_)
  refine lv_null hx hb dJ2_fastRemove_41 ?_
  have hP : va_P D cl [(x, .inr (10, [.int (mc + 1), .ref ea, .int (nI k)])), (ea, .inl (cA, cap, .inr (.inr (.inr (.inr (g))))))] H3 := hP3
  have hD : va_D (fun z => z = x ∨ z = ea ∨ s.heap.size ≤ z) [(x, .inr (10, [.int (mc + 1), .ref ea, .int (nI k)])), (ea, .inl (cA, cap, .inr (.inr (.inr (.inr (g))))))] := hD3
  refine va_astqN hx hb hK hP hD hS3 1 0 rfl rfl (vp_in_nI hk (by omega)) dJ2_fastRemove_42 (fun H4 locs4 hP4 hD4 hS4 => ?_)
  rw [nI_clamp (show k < 2 ^ 31 by omega)] at hP4
  exact W.vret hx hb hr (fun t1 ht hW => ⟨rfl, by rw [ht]; exact hP4, hS4.F ht⟩) hS4.2.2 dJ2_fastRemove_43 hlocks
theorem jm_rem (hcl : cx_clok cl) (x ea cap k sz : Nat) (cA : ClassId) (mc : Int32) (g : Nat → Option Nat) (hk : k < cap) (h65 : cap ≤ 65000) (hxe : x ≠ ea) (y : Nat) (hy : g k = some y) : Met l yJ2_remove (ws_ yJ2_remove cJ2_remove 4 (some (.object "java/lang/Object"))) { frames := 2, cells := 0, slots := 0, locals := 80 } (fun a U => a = [.ref x, .int (nI k)].toArray ∧ U.heap.size = sz ∧ va_P D cl [(x, .inr (10, [.int mc, .ref ea, .int (nI (k + 1))])), (ea, .inl (cA, cap, .inr (.inr (.inr (.inr (g))))))] U.heap ∧ va_K D cl [(cA, .object "java/lang/Object")] U) (fun _ st o t => o = .returned (some (.ref y)) ∧ va_P D cl [(x, .inr (10, [.int (mc + 1), .ref ea, .int (nI k)])), (ea, .inl (cA, cap, .inr (.inr (.inr (.inr (va_up g k none))))))] t.heap ∧ va_F (fun z => z = x ∨ z = ea ∨ sz ≤ z) st t) 0 0 (fun z => z = x ∨ z = ea ∨ sz ≤ z) := by
  refine Met.ofW (cc := cJ2_remove) (maxL := 4) (ret := (some (.object "java/lang/Object"))) (by decide) rfl ?_
  intro p e s m args below meth c s₁ B hml hv
  obtain ⟨rfl, hsz, hP, hK⟩ := hv
  subst hsz
  have hx := B.exec
  have hb := B.bytes
  have hr := B.returns
  have hts := atoms_spec (ws := ws_ yJ2_remove cJ2_remove 4 (some (.object "java/lang/Object"))) B.pre
  have hts : ∀ w ∈ lw_all, w.before _ s = true := fun w h => hts w (List.mem_cons_of_mem _ h)
  have hown : s.vm.findClass RJ2 = some m.cls := findClass_of_methodNamed B.named
  have hlocks := B.notSynchronized
  have hl := lv_entry ([.ref x, .int (nI k)]) (n := 4) (Nat.le_of_ble_eq_true rfl)
  rw [lg_entry_eq]
  generalize (lg_sl ([.ref x, .int (nI k)]) ++ List.replicate (4 - (lg_sl ([.ref x, .int (nI k)])).length) Slot.unset).toArray = ls at hl ⊢
  have hl : lv_has ls 4 [(0, .ref x), (1, .int (nI k))] := hl
  refine lv_iload_n hx hb dJ2_remove_0 rfl (lv_at hl 1 rfl) ?_
  refine lv_aload_n hx hb dJ2_remove_1 rfl (lv_at hl 0 rfl) ?_
  refine va_get (ci := 10) (v := .int (nI (k + 1))) (C := RJ2) (T := TJ2) (N := 3) hx hb hts in_J2 hown hK hP 0 rfl (hcl 10 _ rfl) 2 (by decide) (hts _ q653) (fun _ h9 => h9) rfl dJ2_remove_2 ?_
  refine am_callR (va_runS (own := RJ2) (n := 2) (Ts := lw_all) (As := [.int (nI k), .int (nI (k + 1))]) (rest := []) ⟨hx, hb, hml, hown, hts⟩ (jm_oci (nI k) (nI (k + 1)) (nI_pos (by omega)) (nI_lt (by omega) (by omega))) (va_cwS 2 hts (lw_S q328 q329 q89 q330) rfl rfl rfl ⟨by decide, by decide, by decide +kernel⟩ ⟨by decide, by decide⟩) ⟨fun _ _ _ _ h => h, fun U hU hW => rfl⟩ rfl rfl hl.1 rfl (lv_room (Nat.le_of_ble_eq_true rfl)) dJ2_remove_5 ⟨by decide, by decide⟩) (fun v st₀ t L h0 hWm hq hL => ?_)
  obtain ⟨hv, hH⟩ := hq
  cases hv
  rw [h0] at hH
  rw [hH]
  have hL1 : ∀ z ∈ [] ++ L, (fun z => z = x ∨ z = ea ∨ s.heap.size ≤ z) z.base := fun z hz => by rw [List.nil_append] at hz; exact (hL z hz).elim
  generalize [] ++ L = L1 at hL1 ⊢
  refine lv_pop hx hb dJ2_remove_8 rfl ?_
  refine lv_aload_n hx hb dJ2_remove_9 rfl (lv_at hl 0 rfl) ?_
  refine va_get (ci := 10) (v := .ref ea) (C := RJ2) (T := TJ2) (N := 3) hx hb hts in_J2 hown hK hP 0 rfl (hcl 10 _ rfl) 1 (by decide) (hts _ q652) (fun _ h9 => h9) rfl dJ2_remove_10 ?_
  refine lv_astore_n hx hb dJ2_remove_13 rfl hl (by decide) rfl (fun ls hl => ?_)
  refine lv_aload_n hx hb dJ2_remove_14 rfl (lv_at hl 0 rfl) ?_
  refine lv_iload_n hx hb dJ2_remove_15 rfl (lv_at hl 2 rfl) ?_
  refine va_aldq hx hb hK hP 1 0 rfl rfl (vp_in_nI hk (by omega)) dJ2_remove_16 ?_
  rw [nI_clamp (show k < 2 ^ 31 by omega), hy]
  show W p l e _ s m _ below meth c _ _ _ _ _ (F0 m _ _ (.ref y :: _))
  refine lv_astore_n hx hb dJ2_remove_17 rfl hl (by decide) rfl (fun ls hl => ?_)
  refine lv_aload_n hx hb dJ2_remove_18 rfl (lv_at hl 2 rfl) ?_
  refine lv_aload_n hx hb dJ2_remove_19 rfl (lv_at hl 1 rfl) ?_
  refine lv_iload_n hx hb dJ2_remove_20 rfl (lv_at hl 3 rfl) ?_
  refine am_callR (va_runV (own := RJ2) (C := RJ2) (n := 2) (Ts := lw_all) (b := x) (As := [.ref ea, .int (nI k)]) (rest := []) ⟨hx, hb, hml, hown, hts⟩ (jm_fr hcl x ea cap k s.heap.size cA mc g hk h65 hxe) (cwV 2 hts (lw_V q347 q349 qs5 q68 q350) rfl rfl rfl ⟨rfl, by decide, by decide, by decide +kernel⟩ ⟨Nat.le_of_ble_eq_true rfl, Nat.le_of_ble_eq_true rfl⟩) ⟨fun a U gg mk q => ⟨q.1, q.2.1, q.2.2.1, va_K.moved (u := U) (U := U.calling gg mk a) (Vm.Alike.refl U.vm) q.2.2.2⟩, va_recv hK hP (hcl 10 _ rfl) (q0 := 0) rfl, fun U hU hW => ⟨rfl, by rw [hU], by rw [hU]; exact hP, va_K.moved hW.alike hK⟩⟩ rfl rfl hl.1 rfl (lv_room (Nat.le_of_ble_eq_true rfl)) dJ2_remove_21 ⟨Nat.le_of_ble_eq_true rfl, Nat.le_of_ble_eq_true rfl⟩) (fun vb st₀b tb Lb h0b hWmb hqb hLb => ?_)
  obtain ⟨hv, hP1, hF1, hF2⟩ := hqb
  cases hv
  rw [h0b] at hF1 hF2
  refine lv_aload_n hx hb dJ2_remove_24 rfl (lv_at hl 0 rfl) ?_
  refine W.aret hx hb hr (.inl ⟨_, rfl⟩) (.inr ⟨_, rfl⟩) (fun t1 ht hW => ⟨rfl, by rw [ht]; exact hP1, by rw [ht]; exact hF1, fun z h1 h2 => by rw [ht]; exact hF2 z h1 h2⟩) (fun z hz => ?_) dJ2_remove_25 hlocks
  rcases List.mem_append.mp hz with h | h
  · exact hL1 z h
  · exact hLb z h
theorem jm_aci (x : Nat) : Met l yJ0_init (ws_ yJ0_init cJ0_init 1 none) { frames := 1, cells := 0, slots := 0, locals := 40 } (fun a U => a = [.ref x].toArray) (fun _ st o t => o = .returned none ∧ t.heap = st.heap) 0 0 (fun _ => False) := by
  refine Met.ofW (cc := cJ0_init) (maxL := 1) (ret := none) (by decide) rfl ?_
  intro p e s m args below meth c s₁ B hml hv
  obtain rfl := hv
  have hx := B.exec
  have hb := B.bytes
  have hr := B.returns
  have hts := atoms_spec (ws := ws_ yJ0_init cJ0_init 1 none) B.pre
  have hts : ∀ w ∈ lw_all, w.before _ s = true := fun w h => hts w (List.mem_cons_of_mem _ h)
  have hown : s.vm.findClass RJ0 = some m.cls := findClass_of_methodNamed B.named
  have hlocks := B.notSynchronized
  have hl := lv_entry ([.ref x]) (n := 1) (Nat.le_of_ble_eq_true rfl)
  rw [lg_entry_eq]
  generalize (lg_sl ([.ref x]) ++ List.replicate (1 - (lg_sl ([.ref x])).length) Slot.unset).toArray = ls at hl ⊢
  have hl : lv_has ls 1 [(0, .ref x)] := hl
  refine lv_aload_n hx hb dJ0_init_0 rfl (lv_at hl 0 rfl) ?_
  refine W.objInit hx hb hown (hts _ q651) (hts _ q125) (hts _ q126) rfl (by rw [hml]; exact hl.1) rfl dJ0_init_1 (Nat.le_of_ble_eq_true rfl) (Nat.le_of_ble_eq_true rfl) ?_
  exact W.vret hx hb hr (fun t1 ht hW => ⟨rfl, ht⟩) (fun _ h => by cases h) dJ0_init_4 hlocks
theorem jm_ali (hcl : cx_clok cl) (x sz : Nat) : Met l yJ1_init (ws_ yJ1_init cJ1_init 1 none) { frames := 2, cells := 0, slots := 0, locals := 80 } (fun a U => a = [.ref x].toArray ∧ U.heap.size = sz ∧ va_P D cl [(x, .inr (10, [.int 0, .null, .int 0]))] U.heap ∧ va_K D cl [] U) (fun _ st o t => o = .returned none ∧ va_P D cl [(x, .inr (10, [.int 0, .null, .int 0]))] t.heap ∧ va_F (fun z => z = x ∨ sz ≤ z) st t) 0 0 (fun z => z = x ∨ sz ≤ z) := by
  refine Met.ofW (cc := cJ1_init) (maxL := 1) (ret := none) (by decide) rfl ?_
  intro p e s m args below meth c s₁ B hml hv
  obtain ⟨rfl, hsz, hP, hK⟩ := hv
  subst hsz
  have hD : va_D (fun z => z = x ∨ s.heap.size ≤ z) [(x, .inr (10, [.int 0, .null, .int 0]))] := ⟨fun i j a b ha hb _ => by
    have h1 : i < 1 := (List.getElem?_eq_some_iff.mp ha).1
    have h2 : j < 1 := (List.getElem?_eq_some_iff.mp hb).1
    omega, fun k q hk => by
    have h1 : k < 1 := (List.getElem?_eq_some_iff.mp hk).1
    have h2 : k = 0 := by omega
    subst h2
    cases hk
    exact .inl rfl⟩
  have hx := B.exec
  have hb := B.bytes
  have hr := B.returns
  have hts := atoms_spec (ws := ws_ yJ1_init cJ1_init 1 none) B.pre
  have hts : ∀ w ∈ lw_all, w.before _ s = true := fun w h => hts w (List.mem_cons_of_mem _ h)
  have hown : s.vm.findClass RJ1 = some m.cls := findClass_of_methodNamed B.named
  have hlocks := B.notSynchronized
  have hl := lv_entry ([.ref x]) (n := 1) (Nat.le_of_ble_eq_true rfl)
  rw [lg_entry_eq]
  generalize (lg_sl ([.ref x]) ++ List.replicate (1 - (lg_sl ([.ref x])).length) Slot.unset).toArray = ls at hl ⊢
  have hl : lv_has ls 1 [(0, .ref x)] := hl
  refine lv_aload_n hx hb dJ1_init_0 rfl (lv_at hl 0 rfl) ?_
  refine am_callR (va_runI (own := RJ1) (n := 0) (Ts := lw_all) (b := x) (As := []) (rest := []) ⟨hx, hb, hml, hown, hts⟩ (jm_aci x) (cwI 0 hts (lw_meth q650) rfl rfl rfl (hts _ q66) (hts _ q648) (hts _ q649) rfl ⟨by decide, by decide, by decide +kernel⟩ ⟨Nat.le_of_ble_eq_true rfl, Nat.le_of_ble_eq_true rfl⟩) ⟨fun _ _ _ _ h => h, fun U hU hW => rfl⟩ rfl rfl hl.1 rfl (lv_room (Nat.le_of_ble_eq_true rfl)) dJ1_init_1 ⟨Nat.le_of_ble_eq_true rfl, Nat.le_of_ble_eq_true rfl⟩) (fun v st₀ t L h0 hWm hq hL => ?_)
  obtain ⟨hv, hH⟩ := hq
  cases hv
  rw [h0] at hH
  rw [hH]
  have hS : va_S (fun z => z = x ∨ s.heap.size ≤ z) s.heap s.heap ([] ++ L) := ⟨Nat.le_refl _, fun _ _ _ => rfl, fun z hz => by rw [List.nil_append] at hz; exact (hL z hz).elim⟩
  generalize [] ++ L = L1 at hS ⊢
  refine lv_aload_n hx hb dJ1_init_4 rfl (lv_at hl 0 rfl) ?_
  refine lv_iconst hx hb dJ1_init_5 rfl ?_
  refine va_put (ci := 10) (v := .int 0) (ty := .int) (C := RJ2) (T := TJ2) (N := 3) hx hb hts in_J2 tyJ2 tyJ2_ok nmJ2 hown hK hP hD hS 0 rfl (hcl 10 _ rfl) 0 (by decide) (hts _ q654) (fun _ h9 => h9) rfl (by decide +kernel) rfl rfl (Nat.le_of_ble_eq_true rfl) dJ1_init_6 (fun H2 locs2 hP2 hD2 hS2 => ?_)
  exact W.vret hx hb hr (fun t1 ht hW => ⟨rfl, by rw [ht]; exact hP2, hS2.F ht⟩) hS2.2.2 dJ1_init_9 hlocks
theorem jm_ini (hcl : cx_clok cl) (x e0 sz : Nat) : Met l yJ2_init (ws_ yJ2_init cJ2_init 1 none) { frames := 3, cells := 0, slots := 0, locals := 120 } (fun a U => a = [.ref x].toArray ∧ U.heap.size = sz ∧ va_P D cl [(x, .inr (10, [.int 0, .null, .int 0]))] U.heap ∧ va_K D cl [] U ∧ va_Z "java/util/ArrayList" "DEFAULTCAPACITY_EMPTY_ELEMENTDATA" "[Ljava/lang/Object;" (.ref e0) (fun z => z = x ∨ sz ≤ z) U U.heap) (fun _ st o t => o = .returned none ∧ va_P D cl [(x, .inr (10, [.int 0, .ref e0, .int 0]))] t.heap ∧ va_F (fun z => z = x ∨ sz ≤ z) st t) 0 0 (fun z => z = x ∨ sz ≤ z) := by
  refine Met.ofW (cc := cJ2_init) (maxL := 1) (ret := none) (by decide) rfl ?_
  intro p e s m args below meth c s₁ B hml hv
  obtain ⟨rfl, hsz, hP, hK, hZ⟩ := hv
  subst hsz
  have hD : va_D (fun z => z = x ∨ s.heap.size ≤ z) [(x, .inr (10, [.int 0, .null, .int 0]))] := ⟨fun i j a b ha hb _ => by
    have h1 : i < 1 := (List.getElem?_eq_some_iff.mp ha).1
    have h2 : j < 1 := (List.getElem?_eq_some_iff.mp hb).1
    omega, fun k q hk => by
    have h1 : k < 1 := (List.getElem?_eq_some_iff.mp hk).1
    have h2 : k = 0 := by omega
    subst h2
    cases hk
    exact .inl rfl⟩
  have hx := B.exec
  have hb := B.bytes
  have hr := B.returns
  have hts := atoms_spec (ws := ws_ yJ2_init cJ2_init 1 none) B.pre
  have hts : ∀ w ∈ lw_all, w.before _ s = true := fun w h => hts w (List.mem_cons_of_mem _ h)
  have hown : s.vm.findClass RJ2 = some m.cls := findClass_of_methodNamed B.named
  have hlocks := B.notSynchronized
  have hl := lv_entry ([.ref x]) (n := 1) (Nat.le_of_ble_eq_true rfl)
  rw [lg_entry_eq]
  generalize (lg_sl ([.ref x]) ++ List.replicate (1 - (lg_sl ([.ref x])).length) Slot.unset).toArray = ls at hl ⊢
  have hl : lv_has ls 1 [(0, .ref x)] := hl
  refine lv_aload_n hx hb dJ2_init_0 rfl (lv_at hl 0 rfl) ?_
  refine am_callR (va_runI (own := RJ2) (n := 0) (Ts := lw_all) (b := x) (As := []) (rest := []) ⟨hx, hb, hml, hown, hts⟩ (jm_ali hcl x s.heap.size) (cwI 0 hts (lw_meth q647) rfl rfl rfl (hts _ q67) (hts _ q645) (hts _ q646) rfl ⟨by decide, by decide, by decide +kernel⟩ ⟨Nat.le_of_ble_eq_true rfl, Nat.le_of_ble_eq_true rfl⟩) ⟨fun a U gg mk q => ⟨q.1, q.2.1, q.2.2.1, va_K.moved (u := U) (U := U.calling gg mk a) (Vm.Alike.refl U.vm) q.2.2.2⟩, fun U hU hW => ⟨rfl, by rw [hU], by rw [hU]; exact hP, va_K.moved hW.alike hK⟩⟩ rfl rfl hl.1 rfl (lv_room (Nat.le_of_ble_eq_true rfl)) dJ2_init_1 ⟨Nat.le_of_ble_eq_true rfl, Nat.le_of_ble_eq_true rfl⟩) (fun v st₀ t L h0 hWm hq hL => ?_)
  obtain ⟨hv, hP1, hF1, hF2⟩ := hq
  cases hv
  rw [h0] at hF1 hF2
  have hS : va_S (fun z => z = x ∨ s.heap.size ≤ z) s.heap t.heap ([] ++ L) := ⟨hF1, hF2, fun z hz => by rw [List.nil_append] at hz; exact hL z hz⟩
  generalize [] ++ L = L1 at hS ⊢
  refine lv_aload_n hx hb dJ2_init_4 rfl (lv_at hl 0 rfl) ?_
  refine va_gets hx hb hZ hS hown (hts _ q263) (fun _ h => h) dJ2_init_5 ?_
  refine va_put (ci := 10) (v := .ref e0) (ty := .array (.object "java/lang/Object")) (C := RJ2) (T := TJ2) (N := 3) hx hb hts in_J2 tyJ2 tyJ2_ok nmJ2 hown hK hP1 hD hS 0 rfl (hcl 10 _ rfl) 1 (by decide) (hts _ q652) (fun _ h9 => h9) rfl (by decide +kernel) rfl rfl (Nat.le_of_ble_eq_true rfl) dJ2_init_8 (fun H2 locs2 hP2 hD2 hS2 => ?_)
  exact W.vret hx hb hr (fun t1 ht hW => ⟨rfl, by rw [ht]; exact hP2, hS2.F ht⟩) hS2.2.2 dJ2_init_11 hlocks
end
