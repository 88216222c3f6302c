set_option maxRecDepth 100000
/-! THE NODES' CONSTRUCTORS, over small worlds. (Printed by gen/nodes.py.) -/
section
variable {l : Launch} {D : va_G} {cl : List vw_C}
theorem jn_node_X8 (hcl : cx_clok cl) (x sz : Nat) (n k z d : Int32) : Met l yX7_init (ws_ yX7_init cX7_init 5 none) { frames := 1, cells := 0, slots := 0, locals := 40 } (fun a U => a = [.ref x, .int n, .int k, .int z, .int d].toArray ∧ U.heap.size = sz ∧ va_P D cl [(x, .inr (3, [.int 0, .int 0, .int 0, .int 0, .int 0]))] U.heap ∧ va_K D cl [] U) (fun _ st o t => o = .returned none ∧ va_P D cl [(x, .inr (3, [.int n, .int k, .int z, .int d, .int 0]))] t.heap ∧ va_F (fun z => z = x ∨ sz ≤ z) st t) 0 0 (fun z => z = x ∨ sz ≤ z) := by
  refine Met.ofW (cc := cX7_init) (maxL := 5) (ret := none) (by decide) rfl ?_
  intro p e s m args below meth c s₁ B hml hv
  obtain ⟨rfl, hsz, hP, hK⟩ := hv
  subst hsz
  have hin := (name_of_methodNamed B.named B.method).1
  have hD : va_D (fun z => z = x ∨ s.heap.size ≤ z) [(x, .inr (3, [.int 0, .int 0, .int 0, .int 0, .int 0]))] := ⟨fun i j a b ha hb _ => by
    have h1 : i < 1 := (List.getElem?_eq_some_iff.mp ha).1
    have h2 : j < 1 := (List.getElem?_eq_some_iff.mp hb).1
    omega, fun k q hk => by
    have h1 : k < 1 := (List.getElem?_eq_some_iff.mp hk).1
    have h2 : k = 0 := by omega
    subst h2
    cases hk
    exact .inl rfl⟩
  have hx := B.exec
  have hb := B.bytes
  have hr := B.returns
  have hts := atoms_spec (ws := ws_ yX7_init cX7_init 5 none) B.pre
  have hts : ∀ w ∈ lw_all, w.before _ s = true := fun w h => hts w (List.mem_cons_of_mem _ h)
  have hown : s.vm.findClass RX7 = some m.cls := findClass_of_methodNamed B.named
  have hlocks := B.notSynchronized
  have hl := lv_entry ([.ref x, .int n, .int k, .int z, .int d]) (n := 5) (Nat.le_of_ble_eq_true rfl)
  rw [lg_entry_eq]
  generalize (lg_sl ([.ref x, .int n, .int k, .int z, .int d]) ++ List.replicate (5 - (lg_sl ([.ref x, .int n, .int k, .int z, .int d])).length) Slot.unset).toArray = ls at hl ⊢
  have hl : lv_has ls 5 [(0, .ref x), (1, .int n), (2, .int k), (3, .int z), (4, .int d)] := hl
  refine lv_aload_n hx hb dX7_init_0 rfl (lv_at hl 0 rfl) ?_
  refine W.objInit hx hb hown (hts _ q124) (hts _ q125) (hts _ q126) rfl (by rw [hml]; exact hl.1) rfl dX7_init_1 (Nat.le_of_ble_eq_true rfl) (Nat.le_of_ble_eq_true rfl) ?_
  refine lv_aload_n hx hb dX7_init_4 rfl (lv_at hl 0 rfl) ?_
  refine lv_iload_n hx hb dX7_init_5 rfl (lv_at hl 1 rfl) ?_
  refine va_putF (ci := 3) (v := .int n) (ty := .int) (C := RX8) (T := TX8) (N := 5) hx hb hts in_X8 tyX8 tyX8_ok nmX8 hown hK hP hD va_S.rf 0 rfl (hcl 3 _ rfl) 0 (by decide) (hts _ q130) (fun _ h9 => h9) rfl hin rfl (by decide +kernel) rfl rfl (Nat.le_of_ble_eq_true rfl) dX7_init_6 (fun H2 locs2 hP2 hD2 hS2 => ?_)
  have hP : va_P D cl [(x, .inr (3, [.int n, .int 0, .int 0, .int 0, .int 0]))] H2 := hP2
  have hD : va_D (fun z => z = x ∨ s.heap.size ≤ z) [(x, .inr (3, [.int n, .int 0, .int 0, .int 0, .int 0]))] := hD2
  refine lv_aload_n hx hb dX7_init_9 rfl (lv_at hl 0 rfl) ?_
  refine lv_iload_n hx hb dX7_init_10 rfl (lv_at hl 2 rfl) ?_
  refine va_putF (ci := 3) (v := .int k) (ty := .int) (C := RX8) (T := TX8) (N := 5) hx hb hts in_X8 tyX8 tyX8_ok nmX8 hown hK hP hD hS2 0 rfl (hcl 3 _ rfl) 1 (by decide) (hts _ q132) (fun _ h9 => h9) rfl hin rfl (by decide +kernel) rfl rfl (Nat.le_of_ble_eq_true rfl) dX7_init_11 (fun H3 locs3 hP3 hD3 hS3 => ?_)
  have hP : va_P D cl [(x, .inr (3, [.int n, .int k, .int 0, .int 0, .int 0]))] H3 := hP3
  have hD : va_D (fun z => z = x ∨ s.heap.size ≤ z) [(x, .inr (3, [.int n, .int k, .int 0, .int 0, .int 0]))] := hD3
  refine lv_aload_n hx hb dX7_init_14 rfl (lv_at hl 0 rfl) ?_
  refine lv_iload_n hx hb dX7_init_15 rfl (lv_at hl 3 rfl) ?_
  refine va_putF (ci := 3) (v := .int z) (ty := .int) (C := RX8) (T := TX8) (N := 5) hx hb hts in_X8 tyX8 tyX8_ok nmX8 hown hK hP hD hS3 0 rfl (hcl 3 _ rfl) 2 (by decide) (hts _ q138) (fun _ h9 => h9) rfl hin rfl (by decide +kernel) rfl rfl (Nat.le_of_ble_eq_true rfl) dX7_init_16 (fun H4 locs4 hP4 hD4 hS4 => ?_)
  have hP : va_P D cl [(x, .inr (3, [.int n, .int k, .int z, .int 0, .int 0]))] H4 := hP4
  have hD : va_D (fun z => z = x ∨ s.heap.size ≤ z) [(x, .inr (3, [.int n, .int k, .int z, .int 0, .int 0]))] := hD4
  refine lv_aload_n hx hb dX7_init_19 rfl (lv_at hl 0 rfl) ?_
  refine lv_iload hx hb dX7_init_20 (lv_at hl 4 rfl) ?_
  refine va_putF (ci := 3) (v := .int d) (ty := .int) (C := RX8) (T := TX8) (N := 5) hx hb hts in_X8 tyX8 tyX8_ok nmX8 hown hK hP hD hS4 0 rfl (hcl 3 _ rfl) 3 (by decide) (hts _ q142) (fun _ h9 => h9) rfl hin rfl (by decide +kernel) rfl rfl (Nat.le_of_ble_eq_true rfl) dX7_init_22 (fun H5 locs5 hP5 hD5 hS5 => ?_)
  have hP : va_P D cl [(x, .inr (3, [.int n, .int k, .int z, .int d, .int 0]))] H5 := hP5
  have hD : va_D (fun z => z = x ∨ s.heap.size ≤ z) [(x, .inr (3, [.int n, .int k, .int z, .int d, .int 0]))] := hD5
  exact W.vret hx hb hr (fun t1 ht hW => ⟨rfl, by rw [ht]; exact hP, hS5.F ht⟩) hS5.2.2 dX7_init_25 hlocks
theorem jn_node_X9 (hcl : cx_clok cl) (x sz : Nat) (n k z d : Int32) : Met l yX7_init (ws_ yX7_init cX7_init 5 none) { frames := 1, cells := 0, slots := 0, locals := 40 } (fun a U => a = [.ref x, .int n, .int k, .int z, .int d].toArray ∧ U.heap.size = sz ∧ va_P D cl [(x, .inr (4, [.int 0, .int 0, .int 0, .int 0, .int 0]))] U.heap ∧ va_K D cl [] U) (fun _ st o t => o = .returned none ∧ va_P D cl [(x, .inr (4, [.int n, .int k, .int z, .int d, .int 0]))] t.heap ∧ va_F (fun z => z = x ∨ sz ≤ z) st t) 0 0 (fun z => z = x ∨ sz ≤ z) := by
  refine Met.ofW (cc := cX7_init) (maxL := 5) (ret := none) (by decide) rfl ?_
  intro p e s m args below meth c s₁ B hml hv
  obtain ⟨rfl, hsz, hP, hK⟩ := hv
  subst hsz
  have hin := (name_of_methodNamed B.named B.method).1
  have hD : va_D (fun z => z = x ∨ s.heap.size ≤ z) [(x, .inr (4, [.int 0, .int 0, .int 0, .int 0, .int 0]))] := ⟨fun i j a b ha hb _ => by
    have h1 : i < 1 := (List.getElem?_eq_some_iff.mp ha).1
    have h2 : j < 1 := (List.getElem?_eq_some_iff.mp hb).1
    omega, fun k q hk => by
    have h1 : k < 1 := (List.getElem?_eq_some_iff.mp hk).1
    have h2 : k = 0 := by omega
    subst h2
    cases hk
    exact .inl rfl⟩
  have hx := B.exec
  have hb := B.bytes
  have hr := B.returns
  have hts := atoms_spec (ws := ws_ yX7_init cX7_init 5 none) B.pre
  have hts : ∀ w ∈ lw_all, w.before _ s = true := fun w h => hts w (List.mem_cons_of_mem _ h)
  have hown : s.vm.findClass RX7 = some m.cls := findClass_of_methodNamed B.named
  have hlocks := B.notSynchronized
  have hl := lv_entry ([.ref x, .int n, .int k, .int z, .int d]) (n := 5) (Nat.le_of_ble_eq_true rfl)
  rw [lg_entry_eq]
  generalize (lg_sl ([.ref x, .int n, .int k, .int z, .int d]) ++ List.replicate (5 - (lg_sl ([.ref x, .int n, .int k, .int z, .int d])).length) Slot.unset).toArray = ls at hl ⊢
  have hl : lv_has ls 5 [(0, .ref x), (1, .int n), (2, .int k), (3, .int z), (4, .int d)] := hl
  refine lv_aload_n hx hb dX7_init_0 rfl (lv_at hl 0 rfl) ?_
  refine W.objInit hx hb hown (hts _ q124) (hts _ q125) (hts _ q126) rfl (by rw [hml]; exact hl.1) rfl dX7_init_1 (Nat.le_of_ble_eq_true rfl) (Nat.le_of_ble_eq_true rfl) ?_
  refine lv_aload_n hx hb dX7_init_4 rfl (lv_at hl 0 rfl) ?_
  refine lv_iload_n hx hb dX7_init_5 rfl (lv_at hl 1 rfl) ?_
  refine va_putF (ci := 4) (v := .int n) (ty := .int) (C := RX9) (T := TX9) (N := 5) hx hb hts in_X9 tyX9 tyX9_ok nmX9 hown hK hP hD va_S.rf 0 rfl (hcl 4 _ rfl) 0 (by decide) (hts _ q130) (fun _ h9 => h9) rfl hin rfl (by decide +kernel) rfl rfl (Nat.le_of_ble_eq_true rfl) dX7_init_6 (fun H2 locs2 hP2 hD2 hS2 => ?_)
  have hP : va_P D cl [(x, .inr (4, [.int n, .int 0, .int 0, .int 0, .int 0]))] H2 := hP2
  have hD : va_D (fun z => z = x ∨ s.heap.size ≤ z) [(x, .inr (4, [.int n, .int 0, .int 0, .int 0, .int 0]))] := hD2
  refine lv_aload_n hx hb dX7_init_9 rfl (lv_at hl 0 rfl) ?_
  refine lv_iload_n hx hb dX7_init_10 rfl (lv_at hl 2 rfl) ?_
  refine va_putF (ci := 4) (v := .int k) (ty := .int) (C := RX9) (T := TX9) (N := 5) hx hb hts in_X9 tyX9 tyX9_ok nmX9 hown hK hP hD hS2 0 rfl (hcl 4 _ rfl) 1 (by decide) (hts _ q132) (fun _ h9 => h9) rfl hin rfl (by decide +kernel) rfl rfl (Nat.le_of_ble_eq_true rfl) dX7_init_11 (fun H3 locs3 hP3 hD3 hS3 => ?_)
  have hP : va_P D cl [(x, .inr (4, [.int n, .int k, .int 0, .int 0, .int 0]))] H3 := hP3
  have hD : va_D (fun z => z = x ∨ s.heap.size ≤ z) [(x, .inr (4, [.int n, .int k, .int 0, .int 0, .int 0]))] := hD3
  refine lv_aload_n hx hb dX7_init_14 rfl (lv_at hl 0 rfl) ?_
  refine lv_iload_n hx hb dX7_init_15 rfl (lv_at hl 3 rfl) ?_
  refine va_putF (ci := 4) (v := .int z) (ty := .int) (C := RX9) (T := TX9) (N := 5) hx hb hts in_X9 tyX9 tyX9_ok nmX9 hown hK hP hD hS3 0 rfl (hcl 4 _ rfl) 2 (by decide) (hts _ q138) (fun _ h9 => h9) rfl hin rfl (by decide +kernel) rfl rfl (Nat.le_of_ble_eq_true rfl) dX7_init_16 (fun H4 locs4 hP4 hD4 hS4 => ?_)
  have hP : va_P D cl [(x, .inr (4, [.int n, .int k, .int z, .int 0, .int 0]))] H4 := hP4
  have hD : va_D (fun z => z = x ∨ s.heap.size ≤ z) [(x, .inr (4, [.int n, .int k, .int z, .int 0, .int 0]))] := hD4
  refine lv_aload_n hx hb dX7_init_19 rfl (lv_at hl 0 rfl) ?_
  refine lv_iload hx hb dX7_init_20 (lv_at hl 4 rfl) ?_
  refine va_putF (ci := 4) (v := .int d) (ty := .int) (C := RX9) (T := TX9) (N := 5) hx hb hts in_X9 tyX9 tyX9_ok nmX9 hown hK hP hD hS4 0 rfl (hcl 4 _ rfl) 3 (by decide) (hts _ q142) (fun _ h9 => h9) rfl hin rfl (by decide +kernel) rfl rfl (Nat.le_of_ble_eq_true rfl) dX7_init_22 (fun H5 locs5 hP5 hD5 hS5 => ?_)
  have hP : va_P D cl [(x, .inr (4, [.int n, .int k, .int z, .int d, .int 0]))] H5 := hP5
  have hD : va_D (fun z => z = x ∨ s.heap.size ≤ z) [(x, .inr (4, [.int n, .int k, .int z, .int d, .int 0]))] := hD5
  exact W.vret hx hb hr (fun t1 ht hW => ⟨rfl, by rw [ht]; exact hP, hS5.F ht⟩) hS5.2.2 dX7_init_25 hlocks
theorem jn_node_X10 (hcl : cx_clok cl) (x sz : Nat) (n k z d : Int32) : Met l yX7_init (ws_ yX7_init cX7_init 5 none) { frames := 1, cells := 0, slots := 0, locals := 40 } (fun a U => a = [.ref x, .int n, .int k, .int z, .int d].toArray ∧ U.heap.size = sz ∧ va_P D cl [(x, .inr (5, [.int 0, .int 0, .int 0, .int 0, .null, .null]))] U.heap ∧ va_K D cl [] U) (fun _ st o t => o = .returned none ∧ va_P D cl [(x, .inr (5, [.int n, .int k, .int z, .int d, .null, .null]))] t.heap ∧ va_F (fun z => z = x ∨ sz ≤ z) st t) 0 0 (fun z => z = x ∨ sz ≤ z) := by
  refine Met.ofW (cc := cX7_init) (maxL := 5) (ret := none) (by decide) rfl ?_
  intro p e s m args below meth c s₁ B hml hv
  obtain ⟨rfl, hsz, hP, hK⟩ := hv
  subst hsz
  have hin := (name_of_methodNamed B.named B.method).1
  have hD : va_D (fun z => z = x ∨ s.heap.size ≤ z) [(x, .inr (5, [.int 0, .int 0, .int 0, .int 0, .null, .null]))] := ⟨fun i j a b ha hb _ => by
    have h1 : i < 1 := (List.getElem?_eq_some_iff.mp ha).1
    have h2 : j < 1 := (List.getElem?_eq_some_iff.mp hb).1
    omega, fun k q hk => by
    have h1 : k < 1 := (List.getElem?_eq_some_iff.mp hk).1
    have h2 : k = 0 := by omega
    subst h2
    cases hk
    exact .inl rfl⟩
  have hx := B.exec
  have hb := B.bytes
  have hr := B.returns
  have hts := atoms_spec (ws := ws_ yX7_init cX7_init 5 none) B.pre
  have hts : ∀ w ∈ lw_all, w.before _ s = true := fun w h => hts w (List.mem_cons_of_mem _ h)
  have hown : s.vm.findClass RX7 = some m.cls := findClass_of_methodNamed B.named
  have hlocks := B.notSynchronized
  have hl := lv_entry ([.ref x, .int n, .int k, .int z, .int d]) (n := 5) (Nat.le_of_ble_eq_true rfl)
  rw [lg_entry_eq]
  generalize (lg_sl ([.ref x, .int n, .int k, .int z, .int d]) ++ List.replicate (5 - (lg_sl ([.ref x, .int n, .int k, .int z, .int d])).length) Slot.unset).toArray = ls at hl ⊢
  have hl : lv_has ls 5 [(0, .ref x), (1, .int n), (2, .int k), (3, .int z), (4, .int d)] := hl
  refine lv_aload_n hx hb dX7_init_0 rfl (lv_at hl 0 rfl) ?_
  refine W.objInit hx hb hown (hts _ q124) (hts _ q125) (hts _ q126) rfl (by rw [hml]; exact hl.1) rfl dX7_init_1 (Nat.le_of_ble_eq_true rfl) (Nat.le_of_ble_eq_true rfl) ?_
  refine lv_aload_n hx hb dX7_init_4 rfl (lv_at hl 0 rfl) ?_
  refine lv_iload_n hx hb dX7_init_5 rfl (lv_at hl 1 rfl) ?_
  refine va_putF (ci := 5) (v := .int n) (ty := .int) (C := RX10) (T := TX10) (N := 6) hx hb hts in_X10 tyX10 tyX10_ok nmX10 hown hK hP hD va_S.rf 0 rfl (hcl 5 _ rfl) 0 (by decide) (hts _ q130) (fun _ h9 => h9) rfl hin rfl (by decide +kernel) rfl rfl (Nat.le_of_ble_eq_true rfl) dX7_init_6 (fun H2 locs2 hP2 hD2 hS2 => ?_)
  have hP : va_P D cl [(x, .inr (5, [.int n, .int 0, .int 0, .int 0, .null, .null]))] H2 := hP2
  have hD : va_D (fun z => z = x ∨ s.heap.size ≤ z) [(x, .inr (5, [.int n, .int 0, .int 0, .int 0, .null, .null]))] := hD2
  refine lv_aload_n hx hb dX7_init_9 rfl (lv_at hl 0 rfl) ?_
  refine lv_iload_n hx hb dX7_init_10 rfl (lv_at hl 2 rfl) ?_
  refine va_putF (ci := 5) (v := .int k) (ty := .int) (C := RX10) (T := TX10) (N := 6) hx hb hts in_X10 tyX10 tyX10_ok nmX10 hown hK hP hD hS2 0 rfl (hcl 5 _ rfl) 1 (by decide) (hts _ q132) (fun _ h9 => h9) rfl hin rfl (by decide +kernel) rfl rfl (Nat.le_of_ble_eq_true rfl) dX7_init_11 (fun H3 locs3 hP3 hD3 hS3 => ?_)
  have hP : va_P D cl [(x, .inr (5, [.int n, .int k, .int 0, .int 0, .null, .null]))] H3 := hP3
  have hD : va_D (fun z => z = x ∨ s.heap.size ≤ z) [(x, .inr (5, [.int n, .int k, .int 0, .int 0, .null, .null]))] := hD3
  refine lv_aload_n hx hb dX7_init_14 rfl (lv_at hl 0 rfl) ?_
  refine lv_iload_n hx hb dX7_init_15 rfl (lv_at hl 3 rfl) ?_
  refine va_putF (ci := 5) (v := .int z) (ty := .int) (C := RX10) (T := TX10) (N := 6) hx hb hts in_X10 tyX10 tyX10_ok nmX10 hown hK hP hD hS3 0 rfl (hcl 5 _ rfl) 2 (by decide) (hts _ q138) (fun _ h9 => h9) rfl hin rfl (by decide +kernel) rfl rfl (Nat.le_of_ble_eq_true rfl) dX7_init_16 (fun H4 locs4 hP4 hD4 hS4 => ?_)
  have hP : va_P D cl [(x, .inr (5, [.int n, .int k, .int z, .int 0, .null, .null]))] H4 := hP4
  have hD : va_D (fun z => z = x ∨ s.heap.size ≤ z) [(x, .inr (5, [.int n, .int k, .int z, .int 0, .null, .null]))] := hD4
  refine lv_aload_n hx hb dX7_init_19 rfl (lv_at hl 0 rfl) ?_
  refine lv_iload hx hb dX7_init_20 (lv_at hl 4 rfl) ?_
  refine va_putF (ci := 5) (v := .int d) (ty := .int) (C := RX10) (T := TX10) (N := 6) hx hb hts in_X10 tyX10 tyX10_ok nmX10 hown hK hP hD hS4 0 rfl (hcl 5 _ rfl) 3 (by decide) (hts _ q142) (fun _ h9 => h9) rfl hin rfl (by decide +kernel) rfl rfl (Nat.le_of_ble_eq_true rfl) dX7_init_22 (fun H5 locs5 hP5 hD5 hS5 => ?_)
  have hP : va_P D cl [(x, .inr (5, [.int n, .int k, .int z, .int d, .null, .null]))] H5 := hP5
  have hD : va_D (fun z => z = x ∨ s.heap.size ≤ z) [(x, .inr (5, [.int n, .int k, .int z, .int d, .null, .null]))] := hD5
  exact W.vret hx hb hr (fun t1 ht hW => ⟨rfl, by rw [ht]; exact hP, hS5.F ht⟩) hS5.2.2 dX7_init_25 hlocks
theorem jn_node_X11 (hcl : cx_clok cl) (x sz : Nat) (n k z d : Int32) : Met l yX7_init (ws_ yX7_init cX7_init 5 none) { frames := 1, cells := 0, slots := 0, locals := 40 } (fun a U => a = [.ref x, .int n, .int k, .int z, .int d].toArray ∧ U.heap.size = sz ∧ va_P D cl [(x, .inr (6, [.int 0, .int 0, .int 0, .int 0, .null, .null]))] U.heap ∧ va_K D cl [] U) (fun _ st o t => o = .returned none ∧ va_P D cl [(x, .inr (6, [.int n, .int k, .int z, .int d, .null, .null]))] t.heap ∧ va_F (fun z => z = x ∨ sz ≤ z) st t) 0 0 (fun z => z = x ∨ sz ≤ z) := by
  refine Met.ofW (cc := cX7_init) (maxL := 5) (ret := none) (by decide) rfl ?_
  intro p e s m args below meth c s₁ B hml hv
  obtain ⟨rfl, hsz, hP, hK⟩ := hv
  subst hsz
  have hin := (name_of_methodNamed B.named B.method).1
  have hD : va_D (fun z => z = x ∨ s.heap.size ≤ z) [(x, .inr (6, [.int 0, .int 0, .int 0, .int 0, .null, .null]))] := ⟨fun i j a b ha hb _ => by
    have h1 : i < 1 := (List.getElem?_eq_some_iff.mp ha).1
    have h2 : j < 1 := (List.getElem?_eq_some_iff.mp hb).1
    omega, fun k q hk => by
    have h1 : k < 1 := (List.getElem?_eq_some_iff.mp hk).1
    have h2 : k = 0 := by omega
    subst h2
    cases hk
    exact .inl rfl⟩
  have hx := B.exec
  have hb := B.bytes
  have hr := B.returns
  have hts := atoms_spec (ws := ws_ yX7_init cX7_init 5 none) B.pre
  have hts : ∀ w ∈ lw_all, w.before _ s = true := fun w h => hts w (List.mem_cons_of_mem _ h)
  have hown : s.vm.findClass RX7 = some m.cls := findClass_of_methodNamed B.named
  have hlocks := B.notSynchronized
  have hl := lv_entry ([.ref x, .int n, .int k, .int z, .int d]) (n := 5) (Nat.le_of_ble_eq_true rfl)
  rw [lg_entry_eq]
  generalize (lg_sl ([.ref x, .int n, .int k, .int z, .int d]) ++ List.replicate (5 - (lg_sl ([.ref x, .int n, .int k, .int z, .int d])).length) Slot.unset).toArray = ls at hl ⊢
  have hl : lv_has ls 5 [(0, .ref x), (1, .int n), (2, .int k), (3, .int z), (4, .int d)] := hl
  refine lv_aload_n hx hb dX7_init_0 rfl (lv_at hl 0 rfl) ?_
  refine W.objInit hx hb hown (hts _ q124) (hts _ q125) (hts _ q126) rfl (by rw [hml]; exact hl.1) rfl dX7_init_1 (Nat.le_of_ble_eq_true rfl) (Nat.le_of_ble_eq_true rfl) ?_
  refine lv_aload_n hx hb dX7_init_4 rfl (lv_at hl 0 rfl) ?_
  refine lv_iload_n hx hb dX7_init_5 rfl (lv_at hl 1 rfl) ?_
  refine va_putF (ci := 6) (v := .int n) (ty := .int) (C := RX11) (T := TX11) (N := 6) hx hb hts in_X11 tyX11 tyX11_ok nmX11 hown hK hP hD va_S.rf 0 rfl (hcl 6 _ rfl) 0 (by decide) (hts _ q130) (fun _ h9 => h9) rfl hin rfl (by decide +kernel) rfl rfl (Nat.le_of_ble_eq_true rfl) dX7_init_6 (fun H2 locs2 hP2 hD2 hS2 => ?_)
  have hP : va_P D cl [(x, .inr (6, [.int n, .int 0, .int 0, .int 0, .null, .null]))] H2 := hP2
  have hD : va_D (fun z => z = x ∨ s.heap.size ≤ z) [(x, .inr (6, [.int n, .int 0, .int 0, .int 0, .null, .null]))] := hD2
  refine lv_aload_n hx hb dX7_init_9 rfl (lv_at hl 0 rfl) ?_
  refine lv_iload_n hx hb dX7_init_10 rfl (lv_at hl 2 rfl) ?_
  refine va_putF (ci := 6) (v := .int k) (ty := .int) (C := RX11) (T := TX11) (N := 6) hx hb hts in_X11 tyX11 tyX11_ok nmX11 hown hK hP hD hS2 0 rfl (hcl 6 _ rfl) 1 (by decide) (hts _ q132) (fun _ h9 => h9) rfl hin rfl (by decide +kernel) rfl rfl (Nat.le_of_ble_eq_true rfl) dX7_init_11 (fun H3 locs3 hP3 hD3 hS3 => ?_)
  have hP : va_P D cl [(x, .inr (6, [.int n, .int k, .int 0, .int 0, .null, .null]))] H3 := hP3
  have hD : va_D (fun z => z = x ∨ s.heap.size ≤ z) [(x, .inr (6, [.int n, .int k, .int 0, .int 0, .null, .null]))] := hD3
  refine lv_aload_n hx hb dX7_init_14 rfl (lv_at hl 0 rfl) ?_
  refine lv_iload_n hx hb dX7_init_15 rfl (lv_at hl 3 rfl) ?_
  refine va_putF (ci := 6) (v := .int z) (ty := .int) (C := RX11) (T := TX11) (N := 6) hx hb hts in_X11 tyX11 tyX11_ok nmX11 hown hK hP hD hS3 0 rfl (hcl 6 _ rfl) 2 (by decide) (hts _ q138) (fun _ h9 => h9) rfl hin rfl (by decide +kernel) rfl rfl (Nat.le_of_ble_eq_true rfl) dX7_init_16 (fun H4 locs4 hP4 hD4 hS4 => ?_)
  have hP : va_P D cl [(x, .inr (6, [.int n, .int k, .int z, .int 0, .null, .null]))] H4 := hP4
  have hD : va_D (fun z => z = x ∨ s.heap.size ≤ z) [(x, .inr (6, [.int n, .int k, .int z, .int 0, .null, .null]))] := hD4
  refine lv_aload_n hx hb dX7_init_19 rfl (lv_at hl 0 rfl) ?_
  refine lv_iload hx hb dX7_init_20 (lv_at hl 4 rfl) ?_
  refine va_putF (ci := 6) (v := .int d) (ty := .int) (C := RX11) (T := TX11) (N := 6) hx hb hts in_X11 tyX11 tyX11_ok nmX11 hown hK hP hD hS4 0 rfl (hcl 6 _ rfl) 3 (by decide) (hts _ q142) (fun _ h9 => h9) rfl hin rfl (by decide +kernel) rfl rfl (Nat.le_of_ble_eq_true rfl) dX7_init_22 (fun H5 locs5 hP5 hD5 hS5 => ?_)
  have hP : va_P D cl [(x, .inr (6, [.int n, .int k, .int z, .int d, .null, .null]))] H5 := hP5
  have hD : va_D (fun z => z = x ∨ s.heap.size ≤ z) [(x, .inr (6, [.int n, .int k, .int z, .int d, .null, .null]))] := hD5
  exact W.vret hx hb hr (fun t1 ht hW => ⟨rfl, by rw [ht]; exact hP, hS5.F ht⟩) hS5.2.2 dX7_init_25 hlocks
theorem jn_node_X12 (hcl : cx_clok cl) (x sz : Nat) (n k z d : Int32) : Met l yX7_init (ws_ yX7_init cX7_init 5 none) { frames := 1, cells := 0, slots := 0, locals := 40 } (fun a U => a = [.ref x, .int n, .int k, .int z, .int d].toArray ∧ U.heap.size = sz ∧ va_P D cl [(x, .inr (7, [.int 0, .int 0, .int 0, .int 0, .null]))] U.heap ∧ va_K D cl [] U) (fun _ st o t => o = .returned none ∧ va_P D cl [(x, .inr (7, [.int n, .int k, .int z, .int d, .null]))] t.heap ∧ va_F (fun z => z = x ∨ sz ≤ z) st t) 0 0 (fun z => z = x ∨ sz ≤ z) := by
  refine Met.ofW (cc := cX7_init) (maxL := 5) (ret := none) (by decide) rfl ?_
  intro p e s m args below meth c s₁ B hml hv
  obtain ⟨rfl, hsz, hP, hK⟩ := hv
  subst hsz
  have hin := (name_of_methodNamed B.named B.method).1
  have hD : va_D (fun z => z = x ∨ s.heap.size ≤ z) [(x, .inr (7, [.int 0, .int 0, .int 0, .int 0, .null]))] := ⟨fun i j a b ha hb _ => by
    have h1 : i < 1 := (List.getElem?_eq_some_iff.mp ha).1
    have h2 : j < 1 := (List.getElem?_eq_some_iff.mp hb).1
    omega, fun k q hk => by
    have h1 : k < 1 := (List.getElem?_eq_some_iff.mp hk).1
    have h2 : k = 0 := by omega
    subst h2
    cases hk
    exact .inl rfl⟩
  have hx := B.exec
  have hb := B.bytes
  have hr := B.returns
  have hts := atoms_spec (ws := ws_ yX7_init cX7_init 5 none) B.pre
  have hts : ∀ w ∈ lw_all, w.before _ s = true := fun w h => hts w (List.mem_cons_of_mem _ h)
  have hown : s.vm.findClass RX7 = some m.cls := findClass_of_methodNamed B.named
  have hlocks := B.notSynchronized
  have hl := lv_entry ([.ref x, .int n, .int k, .int z, .int d]) (n := 5) (Nat.le_of_ble_eq_true rfl)
  rw [lg_entry_eq]
  generalize (lg_sl ([.ref x, .int n, .int k, .int z, .int d]) ++ List.replicate (5 - (lg_sl ([.ref x, .int n, .int k, .int z, .int d])).length) Slot.unset).toArray = ls at hl ⊢
  have hl : lv_has ls 5 [(0, .ref x), (1, .int n), (2, .int k), (3, .int z), (4, .int d)] := hl
  refine lv_aload_n hx hb dX7_init_0 rfl (lv_at hl 0 rfl) ?_
  refine W.objInit hx hb hown (hts _ q124) (hts _ q125) (hts _ q126) rfl (by rw [hml]; exact hl.1) rfl dX7_init_1 (Nat.le_of_ble_eq_true rfl) (Nat.le_of_ble_eq_true rfl) ?_
  refine lv_aload_n hx hb dX7_init_4 rfl (lv_at hl 0 rfl) ?_
  refine lv_iload_n hx hb dX7_init_5 rfl (lv_at hl 1 rfl) ?_
  refine va_putF (ci := 7) (v := .int n) (ty := .int) (C := RX12) (T := TX12) (N := 5) hx hb hts in_X12 tyX12 tyX12_ok nmX12 hown hK hP hD va_S.rf 0 rfl (hcl 7 _ rfl) 0 (by decide) (hts _ q130) (fun _ h9 => h9) rfl hin rfl (by decide +kernel) rfl rfl (Nat.le_of_ble_eq_true rfl) dX7_init_6 (fun H2 locs2 hP2 hD2 hS2 => ?_)
  have hP : va_P D cl [(x, .inr (7, [.int n, .int 0, .int 0, .int 0, .null]))] H2 := hP2
  have hD : va_D (fun z => z = x ∨ s.heap.size ≤ z) [(x, .inr (7, [.int n, .int 0, .int 0, .int 0, .null]))] := hD2
  refine lv_aload_n hx hb dX7_init_9 rfl (lv_at hl 0 rfl) ?_
  refine lv_iload_n hx hb dX7_init_10 rfl (lv_at hl 2 rfl) ?_
  refine va_putF (ci := 7) (v := .int k) (ty := .int) (C := RX12) (T := TX12) (N := 5) hx hb hts in_X12 tyX12 tyX12_ok nmX12 hown hK hP hD hS2 0 rfl (hcl 7 _ rfl) 1 (by decide) (hts _ q132) (fun _ h9 => h9) rfl hin rfl (by decide +kernel) rfl rfl (Nat.le_of_ble_eq_true rfl) dX7_init_11 (fun H3 locs3 hP3 hD3 hS3 => ?_)
  have hP : va_P D cl [(x, .inr (7, [.int n, .int k, .int 0, .int 0, .null]))] H3 := hP3
  have hD : va_D (fun z => z = x ∨ s.heap.size ≤ z) [(x, .inr (7, [.int n, .int k, .int 0, .int 0, .null]))] := hD3
  refine lv_aload_n hx hb dX7_init_14 rfl (lv_at hl 0 rfl) ?_
  refine lv_iload_n hx hb dX7_init_15 rfl (lv_at hl 3 rfl) ?_
  refine va_putF (ci := 7) (v := .int z) (ty := .int) (C := RX12) (T := TX12) (N := 5) hx hb hts in_X12 tyX12 tyX12_ok nmX12 hown hK hP hD hS3 0 rfl (hcl 7 _ rfl) 2 (by decide) (hts _ q138) (fun _ h9 => h9) rfl hin rfl (by decide +kernel) rfl rfl (Nat.le_of_ble_eq_true rfl) dX7_init_16 (fun H4 locs4 hP4 hD4 hS4 => ?_)
  have hP : va_P D cl [(x, .inr (7, [.int n, .int k, .int z, .int 0, .null]))] H4 := hP4
  have hD : va_D (fun z => z = x ∨ s.heap.size ≤ z) [(x, .inr (7, [.int n, .int k, .int z, .int 0, .null]))] := hD4
  refine lv_aload_n hx hb dX7_init_19 rfl (lv_at hl 0 rfl) ?_
  refine lv_iload hx hb dX7_init_20 (lv_at hl 4 rfl) ?_
  refine va_putF (ci := 7) (v := .int d) (ty := .int) (C := RX12) (T := TX12) (N := 5) hx hb hts in_X12 tyX12 tyX12_ok nmX12 hown hK hP hD hS4 0 rfl (hcl 7 _ rfl) 3 (by decide) (hts _ q142) (fun _ h9 => h9) rfl hin rfl (by decide +kernel) rfl rfl (Nat.le_of_ble_eq_true rfl) dX7_init_22 (fun H5 locs5 hP5 hD5 hS5 => ?_)
  have hP : va_P D cl [(x, .inr (7, [.int n, .int k, .int z, .int d, .null]))] H5 := hP5
  have hD : va_D (fun z => z = x ∨ s.heap.size ≤ z) [(x, .inr (7, [.int n, .int k, .int z, .int d, .null]))] := hD5
  exact W.vret hx hb hr (fun t1 ht hW => ⟨rfl, by rw [ht]; exact hP, hS5.F ht⟩) hS5.2.2 dX7_init_25 hlocks
theorem jn_node_X13 (hcl : cx_clok cl) (x sz : Nat) (n k z d : Int32) : Met l yX7_init (ws_ yX7_init cX7_init 5 none) { frames := 1, cells := 0, slots := 0, locals := 40 } (fun a U => a = [.ref x, .int n, .int k, .int z, .int d].toArray ∧ U.heap.size = sz ∧ va_P D cl [(x, .inr (8, [.int 0, .int 0, .int 0, .int 0, .null]))] U.heap ∧ va_K D cl [] U) (fun _ st o t => o = .returned none ∧ va_P D cl [(x, .inr (8, [.int n, .int k, .int z, .int d, .null]))] t.heap ∧ va_F (fun z => z = x ∨ sz ≤ z) st t) 0 0 (fun z => z = x ∨ sz ≤ z) := by
  refine Met.ofW (cc := cX7_init) (maxL := 5) (ret := none) (by decide) rfl ?_
  intro p e s m args below meth c s₁ B hml hv
  obtain ⟨rfl, hsz, hP, hK⟩ := hv
  subst hsz
  have hin := (name_of_methodNamed B.named B.method).1
  have hD : va_D (fun z => z = x ∨ s.heap.size ≤ z) [(x, .inr (8, [.int 0, .int 0, .int 0, .int 0, .null]))] := ⟨fun i j a b ha hb _ => by
    have h1 : i < 1 := (List.getElem?_eq_some_iff.mp ha).1
    have h2 : j < 1 := (List.getElem?_eq_some_iff.mp hb).1
    omega, fun k q hk => by
    have h1 : k < 1 := (List.getElem?_eq_some_iff.mp hk).1
    have h2 : k = 0 := by omega
    subst h2
    cases hk
    exact .inl rfl⟩
  have hx := B.exec
  have hb := B.bytes
  have hr := B.returns
  have hts := atoms_spec (ws := ws_ yX7_init cX7_init 5 none) B.pre
  have hts : ∀ w ∈ lw_all, w.before _ s = true := fun w h => hts w (List.mem_cons_of_mem _ h)
  have hown : s.vm.findClass RX7 = some m.cls := findClass_of_methodNamed B.named
  have hlocks := B.notSynchronized
  have hl := lv_entry ([.ref x, .int n, .int k, .int z, .int d]) (n := 5) (Nat.le_of_ble_eq_true rfl)
  rw [lg_entry_eq]
  generalize (lg_sl ([.ref x, .int n, .int k, .int z, .int d]) ++ List.replicate (5 - (lg_sl ([.ref x, .int n, .int k, .int z, .int d])).length) Slot.unset).toArray = ls at hl ⊢
  have hl : lv_has ls 5 [(0, .ref x), (1, .int n), (2, .int k), (3, .int z), (4, .int d)] := hl
  refine lv_aload_n hx hb dX7_init_0 rfl (lv_at hl 0 rfl) ?_
  refine W.objInit hx hb hown (hts _ q124) (hts _ q125) (hts _ q126) rfl (by rw [hml]; exact hl.1) rfl dX7_init_1 (Nat.le_of_ble_eq_true rfl) (Nat.le_of_ble_eq_true rfl) ?_
  refine lv_aload_n hx hb dX7_init_4 rfl (lv_at hl 0 rfl) ?_
  refine lv_iload_n hx hb dX7_init_5 rfl (lv_at hl 1 rfl) ?_
  refine va_putF (ci := 8) (v := .int n) (ty := .int) (C := RX13) (T := TX13) (N := 5) hx hb hts in_X13 tyX13 tyX13_ok nmX13 hown hK hP hD va_S.rf 0 rfl (hcl 8 _ rfl) 0 (by decide) (hts _ q130) (fun _ h9 => h9) rfl hin rfl (by decide +kernel) rfl rfl (Nat.le_of_ble_eq_true rfl) dX7_init_6 (fun H2 locs2 hP2 hD2 hS2 => ?_)
  have hP : va_P D cl [(x, .inr (8, [.int n, .int 0, .int 0, .int 0, .null]))] H2 := hP2
  have hD : va_D (fun z => z = x ∨ s.heap.size ≤ z) [(x, .inr (8, [.int n, .int 0, .int 0, .int 0, .null]))] := hD2
  refine lv_aload_n hx hb dX7_init_9 rfl (lv_at hl 0 rfl) ?_
  refine lv_iload_n hx hb dX7_init_10 rfl (lv_at hl 2 rfl) ?_
  refine va_putF (ci := 8) (v := .int k) (ty := .int) (C := RX13) (T := TX13) (N := 5) hx hb hts in_X13 tyX13 tyX13_ok nmX13 hown hK hP hD hS2 0 rfl (hcl 8 _ rfl) 1 (by decide) (hts _ q132) (fun _ h9 => h9) rfl hin rfl (by decide +kernel) rfl rfl (Nat.le_of_ble_eq_true rfl) dX7_init_11 (fun H3 locs3 hP3 hD3 hS3 => ?_)
  have hP : va_P D cl [(x, .inr (8, [.int n, .int k, .int 0, .int 0, .null]))] H3 := hP3
  have hD : va_D (fun z => z = x ∨ s.heap.size ≤ z) [(x, .inr (8, [.int n, .int k, .int 0, .int 0, .null]))] := hD3
  refine lv_aload_n hx hb dX7_init_14 rfl (lv_at hl 0 rfl) ?_
  refine lv_iload_n hx hb dX7_init_15 rfl (lv_at hl 3 rfl) ?_
  refine va_putF (ci := 8) (v := .int z) (ty := .int) (C := RX13) (T := TX13) (N := 5) hx hb hts in_X13 tyX13 tyX13_ok nmX13 hown hK hP hD hS3 0 rfl (hcl 8 _ rfl) 2 (by decide) (hts _ q138) (fun _ h9 => h9) rfl hin rfl (by decide +kernel) rfl rfl (Nat.le_of_ble_eq_true rfl) dX7_init_16 (fun H4 locs4 hP4 hD4 hS4 => ?_)
  have hP : va_P D cl [(x, .inr (8, [.int n, .int k, .int z, .int 0, .null]))] H4 := hP4
  have hD : va_D (fun z => z = x ∨ s.heap.size ≤ z) [(x, .inr (8, [.int n, .int k, .int z, .int 0, .null]))] := hD4
  refine lv_aload_n hx hb dX7_init_19 rfl (lv_at hl 0 rfl) ?_
  refine lv_iload hx hb dX7_init_20 (lv_at hl 4 rfl) ?_
  refine va_putF (ci := 8) (v := .int d) (ty := .int) (C := RX13) (T := TX13) (N := 5) hx hb hts in_X13 tyX13 tyX13_ok nmX13 hown hK hP hD hS4 0 rfl (hcl 8 _ rfl) 3 (by decide) (hts _ q142) (fun _ h9 => h9) rfl hin rfl (by decide +kernel) rfl rfl (Nat.le_of_ble_eq_true rfl) dX7_init_22 (fun H5 locs5 hP5 hD5 hS5 => ?_)
  have hP : va_P D cl [(x, .inr (8, [.int n, .int k, .int z, .int d, .null]))] H5 := hP5
  have hD : va_D (fun z => z = x ∨ s.heap.size ≤ z) [(x, .inr (8, [.int n, .int k, .int z, .int d, .null]))] := hD5
  exact W.vret hx hb hr (fun t1 ht hW => ⟨rfl, by rw [ht]; exact hP, hS5.F ht⟩) hS5.2.2 dX7_init_25 hlocks
theorem jn_node_X14 (hcl : cx_clok cl) (x sz : Nat) (n k z d : Int32) : Met l yX7_init (ws_ yX7_init cX7_init 5 none) { frames := 1, cells := 0, slots := 0, locals := 40 } (fun a U => a = [.ref x, .int n, .int k, .int z, .int d].toArray ∧ U.heap.size = sz ∧ va_P D cl [(x, .inr (9, [.int 0, .int 0, .int 0, .int 0, .null, .int 0]))] U.heap ∧ va_K D cl [] U) (fun _ st o t => o = .returned none ∧ va_P D cl [(x, .inr (9, [.int n, .int k, .int z, .int d, .null, .int 0]))] t.heap ∧ va_F (fun z => z = x ∨ sz ≤ z) st t) 0 0 (fun z => z = x ∨ sz ≤ z) := by
  refine Met.ofW (cc := cX7_init) (maxL := 5) (ret := none) (by decide) rfl ?_
  intro p e s m args below meth c s₁ B hml hv
  obtain ⟨rfl, hsz, hP, hK⟩ := hv
  subst hsz
  have hin := (name_of_methodNamed B.named B.method).1
  have hD : va_D (fun z => z = x ∨ s.heap.size ≤ z) [(x, .inr (9, [.int 0, .int 0, .int 0, .int 0, .null, .int 0]))] := ⟨fun i j a b ha hb _ => by
    have h1 : i < 1 := (List.getElem?_eq_some_iff.mp ha).1
    have h2 : j < 1 := (List.getElem?_eq_some_iff.mp hb).1
    omega, fun k q hk => by
    have h1 : k < 1 := (List.getElem?_eq_some_iff.mp hk).1
    have h2 : k = 0 := by omega
    subst h2
    cases hk
    exact .inl rfl⟩
  have hx := B.exec
  have hb := B.bytes
  have hr := B.returns
  have hts := atoms_spec (ws := ws_ yX7_init cX7_init 5 none) B.pre
  have hts : ∀ w ∈ lw_all, w.before _ s = true := fun w h => hts w (List.mem_cons_of_mem _ h)
  have hown : s.vm.findClass RX7 = some m.cls := findClass_of_methodNamed B.named
  have hlocks := B.notSynchronized
  have hl := lv_entry ([.ref x, .int n, .int k, .int z, .int d]) (n := 5) (Nat.le_of_ble_eq_true rfl)
  rw [lg_entry_eq]
  generalize (lg_sl ([.ref x, .int n, .int k, .int z, .int d]) ++ List.replicate (5 - (lg_sl ([.ref x, .int n, .int k, .int z, .int d])).length) Slot.unset).toArray = ls at hl ⊢
  have hl : lv_has ls 5 [(0, .ref x), (1, .int n), (2, .int k), (3, .int z), (4, .int d)] := hl
  refine lv_aload_n hx hb dX7_init_0 rfl (lv_at hl 0 rfl) ?_
  refine W.objInit hx hb hown (hts _ q124) (hts _ q125) (hts _ q126) rfl (by rw [hml]; exact hl.1) rfl dX7_init_1 (Nat.le_of_ble_eq_true rfl) (Nat.le_of_ble_eq_true rfl) ?_
  refine lv_aload_n hx hb dX7_init_4 rfl (lv_at hl 0 rfl) ?_
  refine lv_iload_n hx hb dX7_init_5 rfl (lv_at hl 1 rfl) ?_
  refine va_putF (ci := 9) (v := .int n) (ty := .int) (C := RX14) (T := TX14) (N := 6) hx hb hts in_X14 tyX14 tyX14_ok nmX14 hown hK hP hD va_S.rf 0 rfl (hcl 9 _ rfl) 0 (by decide) (hts _ q130) (fun _ h9 => h9) rfl hin rfl (by decide +kernel) rfl rfl (Nat.le_of_ble_eq_true rfl) dX7_init_6 (fun H2 locs2 hP2 hD2 hS2 => ?_)
  have hP : va_P D cl [(x, .inr (9, [.int n, .int 0, .int 0, .int 0, .null, .int 0]))] H2 := hP2
  have hD : va_D (fun z => z = x ∨ s.heap.size ≤ z) [(x, .inr (9, [.int n, .int 0, .int 0, .int 0, .null, .int 0]))] := hD2
  refine lv_aload_n hx hb dX7_init_9 rfl (lv_at hl 0 rfl) ?_
  refine lv_iload_n hx hb dX7_init_10 rfl (lv_at hl 2 rfl) ?_
  refine va_putF (ci := 9) (v := .int k) (ty := .int) (C := RX14) (T := TX14) (N := 6) hx hb hts in_X14 tyX14 tyX14_ok nmX14 hown hK hP hD hS2 0 rfl (hcl 9 _ rfl) 1 (by decide) (hts _ q132) (fun _ h9 => h9) rfl hin rfl (by decide +kernel) rfl rfl (Nat.le_of_ble_eq_true rfl) dX7_init_11 (fun H3 locs3 hP3 hD3 hS3 => ?_)
  have hP : va_P D cl [(x, .inr (9, [.int n, .int k, .int 0, .int 0, .null, .int 0]))] H3 := hP3
  have hD : va_D (fun z => z = x ∨ s.heap.size ≤ z) [(x, .inr (9, [.int n, .int k, .int 0, .int 0, .null, .int 0]))] := hD3
  refine lv_aload_n hx hb dX7_init_14 rfl (lv_at hl 0 rfl) ?_
  refine lv_iload_n hx hb dX7_init_15 rfl (lv_at hl 3 rfl) ?_
  refine va_putF (ci := 9) (v := .int z) (ty := .int) (C := RX14) (T := TX14) (N := 6) hx hb hts in_X14 tyX14 tyX14_ok nmX14 hown hK hP hD hS3 0 rfl (hcl 9 _ rfl) 2 (by decide) (hts _ q138) (fun _ h9 => h9) rfl hin rfl (by decide +kernel) rfl rfl (Nat.le_of_ble_eq_true rfl) dX7_init_16 (fun H4 locs4 hP4 hD4 hS4 => ?_)
  have hP : va_P D cl [(x, .inr (9, [.int n, .int k, .int z, .int 0, .null, .int 0]))] H4 := hP4
  have hD : va_D (fun z => z = x ∨ s.heap.size ≤ z) [(x, .inr (9, [.int n, .int k, .int z, .int 0, .null, .int 0]))] := hD4
  refine lv_aload_n hx hb dX7_init_19 rfl (lv_at hl 0 rfl) ?_
  refine lv_iload hx hb dX7_init_20 (lv_at hl 4 rfl) ?_
  refine va_putF (ci := 9) (v := .int d) (ty := .int) (C := RX14) (T := TX14) (N := 6) hx hb hts in_X14 tyX14 tyX14_ok nmX14 hown hK hP hD hS4 0 rfl (hcl 9 _ rfl) 3 (by decide) (hts _ q142) (fun _ h9 => h9) rfl hin rfl (by decide +kernel) rfl rfl (Nat.le_of_ble_eq_true rfl) dX7_init_22 (fun H5 locs5 hP5 hD5 hS5 => ?_)
  have hP : va_P D cl [(x, .inr (9, [.int n, .int k, .int z, .int d, .null, .int 0]))] H5 := hP5
  have hD : va_D (fun z => z = x ∨ s.heap.size ≤ z) [(x, .inr (9, [.int n, .int k, .int z, .int d, .null, .int 0]))] := hD5
  exact W.vret hx hb hr (fun t1 ht hW => ⟨rfl, by rw [ht]; exact hP, hS5.F ht⟩) hS5.2.2 dX7_init_25 hlocks
theorem jn_letter_X8 (hcl : cx_clok cl) (x sz : Nat) (n k v : Int32) : Met l yX8_init (ws_ yX8_init cX8_init 4 none) { frames := 2, cells := 0, slots := 0, locals := 80 } (fun a U => a = [.ref x, .int n, .int k, .int v].toArray ∧ U.heap.size = sz ∧ va_P D cl [(x, .inr (3, [.int 0, .int 0, .int 0, .int 0, .int 0]))] U.heap ∧ va_K D cl [] U) (fun _ st o t => o = .returned none ∧ va_P D cl [(x, .inr (3, [.int n, .int k, .int 1, .int 1, .int v]))] t.heap ∧ va_F (fun z => z = x ∨ sz ≤ z) st t) 0 0 (fun z => z = x ∨ sz ≤ z) := by
  refine Met.ofW (cc := cX8_init) (maxL := 4) (ret := none) (by decide) rfl ?_
  intro p e s m args below meth c s₁ B hml hv
  obtain ⟨rfl, hsz, hP, hK⟩ := hv
  subst hsz
  have hin := (name_of_methodNamed B.named B.method).1
  
  have hx := B.exec
  have hb := B.bytes
  have hr := B.returns
  have hts := atoms_spec (ws := ws_ yX8_init cX8_init 4 none) B.pre
  have hts : ∀ w ∈ lw_all, w.before _ s = true := fun w h => hts w (List.mem_cons_of_mem _ h)
  have hown : s.vm.findClass RX8 = some m.cls := findClass_of_methodNamed B.named
  have hlocks := B.notSynchronized
  have hl := lv_entry ([.ref x, .int n, .int k, .int v]) (n := 4) (Nat.le_of_ble_eq_true rfl)
  rw [lg_entry_eq]
  generalize (lg_sl ([.ref x, .int n, .int k, .int v]) ++ List.replicate (4 - (lg_sl ([.ref x, .int n, .int k, .int v])).length) Slot.unset).toArray = ls at hl ⊢
  have hl : lv_has ls 4 [(0, .ref x), (1, .int n), (2, .int k), (3, .int v)] := hl
  refine lv_aload_n hx hb dX8_init_0 rfl (lv_at hl 0 rfl) ?_
  refine lv_iload_n hx hb dX8_init_1 rfl (lv_at hl 1 rfl) ?_
  refine lv_iload_n hx hb dX8_init_2 rfl (lv_at hl 2 rfl) ?_
  refine lv_iconst hx hb dX8_init_3 rfl ?_
  refine lv_iconst hx hb dX8_init_4 rfl ?_
  refine am_callR (va_runI (own := RX8) (n := 4) (Ts := lw_all) (b := x) (As := [.int n, .int k, .int 1, .int 1]) (rest := []) ⟨hx, hb, hml, hown, hts⟩ (jn_node_X8 hcl x s.heap.size n k 1 1) (cwI 4 hts (lw_meth q123) rfl rfl rfl (hts _ q77) (hts _ q121) (hts _ q122) rfl ⟨by decide, by decide, by decide +kernel⟩ ⟨Nat.le_of_ble_eq_true rfl, Nat.le_of_ble_eq_true rfl⟩) ⟨fun a U gg mk q => ⟨q.1, q.2.1, q.2.2.1, va_K.moved (u := U) (U := U.calling gg mk a) (Vm.Alike.refl U.vm) q.2.2.2⟩, fun U hU hW => ⟨rfl, by rw [hU], by rw [hU]; exact hP, va_K.moved hW.alike hK⟩⟩ rfl rfl hl.1 rfl (lv_room (Nat.le_of_ble_eq_true rfl)) dX8_init_5 ⟨Nat.le_of_ble_eq_true rfl, Nat.le_of_ble_eq_true rfl⟩) (fun v st₀ t L h0 hWm hq hL => ?_)
  obtain ⟨hv, hP1, hF1, hF2⟩ := hq
  cases hv
  rw [h0] at hF1 hF2
  have hS : va_S (fun z => z = x ∨ s.heap.size ≤ z) s.heap t.heap ([] ++ L) := ⟨hF1, hF2, fun z hz => by rw [List.nil_append] at hz; exact hL z hz⟩
  generalize [] ++ L = L1 at hS ⊢
  have hP : va_P D cl [(x, .inr (3, [.int n, .int k, .int 1, .int 1, .int 0]))] t.heap := hP1
  have hD : va_D (fun z => z = x ∨ s.heap.size ≤ z) [(x, .inr (3, [.int n, .int k, .int 1, .int 1, .int 0]))] := ⟨fun i j a b ha hb _ => by
      have h1 : i < 1 := (List.getElem?_eq_some_iff.mp ha).1
      have h2 : j < 1 := (List.getElem?_eq_some_iff.mp hb).1
      omega, fun k q hk => by
      have h1 : k < 1 := (List.getElem?_eq_some_iff.mp hk).1
      have h2 : k = 0 := by omega
      subst h2
      cases hk
      exact .inl rfl⟩
  refine lv_aload_n hx hb dX8_init_8 rfl (lv_at hl 0 rfl) ?_
  refine lv_iload_n hx hb dX8_init_9 rfl (lv_at hl 3 rfl) ?_
  refine va_putF (ci := 3) (v := .int v) (ty := .int) (C := RX8) (T := TX8) (N := 5) hx hb hts in_X8 tyX8 tyX8_ok nmX8 hown hK hP hD hS 0 rfl (hcl 3 _ rfl) 4 (by decide) (hts _ q127) (fun _ h9 => h9) rfl hin rfl (by decide +kernel) rfl rfl (Nat.le_of_ble_eq_true rfl) dX8_init_10 (fun H2 locs2 hP2 hD2 hS2 => ?_)
  have hP : va_P D cl [(x, .inr (3, [.int n, .int k, .int 1, .int 1, .int v]))] H2 := hP2
  have hD : va_D (fun z => z = x ∨ s.heap.size ≤ z) [(x, .inr (3, [.int n, .int k, .int 1, .int 1, .int v]))] := hD2
  exact W.vret hx hb hr (fun t1 ht hW => ⟨rfl, by rw [ht]; exact hP, hS2.F ht⟩) hS2.2.2 dX8_init_13 hlocks
theorem jn_letter_X9 (hcl : cx_clok cl) (x sz : Nat) (n k v : Int32) : Met l yX8_init (ws_ yX8_init cX8_init 4 none) { frames := 2, cells := 0, slots := 0, locals := 80 } (fun a U => a = [.ref x, .int n, .int k, .int v].toArray ∧ U.heap.size = sz ∧ va_P D cl [(x, .inr (4, [.int 0, .int 0, .int 0, .int 0, .int 0]))] U.heap ∧ va_K D cl [] U) (fun _ st o t => o = .returned none ∧ va_P D cl [(x, .inr (4, [.int n, .int k, .int 1, .int 1, .int v]))] t.heap ∧ va_F (fun z => z = x ∨ sz ≤ z) st t) 0 0 (fun z => z = x ∨ sz ≤ z) := by
  refine Met.ofW (cc := cX8_init) (maxL := 4) (ret := none) (by decide) rfl ?_
  intro p e s m args below meth c s₁ B hml hv
  obtain ⟨rfl, hsz, hP, hK⟩ := hv
  subst hsz
  have hin := (name_of_methodNamed B.named B.method).1
  
  have hx := B.exec
  have hb := B.bytes
  have hr := B.returns
  have hts := atoms_spec (ws := ws_ yX8_init cX8_init 4 none) B.pre
  have hts : ∀ w ∈ lw_all, w.before _ s = true := fun w h => hts w (List.mem_cons_of_mem _ h)
  have hown : s.vm.findClass RX8 = some m.cls := findClass_of_methodNamed B.named
  have hlocks := B.notSynchronized
  have hl := lv_entry ([.ref x, .int n, .int k, .int v]) (n := 4) (Nat.le_of_ble_eq_true rfl)
  rw [lg_entry_eq]
  generalize (lg_sl ([.ref x, .int n, .int k, .int v]) ++ List.replicate (4 - (lg_sl ([.ref x, .int n, .int k, .int v])).length) Slot.unset).toArray = ls at hl ⊢
  have hl : lv_has ls 4 [(0, .ref x), (1, .int n), (2, .int k), (3, .int v)] := hl
  refine lv_aload_n hx hb dX8_init_0 rfl (lv_at hl 0 rfl) ?_
  refine lv_iload_n hx hb dX8_init_1 rfl (lv_at hl 1 rfl) ?_
  refine lv_iload_n hx hb dX8_init_2 rfl (lv_at hl 2 rfl) ?_
  refine lv_iconst hx hb dX8_init_3 rfl ?_
  refine lv_iconst hx hb dX8_init_4 rfl ?_
  refine am_callR (va_runI (own := RX8) (n := 4) (Ts := lw_all) (b := x) (As := [.int n, .int k, .int 1, .int 1]) (rest := []) ⟨hx, hb, hml, hown, hts⟩ (jn_node_X9 hcl x s.heap.size n k 1 1) (cwI 4 hts (lw_meth q123) rfl rfl rfl (hts _ q77) (hts _ q121) (hts _ q122) rfl ⟨by decide, by decide, by decide +kernel⟩ ⟨Nat.le_of_ble_eq_true rfl, Nat.le_of_ble_eq_true rfl⟩) ⟨fun a U gg mk q => ⟨q.1, q.2.1, q.2.2.1, va_K.moved (u := U) (U := U.calling gg mk a) (Vm.Alike.refl U.vm) q.2.2.2⟩, fun U hU hW => ⟨rfl, by rw [hU], by rw [hU]; exact hP, va_K.moved hW.alike hK⟩⟩ rfl rfl hl.1 rfl (lv_room (Nat.le_of_ble_eq_true rfl)) dX8_init_5 ⟨Nat.le_of_ble_eq_true rfl, Nat.le_of_ble_eq_true rfl⟩) (fun v st₀ t L h0 hWm hq hL => ?_)
  obtain ⟨hv, hP1, hF1, hF2⟩ := hq
  cases hv
  rw [h0] at hF1 hF2
  have hS : va_S (fun z => z = x ∨ s.heap.size ≤ z) s.heap t.heap ([] ++ L) := ⟨hF1, hF2, fun z hz => by rw [List.nil_append] at hz; exact hL z hz⟩
  generalize [] ++ L = L1 at hS ⊢
  have hP : va_P D cl [(x, .inr (4, [.int n, .int k, .int 1, .int 1, .int 0]))] t.heap := hP1
  have hD : va_D (fun z => z = x ∨ s.heap.size ≤ z) [(x, .inr (4, [.int n, .int k, .int 1, .int 1, .int 0]))] := ⟨fun i j a b ha hb _ => by
      have h1 : i < 1 := (List.getElem?_eq_some_iff.mp ha).1
      have h2 : j < 1 := (List.getElem?_eq_some_iff.mp hb).1
      omega, fun k q hk => by
      have h1 : k < 1 := (List.getElem?_eq_some_iff.mp hk).1
      have h2 : k = 0 := by omega
      subst h2
      cases hk
      exact .inl rfl⟩
  refine lv_aload_n hx hb dX8_init_8 rfl (lv_at hl 0 rfl) ?_
  refine lv_iload_n hx hb dX8_init_9 rfl (lv_at hl 3 rfl) ?_
  refine va_putF (ci := 4) (v := .int v) (ty := .int) (C := RX9) (T := TX9) (N := 5) hx hb hts in_X9 tyX9 tyX9_ok nmX9 hown hK hP hD hS 0 rfl (hcl 4 _ rfl) 4 (by decide) (hts _ q127) (fun _ h9 => h9) rfl hin rfl (by decide +kernel) rfl rfl (Nat.le_of_ble_eq_true rfl) dX8_init_10 (fun H2 locs2 hP2 hD2 hS2 => ?_)
  have hP : va_P D cl [(x, .inr (4, [.int n, .int k, .int 1, .int 1, .int v]))] H2 := hP2
  have hD : va_D (fun z => z = x ∨ s.heap.size ≤ z) [(x, .inr (4, [.int n, .int k, .int 1, .int 1, .int v]))] := hD2
  exact W.vret hx hb hr (fun t1 ht hW => ⟨rfl, by rw [ht]; exact hP, hS2.F ht⟩) hS2.2.2 dX8_init_13 hlocks
theorem jn_digits (hcl : cx_clok cl) (x sz : Nat) (n v : Int32) : Met l yX9_init (ws_ yX9_init cX9_init 3 none) { frames := 3, cells := 0, slots := 0, locals := 120 } (fun a U => a = [.ref x, .int n, .int v].toArray ∧ U.heap.size = sz ∧ va_P D cl [(x, .inr (4, [.int 0, .int 0, .int 0, .int 0, .int 0]))] U.heap ∧ va_K D cl [] U) (fun _ st o t => o = .returned none ∧ va_P D cl [(x, .inr (4, [.int n, .int 1, .int 1, .int 1, .int v]))] t.heap ∧ va_F (fun z => z = x ∨ sz ≤ z) st t) 0 0 (fun z => z = x ∨ sz ≤ z) := by
  refine Met.ofW (cc := cX9_init) (maxL := 3) (ret := none) (by decide) rfl ?_
  intro p e s m args below meth c s₁ B hml hv
  obtain ⟨rfl, hsz, hP, hK⟩ := hv
  subst hsz
  have hin := (name_of_methodNamed B.named B.method).1
  
  have hx := B.exec
  have hb := B.bytes
  have hr := B.returns
  have hts := atoms_spec (ws := ws_ yX9_init cX9_init 3 none) B.pre
  have hts : ∀ w ∈ lw_all, w.before _ s = true := fun w h => hts w (List.mem_cons_of_mem _ h)
  have hown : s.vm.findClass RX9 = some m.cls := findClass_of_methodNamed B.named
  have hlocks := B.notSynchronized
  have hl := lv_entry ([.ref x, .int n, .int v]) (n := 3) (Nat.le_of_ble_eq_true rfl)
  rw [lg_entry_eq]
  generalize (lg_sl ([.ref x, .int n, .int v]) ++ List.replicate (3 - (lg_sl ([.ref x, .int n, .int v])).length) Slot.unset).toArray = ls at hl ⊢
  have hl : lv_has ls 3 [(0, .ref x), (1, .int n), (2, .int v)] := hl
  refine lv_aload_n hx hb dX9_init_0 rfl (lv_at hl 0 rfl) ?_
  refine lv_iload_n hx hb dX9_init_1 rfl (lv_at hl 1 rfl) ?_
  refine lv_iconst hx hb dX9_init_2 rfl ?_
  refine lv_iload_n hx hb dX9_init_3 rfl (lv_at hl 2 rfl) ?_
  refine am_callR (va_runI (own := RX9) (n := 3) (Ts := lw_all) (b := x) (As := [.int n, .int 1, .int v]) (rest := []) ⟨hx, hb, hml, hown, hts⟩ (jn_letter_X9 hcl x s.heap.size n 1 v) (cwI 3 hts (lw_meth q120) rfl rfl rfl (hts _ q78) (hts _ q160) (hts _ q119) rfl ⟨by decide, by decide, by decide +kernel⟩ ⟨Nat.le_of_ble_eq_true rfl, Nat.le_of_ble_eq_true rfl⟩) ⟨fun a U gg mk q => ⟨q.1, q.2.1, q.2.2.1, va_K.moved (u := U) (U := U.calling gg mk a) (Vm.Alike.refl U.vm) q.2.2.2⟩, fun U hU hW => ⟨rfl, by rw [hU], by rw [hU]; exact hP, va_K.moved hW.alike hK⟩⟩ rfl rfl hl.1 rfl (lv_room (Nat.le_of_ble_eq_true rfl)) dX9_init_4 ⟨Nat.le_of_ble_eq_true rfl, Nat.le_of_ble_eq_true rfl⟩) (fun v st₀ t L h0 hWm hq hL => ?_)
  obtain ⟨hv, hP1, hF1, hF2⟩ := hq
  cases hv
  rw [h0] at hF1 hF2
  have hS : va_S (fun z => z = x ∨ s.heap.size ≤ z) s.heap t.heap ([] ++ L) := ⟨hF1, hF2, fun z hz => by rw [List.nil_append] at hz; exact hL z hz⟩
  generalize [] ++ L = L1 at hS ⊢
  have hP : va_P D cl [(x, .inr (4, [.int n, .int 1, .int 1, .int 1, .int v]))] t.heap := hP1
  have hD : va_D (fun z => z = x ∨ s.heap.size ≤ z) [(x, .inr (4, [.int n, .int 1, .int 1, .int 1, .int v]))] := ⟨fun i j a b ha hb _ => by
      have h1 : i < 1 := (List.getElem?_eq_some_iff.mp ha).1
      have h2 : j < 1 := (List.getElem?_eq_some_iff.mp hb).1
      omega, fun k q hk => by
      have h1 : k < 1 := (List.getElem?_eq_some_iff.mp hk).1
      have h2 : k = 0 := by omega
      subst h2
      cases hk
      exact .inl rfl⟩
  exact W.vret hx hb hr (fun t1 ht hW => ⟨rfl, by rw [ht]; exact hP, hS.F ht⟩) hS.2.2 dX9_init_7 hlocks
theorem jn_get_size {p : Program} {e : Env} {R : Room} {s : State} {m : MethodId} {args : Array Value} {below : List Frame} {meth : Method} {c : Code} {H : Heap} {locs : List Loc} {cells slots : Nat} {Q : State → Prop} {cc : ByteArray} {pc : Nat} {ls : Array Slot} {rest : List Value} (hcl : cx_clok cl) (hx : p.tables.exec = Jvm.exec) (hb : c.code = cc) (hts : ∀ w ∈ lw_all, w.before args s = true) {own : String} (hown : s.vm.findClass own = some m.cls) {tys : List (ClassId × FieldType)} (hK : va_K D cl tys s) {a kd : Nat} (hk : kd ≤ 9) {fs : List Value} (hP : va_P D cl [(a, .inr (cx_ci kd, fs))] H) {v : Value} (hv : fs[2]? = some v) {idx : Nat} (hl : Cond.fieldLink own idx "FormulaVoice$Node" "size" "I" ∈ lw_all) (hdg : decode cc pc = .ok (.getfield idx, 3))
    (kk : W p l e R s m args below meth c H locs cells slots Q (F0 m (pc + 3) ls (v :: rest))) : W p l e R s m args below meth c H locs cells slots Q (F0 m pc ls (.ref a :: rest)) := by
  obtain ⟨t1, t2, t3, t4⟩ := le9 (P := fun k => 2 < (cx_q k).2.2 ∧ ((cx_q k).2.1 2).2.1 = "size" ∧ ((cx_q k).2.1 2).2.2.1 = "I" ∧ ((cx_q k).2.1 2).1 = "FormulaVoice$Node") ⟨by decide, rfl, rfl, rfl⟩ ⟨by decide, rfl, rfl, rfl⟩ ⟨by decide, rfl, rfl, rfl⟩ ⟨by decide, rfl, rfl, rfl⟩ ⟨by decide, rfl, rfl, rfl⟩ ⟨by decide, rfl, rfl, rfl⟩ ⟨by decide, rfl, rfl, rfl⟩ ⟨by decide, rfl, rfl, rfl⟩ ⟨by decide, rfl, rfl, rfl⟩ ⟨by decide, rfl, rfl, rfl⟩ kd hk
  obtain ⟨hin, hq⟩ := cx_q_in _ hk
  exact va_get (C := (cx_q kd).1) (T := (cx_q kd).2.1) (N := (cx_q kd).2.2) (ref := "FormulaVoice$Node") hx hb hts hin hown hK hP 0 rfl (hcl _ _ hq) 2 t1 (by rw [t2, t3]; exact hts _ hl) (by rw [t4]; exact fun _ h => h) hv hdg kk
theorem jn_get_depth {p : Program} {e : Env} {R : Room} {s : State} {m : MethodId} {args : Array Value} {below : List Frame} {meth : Method} {c : Code} {H : Heap} {locs : List Loc} {cells slots : Nat} {Q : State → Prop} {cc : ByteArray} {pc : Nat} {ls : Array Slot} {rest : List Value} (hcl : cx_clok cl) (hx : p.tables.exec = Jvm.exec) (hb : c.code = cc) (hts : ∀ w ∈ lw_all, w.before args s = true) {own : String} (hown : s.vm.findClass own = some m.cls) {tys : List (ClassId × FieldType)} (hK : va_K D cl tys s) {a kd : Nat} (hk : kd ≤ 9) {fs : List Value} (hP : va_P D cl [(a, .inr (cx_ci kd, fs))] H) {v : Value} (hv : fs[3]? = some v) {idx : Nat} (hl : Cond.fieldLink own idx "FormulaVoice$Node" "depth" "I" ∈ lw_all) (hdg : decode cc pc = .ok (.getfield idx, 3))
    (kk : W p l e R s m args below meth c H locs cells slots Q (F0 m (pc + 3) ls (v :: rest))) : W p l e R s m args below meth c H locs cells slots Q (F0 m pc ls (.ref a :: rest)) := by
  obtain ⟨t1, t2, t3, t4⟩ := le9 (P := fun k => 3 < (cx_q k).2.2 ∧ ((cx_q k).2.1 3).2.1 = "depth" ∧ ((cx_q k).2.1 3).2.2.1 = "I" ∧ ((cx_q k).2.1 3).1 = "FormulaVoice$Node") ⟨by decide, rfl, rfl, rfl⟩ ⟨by decide, rfl, rfl, rfl⟩ ⟨by decide, rfl, rfl, rfl⟩ ⟨by decide, rfl, rfl, rfl⟩ ⟨by decide, rfl, rfl, rfl⟩ ⟨by decide, rfl, rfl, rfl⟩ ⟨by decide, rfl, rfl, rfl⟩ ⟨by decide, rfl, rfl, rfl⟩ ⟨by decide, rfl, rfl, rfl⟩ ⟨by decide, rfl, rfl, rfl⟩ kd hk
  obtain ⟨hin, hq⟩ := cx_q_in _ hk
  exact va_get (C := (cx_q kd).1) (T := (cx_q kd).2.1) (N := (cx_q kd).2.2) (ref := "FormulaVoice$Node") hx hb hts hin hown hK hP 0 rfl (hcl _ _ hq) 3 t1 (by rw [t2, t3]; exact hts _ hl) (by rw [t4]; exact fun _ h => h) hv hdg kk
theorem jn_two_X10 (hcl : cx_clok cl) (x sz : Nat) (n k : Int32) (ax kx : Nat) (fx : List Value) (sx dx : Int32) (hkx : kx ≤ 9) (hsx : fx[2]? = some (.int sx)) (hdx : fx[3]? = some (.int dx)) (ay ky : Nat) (fy : List Value) (sy dy : Int32) (hky : ky ≤ 9) (hsy : fy[2]? = some (.int sy)) (hdy : fy[3]? = some (.int dy)) : Met l yX10_init (ws_ yX10_init cX10_init 5 none) { frames := 2, cells := 0, slots := 0, locals := 80 } (fun a U => a = [.ref x, .int n, .int k, .ref ax, .ref ay].toArray ∧ U.heap.size = sz ∧ va_P D cl [(x, .inr (5, [.int 0, .int 0, .int 0, .int 0, .null, .null]))] U.heap ∧ va_K D cl [] U ∧ va_P D cl [(ax, .inr (cx_ci kx, fx))] U.heap ∧ va_P D cl [(ay, .inr (cx_ci ky, fy))] U.heap) (fun _ st o t => o = .returned none ∧ va_P D cl [(x, .inr (5, [.int n, .int k, .int (1 + sx + sy), .int (1 + (if dx < dy then dy else dx)), .ref ax, .ref ay]))] t.heap ∧ va_F (fun z => z = x ∨ sz ≤ z) st t) 0 0 (fun z => z = x ∨ sz ≤ z) := by
  refine Met.ofW (cc := cX10_init) (maxL := 5) (ret := none) (by decide) rfl ?_
  intro p e s m args below meth c s₁ B hml hv
  obtain ⟨rfl, hsz, hP, hK, hPx, hPy⟩ := hv
  subst hsz
  have hin := (name_of_methodNamed B.named B.method).1
  
  have hx := B.exec
  have hb := B.bytes
  have hr := B.returns
  have hts := atoms_spec (ws := ws_ yX10_init cX10_init 5 none) B.pre
  have hts : ∀ w ∈ lw_all, w.before _ s = true := fun w h => hts w (List.mem_cons_of_mem _ h)
  have hown : s.vm.findClass RX10 = some m.cls := findClass_of_methodNamed B.named
  have hlocks := B.notSynchronized
  have hl := lv_entry ([.ref x, .int n, .int k, .ref ax, .ref ay]) (n := 5) (Nat.le_of_ble_eq_true rfl)
  rw [lg_entry_eq]
  generalize (lg_sl ([.ref x, .int n, .int k, .ref ax, .ref ay]) ++ List.replicate (5 - (lg_sl ([.ref x, .int n, .int k, .ref ax, .ref ay])).length) Slot.unset).toArray = ls at hl ⊢
  have hl : lv_has ls 5 [(0, .ref x), (1, .int n), (2, .int k), (3, .ref ax), (4, .ref ay)] := hl
  refine lv_aload_n hx hb dX10_init_0 rfl (lv_at hl 0 rfl) ?_
  refine lv_iload_n hx hb dX10_init_1 rfl (lv_at hl 1 rfl) ?_
  refine lv_iload_n hx hb dX10_init_2 rfl (lv_at hl 2 rfl) ?_
  refine lv_iconst hx hb dX10_init_3 rfl ?_
  refine lv_aload_n hx hb dX10_init_4 rfl (lv_at hl 3 rfl) ?_
  refine jn_get_size hcl hx hb hts hown hK hkx hPx hsx q136 dX10_init_5 ?_
  refine lv_iadd hx hb dX10_init_8 ?_
  refine lv_aload hx hb dX10_init_9 (lv_at hl 4 rfl) ?_
  refine jn_get_size hcl hx hb hts hown hK hky hPy hsy q136 dX10_init_11 ?_
  refine lv_iadd hx hb dX10_init_14 ?_
  refine lv_iconst hx hb dX10_init_15 rfl ?_
  refine lv_aload_n hx hb dX10_init_16 rfl (lv_at hl 3 rfl) ?_
  refine jn_get_depth hcl hx hb hts hown hK hkx hPx hdx q141 dX10_init_17 ?_
  refine lv_aload hx hb dX10_init_20 (lv_at hl 4 rfl) ?_
  refine jn_get_depth hcl hx hb hts hown hK hky hPy hdy q141 dX10_init_22 ?_
  refine va_mmax hx hb (hml.trans hl.1.symm) hown (hts _ q172) (hts _ q173) (hts _ q81) (hts _ q174) (Nat.le_of_ble_eq_true rfl) (Nat.le_of_ble_eq_true rfl) (Nat.le_of_ble_eq_true rfl) (Nat.le_of_ble_eq_true rfl) dX10_init_25 ?_
  refine lv_iadd hx hb dX10_init_28 ?_
  rw [show Int32.ofInt 1 = (1 : Int32) by decide]
  refine am_callR (va_runI (own := RX10) (n := 4) (Ts := lw_all) (b := x) (As := [.int n, .int k, .int (1 + sx + sy), .int (1 + (if dx < dy then dy else dx))]) (rest := []) ⟨hx, hb, hml, hown, hts⟩ (jn_node_X10 hcl x s.heap.size n k (1 + sx + sy) (1 + (if dx < dy then dy else dx))) (cwI 4 hts (lw_meth q123) rfl rfl rfl (hts _ q77) (hts _ q175) (hts _ q122) rfl ⟨by decide, by decide, by decide +kernel⟩ ⟨Nat.le_of_ble_eq_true rfl, Nat.le_of_ble_eq_true rfl⟩) ⟨fun a U gg mk q => ⟨q.1, q.2.1, q.2.2.1, va_K.moved (u := U) (U := U.calling gg mk a) (Vm.Alike.refl U.vm) q.2.2.2⟩, fun U hU hW => ⟨rfl, by rw [hU], by rw [hU]; exact hP, va_K.moved hW.alike hK⟩⟩ rfl rfl hl.1 rfl (lv_room (Nat.le_of_ble_eq_true rfl)) dX10_init_29 ⟨Nat.le_of_ble_eq_true rfl, Nat.le_of_ble_eq_true rfl⟩) (fun v st₀ t L h0 hWm hq hL => ?_)
  obtain ⟨hv, hP1, hF1, hF2⟩ := hq
  cases hv
  rw [h0] at hF1 hF2
  have hS : va_S (fun z => z = x ∨ s.heap.size ≤ z) s.heap t.heap ([] ++ L) := ⟨hF1, hF2, fun z hz => by rw [List.nil_append] at hz; exact hL z hz⟩
  generalize [] ++ L = L1 at hS ⊢
  have hP : va_P D cl [(x, .inr (5, [.int n, .int k, .int (1 + sx + sy), .int (1 + (if dx < dy then dy else dx)), .null, .null]))] t.heap := hP1
  have hD : va_D (fun z => z = x ∨ s.heap.size ≤ z) [(x, .inr (5, [.int n, .int k, .int (1 + sx + sy), .int (1 + (if dx < dy then dy else dx)), .null, .null]))] := ⟨fun i j a b ha hb _ => by
      have h1 : i < 1 := (List.getElem?_eq_some_iff.mp ha).1
      have h2 : j < 1 := (List.getElem?_eq_some_iff.mp hb).1
      omega, fun k q hk => by
      have h1 : k < 1 := (List.getElem?_eq_some_iff.mp hk).1
      have h2 : k = 0 := by omega
      subst h2
      cases hk
      exact .inl rfl⟩
  refine lv_aload_n hx hb dX10_init_32 rfl (lv_at hl 0 rfl) ?_
  refine lv_aload_n hx hb dX10_init_33 rfl (lv_at hl 3 rfl) ?_
  refine va_putF (ci := 5) (v := .ref ax) (ty := (.object "FormulaVoice$Node")) (C := RX10) (T := TX10) (N := 6) hx hb hts in_X10 tyX10 tyX10_ok nmX10 hown hK hP hD hS 0 rfl (hcl 5 _ rfl) 4 (by decide) (hts _ q176) (fun _ h9 => h9) rfl hin rfl (by decide +kernel) rfl rfl (Nat.le_of_ble_eq_true rfl) dX10_init_34 (fun H2 locs2 hP2 hD2 hS2 => ?_)
  have hP : va_P D cl [(x, .inr (5, [.int n, .int k, .int (1 + sx + sy), .int (1 + (if dx < dy then dy else dx)), .ref ax, .null]))] H2 := hP2
  have hD : va_D (fun z => z = x ∨ s.heap.size ≤ z) [(x, .inr (5, [.int n, .int k, .int (1 + sx + sy), .int (1 + (if dx < dy then dy else dx)), .ref ax, .null]))] := hD2
  refine lv_aload_n hx hb dX10_init_37 rfl (lv_at hl 0 rfl) ?_
  refine lv_aload hx hb dX10_init_38 (lv_at hl 4 rfl) ?_
  refine va_putF (ci := 5) (v := .ref ay) (ty := (.object "FormulaVoice$Node")) (C := RX10) (T := TX10) (N := 6) hx hb hts in_X10 tyX10 tyX10_ok nmX10 hown hK hP hD hS2 0 rfl (hcl 5 _ rfl) 5 (by decide) (hts _ q177) (fun _ h9 => h9) rfl hin rfl (by decide +kernel) rfl rfl (Nat.le_of_ble_eq_true rfl) dX10_init_40 (fun H3 locs3 hP3 hD3 hS3 => ?_)
  have hP : va_P D cl [(x, .inr (5, [.int n, .int k, .int (1 + sx + sy), .int (1 + (if dx < dy then dy else dx)), .ref ax, .ref ay]))] H3 := hP3
  have hD : va_D (fun z => z = x ∨ s.heap.size ≤ z) [(x, .inr (5, [.int n, .int k, .int (1 + sx + sy), .int (1 + (if dx < dy then dy else dx)), .ref ax, .ref ay]))] := hD3
  exact W.vret hx hb hr (fun t1 ht hW => ⟨rfl, by rw [ht]; exact hP, hS3.F ht⟩) hS3.2.2 dX10_init_43 hlocks
theorem jn_two_X11 (hcl : cx_clok cl) (x sz : Nat) (n k : Int32) (ax kx : Nat) (fx : List Value) (sx dx : Int32) (hkx : kx ≤ 9) (hsx : fx[2]? = some (.int sx)) (hdx : fx[3]? = some (.int dx)) (ay ky : Nat) (fy : List Value) (sy dy : Int32) (hky : ky ≤ 9) (hsy : fy[2]? = some (.int sy)) (hdy : fy[3]? = some (.int dy)) : Met l yX10_init (ws_ yX10_init cX10_init 5 none) { frames := 2, cells := 0, slots := 0, locals := 80 } (fun a U => a = [.ref x, .int n, .int k, .ref ax, .ref ay].toArray ∧ U.heap.size = sz ∧ va_P D cl [(x, .inr (6, [.int 0, .int 0, .int 0, .int 0, .null, .null]))] U.heap ∧ va_K D cl [] U ∧ va_P D cl [(ax, .inr (cx_ci kx, fx))] U.heap ∧ va_P D cl [(ay, .inr (cx_ci ky, fy))] U.heap) (fun _ st o t => o = .returned none ∧ va_P D cl [(x, .inr (6, [.int n, .int k, .int (1 + sx + sy), .int (1 + (if dx < dy then dy else dx)), .ref ax, .ref ay]))] t.heap ∧ va_F (fun z => z = x ∨ sz ≤ z) st t) 0 0 (fun z => z = x ∨ sz ≤ z) := by
  refine Met.ofW (cc := cX10_init) (maxL := 5) (ret := none) (by decide) rfl ?_
  intro p e s m args below meth c s₁ B hml hv
  obtain ⟨rfl, hsz, hP, hK, hPx, hPy⟩ := hv
  subst hsz
  have hin := (name_of_methodNamed B.named B.method).1
  
  have hx := B.exec
  have hb := B.bytes
  have hr := B.returns
  have hts := atoms_spec (ws := ws_ yX10_init cX10_init 5 none) B.pre
  have hts : ∀ w ∈ lw_all, w.before _ s = true := fun w h => hts w (List.mem_cons_of_mem _ h)
  have hown : s.vm.findClass RX10 = some m.cls := findClass_of_methodNamed B.named
  have hlocks := B.notSynchronized
  have hl := lv_entry ([.ref x, .int n, .int k, .ref ax, .ref ay]) (n := 5) (Nat.le_of_ble_eq_true rfl)
  rw [lg_entry_eq]
  generalize (lg_sl ([.ref x, .int n, .int k, .ref ax, .ref ay]) ++ List.replicate (5 - (lg_sl ([.ref x, .int n, .int k, .ref ax, .ref ay])).length) Slot.unset).toArray = ls at hl ⊢
  have hl : lv_has ls 5 [(0, .ref x), (1, .int n), (2, .int k), (3, .ref ax), (4, .ref ay)] := hl
  refine lv_aload_n hx hb dX10_init_0 rfl (lv_at hl 0 rfl) ?_
  refine lv_iload_n hx hb dX10_init_1 rfl (lv_at hl 1 rfl) ?_
  refine lv_iload_n hx hb dX10_init_2 rfl (lv_at hl 2 rfl) ?_
  refine lv_iconst hx hb dX10_init_3 rfl ?_
  refine lv_aload_n hx hb dX10_init_4 rfl (lv_at hl 3 rfl) ?_
  refine jn_get_size hcl hx hb hts hown hK hkx hPx hsx q136 dX10_init_5 ?_
  refine lv_iadd hx hb dX10_init_8 ?_
  refine lv_aload hx hb dX10_init_9 (lv_at hl 4 rfl) ?_
  refine jn_get_size hcl hx hb hts hown hK hky hPy hsy q136 dX10_init_11 ?_
  refine lv_iadd hx hb dX10_init_14 ?_
  refine lv_iconst hx hb dX10_init_15 rfl ?_
  refine lv_aload_n hx hb dX10_init_16 rfl (lv_at hl 3 rfl) ?_
  refine jn_get_depth hcl hx hb hts hown hK hkx hPx hdx q141 dX10_init_17 ?_
  refine lv_aload hx hb dX10_init_20 (lv_at hl 4 rfl) ?_
  refine jn_get_depth hcl hx hb hts hown hK hky hPy hdy q141 dX10_init_22 ?_
  refine va_mmax hx hb (hml.trans hl.1.symm) hown (hts _ q172) (hts _ q173) (hts _ q81) (hts _ q174) (Nat.le_of_ble_eq_true rfl) (Nat.le_of_ble_eq_true rfl) (Nat.le_of_ble_eq_true rfl) (Nat.le_of_ble_eq_true rfl) dX10_init_25 ?_
  refine lv_iadd hx hb dX10_init_28 ?_
  rw [show Int32.ofInt 1 = (1 : Int32) by decide]
  refine am_callR (va_runI (own := RX10) (n := 4) (Ts := lw_all) (b := x) (As := [.int n, .int k, .int (1 + sx + sy), .int (1 + (if dx < dy then dy else dx))]) (rest := []) ⟨hx, hb, hml, hown, hts⟩ (jn_node_X11 hcl x s.heap.size n k (1 + sx + sy) (1 + (if dx < dy then dy else dx))) (cwI 4 hts (lw_meth q123) rfl rfl rfl (hts _ q77) (hts _ q175) (hts _ q122) rfl ⟨by decide, by decide, by decide +kernel⟩ ⟨Nat.le_of_ble_eq_true rfl, Nat.le_of_ble_eq_true rfl⟩) ⟨fun a U gg mk q => ⟨q.1, q.2.1, q.2.2.1, va_K.moved (u := U) (U := U.calling gg mk a) (Vm.Alike.refl U.vm) q.2.2.2⟩, fun U hU hW => ⟨rfl, by rw [hU], by rw [hU]; exact hP, va_K.moved hW.alike hK⟩⟩ rfl rfl hl.1 rfl (lv_room (Nat.le_of_ble_eq_true rfl)) dX10_init_29 ⟨Nat.le_of_ble_eq_true rfl, Nat.le_of_ble_eq_true rfl⟩) (fun v st₀ t L h0 hWm hq hL => ?_)
  obtain ⟨hv, hP1, hF1, hF2⟩ := hq
  cases hv
  rw [h0] at hF1 hF2
  have hS : va_S (fun z => z = x ∨ s.heap.size ≤ z) s.heap t.heap ([] ++ L) := ⟨hF1, hF2, fun z hz => by rw [List.nil_append] at hz; exact hL z hz⟩
  generalize [] ++ L = L1 at hS ⊢
  have hP : va_P D cl [(x, .inr (6, [.int n, .int k, .int (1 + sx + sy), .int (1 + (if dx < dy then dy else dx)), .null, .null]))] t.heap := hP1
  have hD : va_D (fun z => z = x ∨ s.heap.size ≤ z) [(x, .inr (6, [.int n, .int k, .int (1 + sx + sy), .int (1 + (if dx < dy then dy else dx)), .null, .null]))] := ⟨fun i j a b ha hb _ => by
      have h1 : i < 1 := (List.getElem?_eq_some_iff.mp ha).1
      have h2 : j < 1 := (List.getElem?_eq_some_iff.mp hb).1
      omega, fun k q hk => by
      have h1 : k < 1 := (List.getElem?_eq_some_iff.mp hk).1
      have h2 : k = 0 := by omega
      subst h2
      cases hk
      exact .inl rfl⟩
  refine lv_aload_n hx hb dX10_init_32 rfl (lv_at hl 0 rfl) ?_
  refine lv_aload_n hx hb dX10_init_33 rfl (lv_at hl 3 rfl) ?_
  refine va_putF (ci := 6) (v := .ref ax) (ty := (.object "FormulaVoice$Node")) (C := RX11) (T := TX11) (N := 6) hx hb hts in_X11 tyX11 tyX11_ok nmX11 hown hK hP hD hS 0 rfl (hcl 6 _ rfl) 4 (by decide) (hts _ q176) (fun _ h9 => h9) rfl hin rfl (by decide +kernel) rfl rfl (Nat.le_of_ble_eq_true rfl) dX10_init_34 (fun H2 locs2 hP2 hD2 hS2 => ?_)
  have hP : va_P D cl [(x, .inr (6, [.int n, .int k, .int (1 + sx + sy), .int (1 + (if dx < dy then dy else dx)), .ref ax, .null]))] H2 := hP2
  have hD : va_D (fun z => z = x ∨ s.heap.size ≤ z) [(x, .inr (6, [.int n, .int k, .int (1 + sx + sy), .int (1 + (if dx < dy then dy else dx)), .ref ax, .null]))] := hD2
  refine lv_aload_n hx hb dX10_init_37 rfl (lv_at hl 0 rfl) ?_
  refine lv_aload hx hb dX10_init_38 (lv_at hl 4 rfl) ?_
  refine va_putF (ci := 6) (v := .ref ay) (ty := (.object "FormulaVoice$Node")) (C := RX11) (T := TX11) (N := 6) hx hb hts in_X11 tyX11 tyX11_ok nmX11 hown hK hP hD hS2 0 rfl (hcl 6 _ rfl) 5 (by decide) (hts _ q177) (fun _ h9 => h9) rfl hin rfl (by decide +kernel) rfl rfl (Nat.le_of_ble_eq_true rfl) dX10_init_40 (fun H3 locs3 hP3 hD3 hS3 => ?_)
  have hP : va_P D cl [(x, .inr (6, [.int n, .int k, .int (1 + sx + sy), .int (1 + (if dx < dy then dy else dx)), .ref ax, .ref ay]))] H3 := hP3
  have hD : va_D (fun z => z = x ∨ s.heap.size ≤ z) [(x, .inr (6, [.int n, .int k, .int (1 + sx + sy), .int (1 + (if dx < dy then dy else dx)), .ref ax, .ref ay]))] := hD3
  exact W.vret hx hb hr (fun t1 ht hW => ⟨rfl, by rw [ht]; exact hP, hS3.F ht⟩) hS3.2.2 dX10_init_43 hlocks
theorem jn_script (hcl : cx_clok cl) (x sz : Nat) (n k : Int32) (ax kx : Nat) (fx : List Value) (sx dx : Int32) (hkx : kx ≤ 9) (hsx : fx[2]? = some (.int sx)) (hdx : fx[3]? = some (.int dx)) (ay ky : Nat) (fy : List Value) (sy dy : Int32) (hky : ky ≤ 9) (hsy : fy[2]? = some (.int sy)) (hdy : fy[3]? = some (.int dy)) : Met l yX11_init (ws_ yX11_init cX11_init 5 none) { frames := 3, cells := 0, slots := 0, locals := 120 } (fun a U => a = [.ref x, .int n, .int k, .ref ax, .ref ay].toArray ∧ U.heap.size = sz ∧ va_P D cl [(x, .inr (6, [.int 0, .int 0, .int 0, .int 0, .null, .null]))] U.heap ∧ va_K D cl [] U ∧ va_P D cl [(ax, .inr (cx_ci kx, fx))] U.heap ∧ va_P D cl [(ay, .inr (cx_ci ky, fy))] U.heap) (fun _ st o t => o = .returned none ∧ va_P D cl [(x, .inr (6, [.int n, .int k, .int (1 + sx + sy), .int (1 + (if dx < dy then dy else dx)), .ref ax, .ref ay]))] t.heap ∧ va_F (fun z => z = x ∨ sz ≤ z) st t) 0 0 (fun z => z = x ∨ sz ≤ z) := by
  refine Met.ofW (cc := cX11_init) (maxL := 5) (ret := none) (by decide) rfl ?_
  intro p e s m args below meth c s₁ B hml hv
  obtain ⟨rfl, hsz, hP, hK, hPx, hPy⟩ := hv
  subst hsz
  have hin := (name_of_methodNamed B.named B.method).1
  
  have hx := B.exec
  have hb := B.bytes
  have hr := B.returns
  have hts := atoms_spec (ws := ws_ yX11_init cX11_init 5 none) B.pre
  have hts : ∀ w ∈ lw_all, w.before _ s = true := fun w h => hts w (List.mem_cons_of_mem _ h)
  have hown : s.vm.findClass RX11 = some m.cls := findClass_of_methodNamed B.named
  have hlocks := B.notSynchronized
  have hl := lv_entry ([.ref x, .int n, .int k, .ref ax, .ref ay]) (n := 5) (Nat.le_of_ble_eq_true rfl)
  rw [lg_entry_eq]
  generalize (lg_sl ([.ref x, .int n, .int k, .ref ax, .ref ay]) ++ List.replicate (5 - (lg_sl ([.ref x, .int n, .int k, .ref ax, .ref ay])).length) Slot.unset).toArray = ls at hl ⊢
  have hl : lv_has ls 5 [(0, .ref x), (1, .int n), (2, .int k), (3, .ref ax), (4, .ref ay)] := hl
  refine lv_aload_n hx hb dX11_init_0 rfl (lv_at hl 0 rfl) ?_
  refine lv_iload_n hx hb dX11_init_1 rfl (lv_at hl 1 rfl) ?_
  refine lv_iload_n hx hb dX11_init_2 rfl (lv_at hl 2 rfl) ?_
  refine lv_aload_n hx hb dX11_init_3 rfl (lv_at hl 3 rfl) ?_
  refine lv_aload hx hb dX11_init_4 (lv_at hl 4 rfl) ?_
  refine am_callR (va_runI (own := RX11) (n := 4) (Ts := lw_all) (b := x) (As := [.int n, .int k, .ref ax, .ref ay]) (rest := []) ⟨hx, hb, hml, hown, hts⟩ (jn_two_X11 hcl x s.heap.size n k ax kx fx sx dx hkx hsx hdx ay ky fy sy dy hky hsy hdy) (cwI 4 hts (lw_meth q171) rfl rfl rfl (hts _ q80) (hts _ q192) (hts _ q170) rfl ⟨by decide, by decide, by decide +kernel⟩ ⟨Nat.le_of_ble_eq_true rfl, Nat.le_of_ble_eq_true rfl⟩) ⟨fun a U gg mk q => ⟨q.1, q.2.1, q.2.2.1, va_K.moved (u := U) (U := U.calling gg mk a) (Vm.Alike.refl U.vm) q.2.2.2.1, q.2.2.2.2⟩, fun U hU hW => ⟨rfl, by rw [hU], by rw [hU]; exact hP, va_K.moved hW.alike hK, by rw [hU]; exact hPx, by rw [hU]; exact hPy⟩⟩ rfl rfl hl.1 rfl (lv_room (Nat.le_of_ble_eq_true rfl)) dX11_init_6 ⟨Nat.le_of_ble_eq_true rfl, Nat.le_of_ble_eq_true rfl⟩) (fun v st₀ t L h0 hWm hq hL => ?_)
  obtain ⟨hv, hP1, hF1, hF2⟩ := hq
  cases hv
  rw [h0] at hF1 hF2
  have hS : va_S (fun z => z = x ∨ s.heap.size ≤ z) s.heap t.heap ([] ++ L) := ⟨hF1, hF2, fun z hz => by rw [List.nil_append] at hz; exact hL z hz⟩
  generalize [] ++ L = L1 at hS ⊢
  have hP : va_P D cl [(x, .inr (6, [.int n, .int k, .int (1 + sx + sy), .int (1 + (if dx < dy then dy else dx)), .ref ax, .ref ay]))] t.heap := hP1
  have hD : va_D (fun z => z = x ∨ s.heap.size ≤ z) [(x, .inr (6, [.int n, .int k, .int (1 + sx + sy), .int (1 + (if dx < dy then dy else dx)), .ref ax, .ref ay]))] := ⟨fun i j a b ha hb _ => by
      have h1 : i < 1 := (List.getElem?_eq_some_iff.mp ha).1
      have h2 : j < 1 := (List.getElem?_eq_some_iff.mp hb).1
      omega, fun k q hk => by
      have h1 : k < 1 := (List.getElem?_eq_some_iff.mp hk).1
      have h2 : k = 0 := by omega
      subst h2
      cases hk
      exact .inl rfl⟩
  exact W.vret hx hb hr (fun t1 ht hW => ⟨rfl, by rw [ht]; exact hP, hS.F ht⟩) hS.2.2 dX11_init_9 hlocks
theorem jn_root_X12 (hcl : cx_clok cl) (x sz : Nat) (n k : Int32) (ax kx : Nat) (fx : List Value) (sx dx : Int32) (hkx : kx ≤ 9) (hsx : fx[2]? = some (.int sx)) (hdx : fx[3]? = some (.int dx)) : Met l yX12_init (ws_ yX12_init cX12_init 4 none) { frames := 2, cells := 0, slots := 0, locals := 80 } (fun a U => a = [.ref x, .int n, .int k, .ref ax].toArray ∧ U.heap.size = sz ∧ va_P D cl [(x, .inr (7, [.int 0, .int 0, .int 0, .int 0, .null]))] U.heap ∧ va_K D cl [] U ∧ va_P D cl [(ax, .inr (cx_ci kx, fx))] U.heap) (fun _ st o t => o = .returned none ∧ va_P D cl [(x, .inr (7, [.int n, .int k, .int (1 + sx), .int (1 + dx), .ref ax]))] t.heap ∧ va_F (fun z => z = x ∨ sz ≤ z) st t) 0 0 (fun z => z = x ∨ sz ≤ z) := by
  refine Met.ofW (cc := cX12_init) (maxL := 4) (ret := none) (by decide) rfl ?_
  intro p e s m args below meth c s₁ B hml hv
  obtain ⟨rfl, hsz, hP, hK, hPx⟩ := hv
  subst hsz
  have hin := (name_of_methodNamed B.named B.method).1
  
  have hx := B.exec
  have hb := B.bytes
  have hr := B.returns
  have hts := atoms_spec (ws := ws_ yX12_init cX12_init 4 none) B.pre
  have hts : ∀ w ∈ lw_all, w.before _ s = true := fun w h => hts w (List.mem_cons_of_mem _ h)
  have hown : s.vm.findClass RX12 = some m.cls := findClass_of_methodNamed B.named
  have hlocks := B.notSynchronized
  have hl := lv_entry ([.ref x, .int n, .int k, .ref ax]) (n := 4) (Nat.le_of_ble_eq_true rfl)
  rw [lg_entry_eq]
  generalize (lg_sl ([.ref x, .int n, .int k, .ref ax]) ++ List.replicate (4 - (lg_sl ([.ref x, .int n, .int k, .ref ax])).length) Slot.unset).toArray = ls at hl ⊢
  have hl : lv_has ls 4 [(0, .ref x), (1, .int n), (2, .int k), (3, .ref ax)] := hl
  refine lv_aload_n hx hb dX12_init_0 rfl (lv_at hl 0 rfl) ?_
  refine lv_iload_n hx hb dX12_init_1 rfl (lv_at hl 1 rfl) ?_
  refine lv_iload_n hx hb dX12_init_2 rfl (lv_at hl 2 rfl) ?_
  refine lv_iconst hx hb dX12_init_3 rfl ?_
  refine lv_aload_n hx hb dX12_init_4 rfl (lv_at hl 3 rfl) ?_
  refine jn_get_size hcl hx hb hts hown hK hkx hPx hsx q137 dX12_init_5 ?_
  refine lv_iadd hx hb dX12_init_8 ?_
  refine lv_iconst hx hb dX12_init_9 rfl ?_
  refine lv_aload_n hx hb dX12_init_10 rfl (lv_at hl 3 rfl) ?_
  refine jn_get_depth hcl hx hb hts hown hK hkx hPx hdx q140 dX12_init_11 ?_
  refine lv_iadd hx hb dX12_init_14 ?_
  rw [show Int32.ofInt 1 = (1 : Int32) by decide]
  refine am_callR (va_runI (own := RX12) (n := 4) (Ts := lw_all) (b := x) (As := [.int n, .int k, .int (1 + sx), .int (1 + dx)]) (rest := []) ⟨hx, hb, hml, hown, hts⟩ (jn_node_X12 hcl x s.heap.size n k (1 + sx) (1 + dx)) (cwI 4 hts (lw_meth q123) rfl rfl rfl (hts _ q77) (hts _ q205) (hts _ q122) rfl ⟨by decide, by decide, by decide +kernel⟩ ⟨Nat.le_of_ble_eq_true rfl, Nat.le_of_ble_eq_true rfl⟩) ⟨fun a U gg mk q => ⟨q.1, q.2.1, q.2.2.1, va_K.moved (u := U) (U := U.calling gg mk a) (Vm.Alike.refl U.vm) q.2.2.2⟩, fun U hU hW => ⟨rfl, by rw [hU], by rw [hU]; exact hP, va_K.moved hW.alike hK⟩⟩ rfl rfl hl.1 rfl (lv_room (Nat.le_of_ble_eq_true rfl)) dX12_init_15 ⟨Nat.le_of_ble_eq_true rfl, Nat.le_of_ble_eq_true rfl⟩) (fun v st₀ t L h0 hWm hq hL => ?_)
  obtain ⟨hv, hP1, hF1, hF2⟩ := hq
  cases hv
  rw [h0] at hF1 hF2
  have hS : va_S (fun z => z = x ∨ s.heap.size ≤ z) s.heap t.heap ([] ++ L) := ⟨hF1, hF2, fun z hz => by rw [List.nil_append] at hz; exact hL z hz⟩
  generalize [] ++ L = L1 at hS ⊢
  have hP : va_P D cl [(x, .inr (7, [.int n, .int k, .int (1 + sx), .int (1 + dx), .null]))] t.heap := hP1
  have hD : va_D (fun z => z = x ∨ s.heap.size ≤ z) [(x, .inr (7, [.int n, .int k, .int (1 + sx), .int (1 + dx), .null]))] := ⟨fun i j a b ha hb _ => by
      have h1 : i < 1 := (List.getElem?_eq_some_iff.mp ha).1
      have h2 : j < 1 := (List.getElem?_eq_some_iff.mp hb).1
      omega, fun k q hk => by
      have h1 : k < 1 := (List.getElem?_eq_some_iff.mp hk).1
      have h2 : k = 0 := by omega
      subst h2
      cases hk
      exact .inl rfl⟩
  refine lv_aload_n hx hb dX12_init_18 rfl (lv_at hl 0 rfl) ?_
  refine lv_aload_n hx hb dX12_init_19 rfl (lv_at hl 3 rfl) ?_
  refine va_putF (ci := 7) (v := .ref ax) (ty := (.object "FormulaVoice$Node")) (C := RX12) (T := TX12) (N := 5) hx hb hts in_X12 tyX12 tyX12_ok nmX12 hown hK hP hD hS 0 rfl (hcl 7 _ rfl) 4 (by decide) (hts _ q206) (fun _ h9 => h9) rfl hin rfl (by decide +kernel) rfl rfl (Nat.le_of_ble_eq_true rfl) dX12_init_20 (fun H2 locs2 hP2 hD2 hS2 => ?_)
  have hP : va_P D cl [(x, .inr (7, [.int n, .int k, .int (1 + sx), .int (1 + dx), .ref ax]))] H2 := hP2
  have hD : va_D (fun z => z = x ∨ s.heap.size ≤ z) [(x, .inr (7, [.int n, .int k, .int (1 + sx), .int (1 + dx), .ref ax]))] := hD2
  exact W.vret hx hb hr (fun t1 ht hW => ⟨rfl, by rw [ht]; exact hP, hS2.F ht⟩) hS2.2.2 dX12_init_23 hlocks
theorem jn_root_X13 (hcl : cx_clok cl) (x sz : Nat) (n k : Int32) (ax kx : Nat) (fx : List Value) (sx dx : Int32) (hkx : kx ≤ 9) (hsx : fx[2]? = some (.int sx)) (hdx : fx[3]? = some (.int dx)) : Met l yX12_init (ws_ yX12_init cX12_init 4 none) { frames := 2, cells := 0, slots := 0, locals := 80 } (fun a U => a = [.ref x, .int n, .int k, .ref ax].toArray ∧ U.heap.size = sz ∧ va_P D cl [(x, .inr (8, [.int 0, .int 0, .int 0, .int 0, .null]))] U.heap ∧ va_K D cl [] U ∧ va_P D cl [(ax, .inr (cx_ci kx, fx))] U.heap) (fun _ st o t => o = .returned none ∧ va_P D cl [(x, .inr (8, [.int n, .int k, .int (1 + sx), .int (1 + dx), .ref ax]))] t.heap ∧ va_F (fun z => z = x ∨ sz ≤ z) st t) 0 0 (fun z => z = x ∨ sz ≤ z) := by
  refine Met.ofW (cc := cX12_init) (maxL := 4) (ret := none) (by decide) rfl ?_
  intro p e s m args below meth c s₁ B hml hv
  obtain ⟨rfl, hsz, hP, hK, hPx⟩ := hv
  subst hsz
  have hin := (name_of_methodNamed B.named B.method).1
  
  have hx := B.exec
  have hb := B.bytes
  have hr := B.returns
  have hts := atoms_spec (ws := ws_ yX12_init cX12_init 4 none) B.pre
  have hts : ∀ w ∈ lw_all, w.before _ s = true := fun w h => hts w (List.mem_cons_of_mem _ h)
  have hown : s.vm.findClass RX12 = some m.cls := findClass_of_methodNamed B.named
  have hlocks := B.notSynchronized
  have hl := lv_entry ([.ref x, .int n, .int k, .ref ax]) (n := 4) (Nat.le_of_ble_eq_true rfl)
  rw [lg_entry_eq]
  generalize (lg_sl ([.ref x, .int n, .int k, .ref ax]) ++ List.replicate (4 - (lg_sl ([.ref x, .int n, .int k, .ref ax])).length) Slot.unset).toArray = ls at hl ⊢
  have hl : lv_has ls 4 [(0, .ref x), (1, .int n), (2, .int k), (3, .ref ax)] := hl
  refine lv_aload_n hx hb dX12_init_0 rfl (lv_at hl 0 rfl) ?_
  refine lv_iload_n hx hb dX12_init_1 rfl (lv_at hl 1 rfl) ?_
  refine lv_iload_n hx hb dX12_init_2 rfl (lv_at hl 2 rfl) ?_
  refine lv_iconst hx hb dX12_init_3 rfl ?_
  refine lv_aload_n hx hb dX12_init_4 rfl (lv_at hl 3 rfl) ?_
  refine jn_get_size hcl hx hb hts hown hK hkx hPx hsx q137 dX12_init_5 ?_
  refine lv_iadd hx hb dX12_init_8 ?_
  refine lv_iconst hx hb dX12_init_9 rfl ?_
  refine lv_aload_n hx hb dX12_init_10 rfl (lv_at hl 3 rfl) ?_
  refine jn_get_depth hcl hx hb hts hown hK hkx hPx hdx q140 dX12_init_11 ?_
  refine lv_iadd hx hb dX12_init_14 ?_
  rw [show Int32.ofInt 1 = (1 : Int32) by decide]
  refine am_callR (va_runI (own := RX12) (n := 4) (Ts := lw_all) (b := x) (As := [.int n, .int k, .int (1 + sx), .int (1 + dx)]) (rest := []) ⟨hx, hb, hml, hown, hts⟩ (jn_node_X13 hcl x s.heap.size n k (1 + sx) (1 + dx)) (cwI 4 hts (lw_meth q123) rfl rfl rfl (hts _ q77) (hts _ q205) (hts _ q122) rfl ⟨by decide, by decide, by decide +kernel⟩ ⟨Nat.le_of_ble_eq_true rfl, Nat.le_of_ble_eq_true rfl⟩) ⟨fun a U gg mk q => ⟨q.1, q.2.1, q.2.2.1, va_K.moved (u := U) (U := U.calling gg mk a) (Vm.Alike.refl U.vm) q.2.2.2⟩, fun U hU hW => ⟨rfl, by rw [hU], by rw [hU]; exact hP, va_K.moved hW.alike hK⟩⟩ rfl rfl hl.1 rfl (lv_room (Nat.le_of_ble_eq_true rfl)) dX12_init_15 ⟨Nat.le_of_ble_eq_true rfl, Nat.le_of_ble_eq_true rfl⟩) (fun v st₀ t L h0 hWm hq hL => ?_)
  obtain ⟨hv, hP1, hF1, hF2⟩ := hq
  cases hv
  rw [h0] at hF1 hF2
  have hS : va_S (fun z => z = x ∨ s.heap.size ≤ z) s.heap t.heap ([] ++ L) := ⟨hF1, hF2, fun z hz => by rw [List.nil_append] at hz; exact hL z hz⟩
  generalize [] ++ L = L1 at hS ⊢
  have hP : va_P D cl [(x, .inr (8, [.int n, .int k, .int (1 + sx), .int (1 + dx), .null]))] t.heap := hP1
  have hD : va_D (fun z => z = x ∨ s.heap.size ≤ z) [(x, .inr (8, [.int n, .int k, .int (1 + sx), .int (1 + dx), .null]))] := ⟨fun i j a b ha hb _ => by
      have h1 : i < 1 := (List.getElem?_eq_some_iff.mp ha).1
      have h2 : j < 1 := (List.getElem?_eq_some_iff.mp hb).1
      omega, fun k q hk => by
      have h1 : k < 1 := (List.getElem?_eq_some_iff.mp hk).1
      have h2 : k = 0 := by omega
      subst h2
      cases hk
      exact .inl rfl⟩
  refine lv_aload_n hx hb dX12_init_18 rfl (lv_at hl 0 rfl) ?_
  refine lv_aload_n hx hb dX12_init_19 rfl (lv_at hl 3 rfl) ?_
  refine va_putF (ci := 8) (v := .ref ax) (ty := (.object "FormulaVoice$Node")) (C := RX13) (T := TX13) (N := 5) hx hb hts in_X13 tyX13 tyX13_ok nmX13 hown hK hP hD hS 0 rfl (hcl 8 _ rfl) 4 (by decide) (hts _ q206) (fun _ h9 => h9) rfl hin rfl (by decide +kernel) rfl rfl (Nat.le_of_ble_eq_true rfl) dX12_init_20 (fun H2 locs2 hP2 hD2 hS2 => ?_)
  have hP : va_P D cl [(x, .inr (8, [.int n, .int k, .int (1 + sx), .int (1 + dx), .ref ax]))] H2 := hP2
  have hD : va_D (fun z => z = x ∨ s.heap.size ≤ z) [(x, .inr (8, [.int n, .int k, .int (1 + sx), .int (1 + dx), .ref ax]))] := hD2
  exact W.vret hx hb hr (fun t1 ht hW => ⟨rfl, by rw [ht]; exact hP, hS2.F ht⟩) hS2.2.2 dX12_init_23 hlocks
theorem jn_root_X14 (hcl : cx_clok cl) (x sz : Nat) (n k : Int32) (ax kx : Nat) (fx : List Value) (sx dx : Int32) (hkx : kx ≤ 9) (hsx : fx[2]? = some (.int sx)) (hdx : fx[3]? = some (.int dx)) : Met l yX12_init (ws_ yX12_init cX12_init 4 none) { frames := 2, cells := 0, slots := 0, locals := 80 } (fun a U => a = [.ref x, .int n, .int k, .ref ax].toArray ∧ U.heap.size = sz ∧ va_P D cl [(x, .inr (9, [.int 0, .int 0, .int 0, .int 0, .null, .int 0]))] U.heap ∧ va_K D cl [] U ∧ va_P D cl [(ax, .inr (cx_ci kx, fx))] U.heap) (fun _ st o t => o = .returned none ∧ va_P D cl [(x, .inr (9, [.int n, .int k, .int (1 + sx), .int (1 + dx), .ref ax, .int 0]))] t.heap ∧ va_F (fun z => z = x ∨ sz ≤ z) st t) 0 0 (fun z => z = x ∨ sz ≤ z) := by
  refine Met.ofW (cc := cX12_init) (maxL := 4) (ret := none) (by decide) rfl ?_
  intro p e s m args below meth c s₁ B hml hv
  obtain ⟨rfl, hsz, hP, hK, hPx⟩ := hv
  subst hsz
  have hin := (name_of_methodNamed B.named B.method).1
  
  have hx := B.exec
  have hb := B.bytes
  have hr := B.returns
  have hts := atoms_spec (ws := ws_ yX12_init cX12_init 4 none) B.pre
  have hts : ∀ w ∈ lw_all, w.before _ s = true := fun w h => hts w (List.mem_cons_of_mem _ h)
  have hown : s.vm.findClass RX12 = some m.cls := findClass_of_methodNamed B.named
  have hlocks := B.notSynchronized
  have hl := lv_entry ([.ref x, .int n, .int k, .ref ax]) (n := 4) (Nat.le_of_ble_eq_true rfl)
  rw [lg_entry_eq]
  generalize (lg_sl ([.ref x, .int n, .int k, .ref ax]) ++ List.replicate (4 - (lg_sl ([.ref x, .int n, .int k, .ref ax])).length) Slot.unset).toArray = ls at hl ⊢
  have hl : lv_has ls 4 [(0, .ref x), (1, .int n), (2, .int k), (3, .ref ax)] := hl
  refine lv_aload_n hx hb dX12_init_0 rfl (lv_at hl 0 rfl) ?_
  refine lv_iload_n hx hb dX12_init_1 rfl (lv_at hl 1 rfl) ?_
  refine lv_iload_n hx hb dX12_init_2 rfl (lv_at hl 2 rfl) ?_
  refine lv_iconst hx hb dX12_init_3 rfl ?_
  refine lv_aload_n hx hb dX12_init_4 rfl (lv_at hl 3 rfl) ?_
  refine jn_get_size hcl hx hb hts hown hK hkx hPx hsx q137 dX12_init_5 ?_
  refine lv_iadd hx hb dX12_init_8 ?_
  refine lv_iconst hx hb dX12_init_9 rfl ?_
  refine lv_aload_n hx hb dX12_init_10 rfl (lv_at hl 3 rfl) ?_
  refine jn_get_depth hcl hx hb hts hown hK hkx hPx hdx q140 dX12_init_11 ?_
  refine lv_iadd hx hb dX12_init_14 ?_
  rw [show Int32.ofInt 1 = (1 : Int32) by decide]
  refine am_callR (va_runI (own := RX12) (n := 4) (Ts := lw_all) (b := x) (As := [.int n, .int k, .int (1 + sx), .int (1 + dx)]) (rest := []) ⟨hx, hb, hml, hown, hts⟩ (jn_node_X14 hcl x s.heap.size n k (1 + sx) (1 + dx)) (cwI 4 hts (lw_meth q123) rfl rfl rfl (hts _ q77) (hts _ q205) (hts _ q122) rfl ⟨by decide, by decide, by decide +kernel⟩ ⟨Nat.le_of_ble_eq_true rfl, Nat.le_of_ble_eq_true rfl⟩) ⟨fun a U gg mk q => ⟨q.1, q.2.1, q.2.2.1, va_K.moved (u := U) (U := U.calling gg mk a) (Vm.Alike.refl U.vm) q.2.2.2⟩, fun U hU hW => ⟨rfl, by rw [hU], by rw [hU]; exact hP, va_K.moved hW.alike hK⟩⟩ rfl rfl hl.1 rfl (lv_room (Nat.le_of_ble_eq_true rfl)) dX12_init_15 ⟨Nat.le_of_ble_eq_true rfl, Nat.le_of_ble_eq_true rfl⟩) (fun v st₀ t L h0 hWm hq hL => ?_)
  obtain ⟨hv, hP1, hF1, hF2⟩ := hq
  cases hv
  rw [h0] at hF1 hF2
  have hS : va_S (fun z => z = x ∨ s.heap.size ≤ z) s.heap t.heap ([] ++ L) := ⟨hF1, hF2, fun z hz => by rw [List.nil_append] at hz; exact hL z hz⟩
  generalize [] ++ L = L1 at hS ⊢
  have hP : va_P D cl [(x, .inr (9, [.int n, .int k, .int (1 + sx), .int (1 + dx), .null, .int 0]))] t.heap := hP1
  have hD : va_D (fun z => z = x ∨ s.heap.size ≤ z) [(x, .inr (9, [.int n, .int k, .int (1 + sx), .int (1 + dx), .null, .int 0]))] := ⟨fun i j a b ha hb _ => by
      have h1 : i < 1 := (List.getElem?_eq_some_iff.mp ha).1
      have h2 : j < 1 := (List.getElem?_eq_some_iff.mp hb).1
      omega, fun k q hk => by
      have h1 : k < 1 := (List.getElem?_eq_some_iff.mp hk).1
      have h2 : k = 0 := by omega
      subst h2
      cases hk
      exact .inl rfl⟩
  refine lv_aload_n hx hb dX12_init_18 rfl (lv_at hl 0 rfl) ?_
  refine lv_aload_n hx hb dX12_init_19 rfl (lv_at hl 3 rfl) ?_
  refine va_putF (ci := 9) (v := .ref ax) (ty := (.object "FormulaVoice$Node")) (C := RX14) (T := TX14) (N := 6) hx hb hts in_X14 tyX14 tyX14_ok nmX14 hown hK hP hD hS 0 rfl (hcl 9 _ rfl) 4 (by decide) (hts _ q206) (fun _ h9 => h9) rfl hin rfl (by decide +kernel) rfl rfl (Nat.le_of_ble_eq_true rfl) dX12_init_20 (fun H2 locs2 hP2 hD2 hS2 => ?_)
  have hP : va_P D cl [(x, .inr (9, [.int n, .int k, .int (1 + sx), .int (1 + dx), .ref ax, .int 0]))] H2 := hP2
  have hD : va_D (fun z => z = x ∨ s.heap.size ≤ z) [(x, .inr (9, [.int n, .int k, .int (1 + sx), .int (1 + dx), .ref ax, .int 0]))] := hD2
  exact W.vret hx hb hr (fun t1 ht hW => ⟨rfl, by rw [ht]; exact hP, hS2.F ht⟩) hS2.2.2 dX12_init_23 hlocks
theorem jn_fenced (hcl : cx_clok cl) (x sz : Nat) (n : Int32) (ax kx : Nat) (fx : List Value) (sx dx : Int32) (hkx : kx ≤ 9) (hsx : fx[2]? = some (.int sx)) (hdx : fx[3]? = some (.int dx)) : Met l yX13_init (ws_ yX13_init cX13_init 3 none) { frames := 3, cells := 0, slots := 0, locals := 120 } (fun a U => a = [.ref x, .int n, .ref ax].toArray ∧ U.heap.size = sz ∧ va_P D cl [(x, .inr (8, [.int 0, .int 0, .int 0, .int 0, .null]))] U.heap ∧ va_K D cl [] U ∧ va_P D cl [(ax, .inr (cx_ci kx, fx))] U.heap) (fun _ st o t => o = .returned none ∧ va_P D cl [(x, .inr (8, [.int n, .int 8, .int (1 + sx), .int (1 + dx), .ref ax]))] t.heap ∧ va_F (fun z => z = x ∨ sz ≤ z) st t) 0 0 (fun z => z = x ∨ sz ≤ z) := by
  refine Met.ofW (cc := cX13_init) (maxL := 3) (ret := none) (by decide) rfl ?_
  intro p e s m args below meth c s₁ B hml hv
  obtain ⟨rfl, hsz, hP, hK, hPx⟩ := hv
  subst hsz
  have hin := (name_of_methodNamed B.named B.method).1
  
  have hx := B.exec
  have hb := B.bytes
  have hr := B.returns
  have hts := atoms_spec (ws := ws_ yX13_init cX13_init 3 none) B.pre
  have hts : ∀ w ∈ lw_all, w.before _ s = true := fun w h => hts w (List.mem_cons_of_mem _ h)
  have hown : s.vm.findClass RX13 = some m.cls := findClass_of_methodNamed B.named
  have hlocks := B.notSynchronized
  have hl := lv_entry ([.ref x, .int n, .ref ax]) (n := 3) (Nat.le_of_ble_eq_true rfl)
  rw [lg_entry_eq]
  generalize (lg_sl ([.ref x, .int n, .ref ax]) ++ List.replicate (3 - (lg_sl ([.ref x, .int n, .ref ax])).length) Slot.unset).toArray = ls at hl ⊢
  have hl : lv_has ls 3 [(0, .ref x), (1, .int n), (2, .ref ax)] := hl
  refine lv_aload_n hx hb dX13_init_0 rfl (lv_at hl 0 rfl) ?_
  refine lv_iload_n hx hb dX13_init_1 rfl (lv_at hl 1 rfl) ?_
  refine lv_bipush hx hb dX13_init_2 rfl ?_
  refine lv_aload_n hx hb dX13_init_4 rfl (lv_at hl 2 rfl) ?_
  refine am_callR (va_runI (own := RX13) (n := 3) (Ts := lw_all) (b := x) (As := [.int n, .int 8, .ref ax]) (rest := []) ⟨hx, hb, hml, hown, hts⟩ (jn_root_X13 hcl x s.heap.size n 8 ax kx fx sx dx hkx hsx hdx) (cwI 3 hts (lw_meth q204) rfl rfl rfl (hts _ q83) (hts _ q219) (hts _ q203) rfl ⟨by decide, by decide, by decide +kernel⟩ ⟨Nat.le_of_ble_eq_true rfl, Nat.le_of_ble_eq_true rfl⟩) ⟨fun a U gg mk q => ⟨q.1, q.2.1, q.2.2.1, va_K.moved (u := U) (U := U.calling gg mk a) (Vm.Alike.refl U.vm) q.2.2.2.1, q.2.2.2.2⟩, fun U hU hW => ⟨rfl, by rw [hU], by rw [hU]; exact hP, va_K.moved hW.alike hK, by rw [hU]; exact hPx⟩⟩ rfl rfl hl.1 rfl (lv_room (Nat.le_of_ble_eq_true rfl)) dX13_init_5 ⟨Nat.le_of_ble_eq_true rfl, Nat.le_of_ble_eq_true rfl⟩) (fun v st₀ t L h0 hWm hq hL => ?_)
  obtain ⟨hv, hP1, hF1, hF2⟩ := hq
  cases hv
  rw [h0] at hF1 hF2
  have hS : va_S (fun z => z = x ∨ s.heap.size ≤ z) s.heap t.heap ([] ++ L) := ⟨hF1, hF2, fun z hz => by rw [List.nil_append] at hz; exact hL z hz⟩
  generalize [] ++ L = L1 at hS ⊢
  have hP : va_P D cl [(x, .inr (8, [.int n, .int 8, .int (1 + sx), .int (1 + dx), .ref ax]))] t.heap := hP1
  have hD : va_D (fun z => z = x ∨ s.heap.size ≤ z) [(x, .inr (8, [.int n, .int 8, .int (1 + sx), .int (1 + dx), .ref ax]))] := ⟨fun i j a b ha hb _ => by
      have h1 : i < 1 := (List.getElem?_eq_some_iff.mp ha).1
      have h2 : j < 1 := (List.getElem?_eq_some_iff.mp hb).1
      omega, fun k q hk => by
      have h1 : k < 1 := (List.getElem?_eq_some_iff.mp hk).1
      have h2 : k = 0 := by omega
      subst h2
      cases hk
      exact .inl rfl⟩
  exact W.vret hx hb hr (fun t1 ht hW => ⟨rfl, by rw [ht]; exact hP, hS.F ht⟩) hS.2.2 dX13_init_8 hlocks
theorem jn_call (hcl : cx_clok cl) (x sz : Nat) (n v : Int32) (ax kx : Nat) (fx : List Value) (sx dx : Int32) (hkx : kx ≤ 9) (hsx : fx[2]? = some (.int sx)) (hdx : fx[3]? = some (.int dx)) : Met l yX14_init (ws_ yX14_init cX14_init 4 none) { frames := 3, cells := 0, slots := 0, locals := 120 } (fun a U => a = [.ref x, .int n, .int v, .ref ax].toArray ∧ U.heap.size = sz ∧ va_P D cl [(x, .inr (9, [.int 0, .int 0, .int 0, .int 0, .null, .int 0]))] U.heap ∧ va_K D cl [] U ∧ va_P D cl [(ax, .inr (cx_ci kx, fx))] U.heap) (fun _ st o t => o = .returned none ∧ va_P D cl [(x, .inr (9, [.int n, .int 9, .int (1 + sx), .int (1 + dx), .ref ax, .int v]))] t.heap ∧ va_F (fun z => z = x ∨ sz ≤ z) st t) 0 0 (fun z => z = x ∨ sz ≤ z) := by
  refine Met.ofW (cc := cX14_init) (maxL := 4) (ret := none) (by decide) rfl ?_
  intro p e s m args below meth c s₁ B hml hv
  obtain ⟨rfl, hsz, hP, hK, hPx⟩ := hv
  subst hsz
  have hin := (name_of_methodNamed B.named B.method).1
  
  have hx := B.exec
  have hb := B.bytes
  have hr := B.returns
  have hts := atoms_spec (ws := ws_ yX14_init cX14_init 4 none) B.pre
  have hts : ∀ w ∈ lw_all, w.before _ s = true := fun w h => hts w (List.mem_cons_of_mem _ h)
  have hown : s.vm.findClass RX14 = some m.cls := findClass_of_methodNamed B.named
  have hlocks := B.notSynchronized
  have hl := lv_entry ([.ref x, .int n, .int v, .ref ax]) (n := 4) (Nat.le_of_ble_eq_true rfl)
  rw [lg_entry_eq]
  generalize (lg_sl ([.ref x, .int n, .int v, .ref ax]) ++ List.replicate (4 - (lg_sl ([.ref x, .int n, .int v, .ref ax])).length) Slot.unset).toArray = ls at hl ⊢
  have hl : lv_has ls 4 [(0, .ref x), (1, .int n), (2, .int v), (3, .ref ax)] := hl
  refine lv_aload_n hx hb dX14_init_0 rfl (lv_at hl 0 rfl) ?_
  refine lv_iload_n hx hb dX14_init_1 rfl (lv_at hl 1 rfl) ?_
  refine lv_bipush hx hb dX14_init_2 rfl ?_
  refine lv_aload_n hx hb dX14_init_4 rfl (lv_at hl 3 rfl) ?_
  refine am_callR (va_runI (own := RX14) (n := 3) (Ts := lw_all) (b := x) (As := [.int n, .int 9, .ref ax]) (rest := []) ⟨hx, hb, hml, hown, hts⟩ (jn_root_X14 hcl x s.heap.size n 9 ax kx fx sx dx hkx hsx hdx) (cwI 3 hts (lw_meth q204) rfl rfl rfl (hts _ q83) (hts _ q231) (hts _ q203) rfl ⟨by decide, by decide, by decide +kernel⟩ ⟨Nat.le_of_ble_eq_true rfl, Nat.le_of_ble_eq_true rfl⟩) ⟨fun a U gg mk q => ⟨q.1, q.2.1, q.2.2.1, va_K.moved (u := U) (U := U.calling gg mk a) (Vm.Alike.refl U.vm) q.2.2.2.1, q.2.2.2.2⟩, fun U hU hW => ⟨rfl, by rw [hU], by rw [hU]; exact hP, va_K.moved hW.alike hK, by rw [hU]; exact hPx⟩⟩ rfl rfl hl.1 rfl (lv_room (Nat.le_of_ble_eq_true rfl)) dX14_init_5 ⟨Nat.le_of_ble_eq_true rfl, Nat.le_of_ble_eq_true rfl⟩) (fun v st₀ t L h0 hWm hq hL => ?_)
  obtain ⟨hv, hP1, hF1, hF2⟩ := hq
  cases hv
  rw [h0] at hF1 hF2
  have hS : va_S (fun z => z = x ∨ s.heap.size ≤ z) s.heap t.heap ([] ++ L) := ⟨hF1, hF2, fun z hz => by rw [List.nil_append] at hz; exact hL z hz⟩
  generalize [] ++ L = L1 at hS ⊢
  have hP : va_P D cl [(x, .inr (9, [.int n, .int 9, .int (1 + sx), .int (1 + dx), .ref ax, .int 0]))] t.heap := hP1
  have hD : va_D (fun z => z = x ∨ s.heap.size ≤ z) [(x, .inr (9, [.int n, .int 9, .int (1 + sx), .int (1 + dx), .ref ax, .int 0]))] := ⟨fun i j a b ha hb _ => by
      have h1 : i < 1 := (List.getElem?_eq_some_iff.mp ha).1
      have h2 : j < 1 := (List.getElem?_eq_some_iff.mp hb).1
      omega, fun k q hk => by
      have h1 : k < 1 := (List.getElem?_eq_some_iff.mp hk).1
      have h2 : k = 0 := by omega
      subst h2
      cases hk
      exact .inl rfl⟩
  refine lv_aload_n hx hb dX14_init_8 rfl (lv_at hl 0 rfl) ?_
  refine lv_iload_n hx hb dX14_init_9 rfl (lv_at hl 2 rfl) ?_
  refine va_putF (ci := 9) (v := .int v) (ty := .int) (C := RX14) (T := TX14) (N := 6) hx hb hts in_X14 tyX14 tyX14_ok nmX14 hown hK hP hD hS 0 rfl (hcl 9 _ rfl) 5 (by decide) (hts _ q232) (fun _ h9 => h9) rfl hin rfl (by decide +kernel) rfl rfl (Nat.le_of_ble_eq_true rfl) dX14_init_10 (fun H2 locs2 hP2 hD2 hS2 => ?_)
  have hP : va_P D cl [(x, .inr (9, [.int n, .int 9, .int (1 + sx), .int (1 + dx), .ref ax, .int v]))] H2 := hP2
  have hD : va_D (fun z => z = x ∨ s.heap.size ≤ z) [(x, .inr (9, [.int n, .int 9, .int (1 + sx), .int (1 + dx), .ref ax, .int v]))] := hD2
  exact W.vret hx hb hr (fun t1 ht hW => ⟨rfl, by rw [ht]; exact hP, hS2.F ht⟩) hS2.2.2 dX14_init_13 hlocks
theorem jn_made_0 (hcl : cx_clok cl) (sz : Nat) (n v : Int32) : Met l yX1_made (ws_ yX1_made cX1_made 5 (some (.object "FormulaVoice$Node"))) { frames := 4, cells := 1, slots := 5, locals := 160 } (fun a U => a = [.int n, .int (nI 0), .null, .null, .int v].toArray ∧ U.heap.size = sz ∧ va_K D cl [] U) (fun _ st o t => ∃ q, o = .returned (some (.ref q)) ∧ sz ≤ q ∧ va_P D cl [(q, .inr (3, [.int n, .int 0, .int 1, .int 1, .int v]))] t.heap ∧ va_F (fun z => sz ≤ z) st t) 1 5 (fun z => sz ≤ z) := by
  refine Met.ofW (cc := cX1_made) (maxL := 5) (ret := (some (.object "FormulaVoice$Node"))) (by decide) rfl ?_
  intro p e s m args below meth c s₁ B hml hv
  obtain ⟨rfl, hsz, hK⟩ := hv
  subst hsz
  have hP : va_P D cl [] s.heap := fun k q h => by cases h
  have hD : va_D (fun z => s.heap.size ≤ z) [] := ⟨fun i j a b h => (by cases h), fun k q h => (by cases h)⟩
  have hx := B.exec
  have hb := B.bytes
  have hr := B.returns
  have hts := atoms_spec (ws := ws_ yX1_made cX1_made 5 (some (.object "FormulaVoice$Node"))) B.pre
  have hts : ∀ w ∈ lw_all, w.before _ s = true := fun w h => hts w (List.mem_cons_of_mem _ h)
  have hown : s.vm.findClass RX1 = some m.cls := findClass_of_methodNamed B.named
  have hlocks := B.notSynchronized
  have hl := lv_entry ([.int n, .int (nI 0), .null, .null, .int v]) (n := 5) (Nat.le_of_ble_eq_true rfl)
  rw [lg_entry_eq]
  generalize (lg_sl ([.int n, .int (nI 0), .null, .null, .int v]) ++ List.replicate (5 - (lg_sl ([.int n, .int (nI 0), .null, .null, .int v])).length) Slot.unset).toArray = ls at hl ⊢
  have hl : lv_has ls 5 [(0, .int n), (1, .int (nI 0)), (2, .null), (3, .null), (4, .int v)] := hl
  refine lv_iload_n hx hb dX1_made_0 rfl (lv_at hl 1 rfl) ?_
  refine lv_if_ne hx hb dX1_made_1 rfl (fun h => False.elim (by revert h; decide)) (fun _ => ?_)
  refine va_new hx hb hts in_X8 tyX8 tyX8_ok hown (hts _ q116) (hts _ q117) (hts _ q78) hK hP hD va_S.rf (fun q h => h) (hcl 3 _ rfl) (fs := [.int 0, .int 0, .int 0, .int 0, .int 0]) ?_ (Nat.le_of_ble_eq_true rfl) (Nat.le_of_ble_eq_true rfl) dX1_made_4 (fun q H1 hP1 hD1 hS1 => ?_)
  · intro j hj
    match j, hj with
    | 0, _ => rfl
    | 1, _ => rfl
    | 2, _ => rfl
    | 3, _ => rfl
    | 4, _ => rfl
  have hq1 : s.heap.size ≤ q := hD1.2 0 _ rfl
  refine lv_dup hx hb dX1_made_7 rfl ?_
  refine lv_iload_n hx hb dX1_made_8 rfl (lv_at hl 0 rfl) ?_
  refine lv_iconst hx hb dX1_made_9 rfl ?_
  refine lv_iload hx hb dX1_made_10 (lv_at hl 4 rfl) ?_
  refine am_callR (va_runI (own := RX1) (n := 3) (Ts := lw_all) (b := q) (As := [.int n, .int 0, .int v]) (rest := [.ref q]) ⟨hx, hb, hml, hown, hts⟩ (jn_letter_X8 hcl q H1.size n 0 v) (cwI 3 hts (lw_meth q120) rfl rfl rfl (hts _ q78) (hts _ q118) (hts _ q119) rfl ⟨by decide, by decide, by decide +kernel⟩ ⟨Nat.le_of_ble_eq_true rfl, Nat.le_of_ble_eq_true rfl⟩) ⟨fun a U gg mk q => ⟨q.1, q.2.1, q.2.2.1, va_K.moved (u := U) (U := U.calling gg mk a) (Vm.Alike.refl U.vm) q.2.2.2⟩, fun U hU hW => ⟨rfl, by rw [hU], by rw [hU]; exact hP1, va_K.moved hW.alike hK⟩⟩ rfl rfl hl.1 rfl (lv_room (Nat.le_of_ble_eq_true rfl)) dX1_made_12 ⟨Nat.le_of_ble_eq_true rfl, Nat.le_of_ble_eq_true rfl⟩) (fun v st₀ t L h0 hWm hq hL => ?_)
  obtain ⟨hv, hP2, hF1, hF2⟩ := hq
  cases hv
  rw [h0] at hF1 hF2
  refine W.aret hx hb hr (.inl ⟨_, rfl⟩) (.inr ⟨_, rfl⟩) (fun t1 ht hW => ⟨q, rfl, hq1, by rw [ht]; exact hP2, by rw [ht]; exact Nat.le_trans hS1.1 hF1, fun z h1 h2 => ?_⟩) (fun z hz => ?_) dX1_made_15 hlocks
  · rcases List.mem_append.mp hz with h | h
    · cases h
    · exact (hL z h).elim (fun e => e ▸ hq1) (fun e => Nat.le_trans hS1.1 e)
  · rw [ht, hF2 z (Nat.lt_of_lt_of_le h1 hS1.1) (fun e => e.elim (fun e => h2 (e ▸ hq1)) (fun e => absurd (Nat.lt_of_lt_of_le h1 hS1.1) (Nat.not_lt.mpr e)))]
    exact hS1.2.1 z h1 h2
theorem jn_made_1 (hcl : cx_clok cl) (sz : Nat) (n v : Int32) : Met l yX1_made (ws_ yX1_made cX1_made 5 (some (.object "FormulaVoice$Node"))) { frames := 4, cells := 1, slots := 5, locals := 160 } (fun a U => a = [.int n, .int (nI 1), .null, .null, .int v].toArray ∧ U.heap.size = sz ∧ va_K D cl [] U) (fun _ st o t => ∃ q, o = .returned (some (.ref q)) ∧ sz ≤ q ∧ va_P D cl [(q, .inr (4, [.int n, .int 1, .int 1, .int 1, .int v]))] t.heap ∧ va_F (fun z => sz ≤ z) st t) 1 5 (fun z => sz ≤ z) := by
  refine Met.ofW (cc := cX1_made) (maxL := 5) (ret := (some (.object "FormulaVoice$Node"))) (by decide) rfl ?_
  intro p e s m args below meth c s₁ B hml hv
  obtain ⟨rfl, hsz, hK⟩ := hv
  subst hsz
  have hP : va_P D cl [] s.heap := fun k q h => by cases h
  have hD : va_D (fun z => s.heap.size ≤ z) [] := ⟨fun i j a b h => (by cases h), fun k q h => (by cases h)⟩
  have hx := B.exec
  have hb := B.bytes
  have hr := B.returns
  have hts := atoms_spec (ws := ws_ yX1_made cX1_made 5 (some (.object "FormulaVoice$Node"))) B.pre
  have hts : ∀ w ∈ lw_all, w.before _ s = true := fun w h => hts w (List.mem_cons_of_mem _ h)
  have hown : s.vm.findClass RX1 = some m.cls := findClass_of_methodNamed B.named
  have hlocks := B.notSynchronized
  have hl := lv_entry ([.int n, .int (nI 1), .null, .null, .int v]) (n := 5) (Nat.le_of_ble_eq_true rfl)
  rw [lg_entry_eq]
  generalize (lg_sl ([.int n, .int (nI 1), .null, .null, .int v]) ++ List.replicate (5 - (lg_sl ([.int n, .int (nI 1), .null, .null, .int v])).length) Slot.unset).toArray = ls at hl ⊢
  have hl : lv_has ls 5 [(0, .int n), (1, .int (nI 1)), (2, .null), (3, .null), (4, .int v)] := hl
  refine lv_iload_n hx hb dX1_made_0 rfl (lv_at hl 1 rfl) ?_
  refine lv_if_ne hx hb dX1_made_1 rfl (fun _ => ?_) (fun h => False.elim (by revert h; decide))
  refine lv_iload_n hx hb dX1_made_16 rfl (lv_at hl 1 rfl) ?_
  refine lv_iconst hx hb dX1_made_17 rfl ?_
  refine lv_icmp_ne hx hb dX1_made_18 rfl (fun h => False.elim (by revert h; decide)) (fun _ => ?_)
  refine va_new hx hb hts in_X9 tyX9 tyX9_ok hown (hts _ q155) (hts _ q156) (hts _ q79) hK hP hD va_S.rf (fun q h => h) (hcl 4 _ rfl) (fs := [.int 0, .int 0, .int 0, .int 0, .int 0]) ?_ (Nat.le_of_ble_eq_true rfl) (Nat.le_of_ble_eq_true rfl) dX1_made_21 (fun q H1 hP1 hD1 hS1 => ?_)
  · intro j hj
    match j, hj with
    | 0, _ => rfl
    | 1, _ => rfl
    | 2, _ => rfl
    | 3, _ => rfl
    | 4, _ => rfl
  have hq1 : s.heap.size ≤ q := hD1.2 0 _ rfl
  refine lv_dup hx hb dX1_made_24 rfl ?_
  refine lv_iload_n hx hb dX1_made_25 rfl (lv_at hl 0 rfl) ?_
  refine lv_iload hx hb dX1_made_26 (lv_at hl 4 rfl) ?_
  refine am_callR (va_runI (own := RX1) (n := 2) (Ts := lw_all) (b := q) (As := [.int n, .int v]) (rest := [.ref q]) ⟨hx, hb, hml, hown, hts⟩ (jn_digits hcl q H1.size n v) (cwI 2 hts (lw_meth q159) rfl rfl rfl (hts _ q79) (hts _ q157) (hts _ q158) rfl ⟨by decide, by decide, by decide +kernel⟩ ⟨Nat.le_of_ble_eq_true rfl, Nat.le_of_ble_eq_true rfl⟩) ⟨fun a U gg mk q => ⟨q.1, q.2.1, q.2.2.1, va_K.moved (u := U) (U := U.calling gg mk a) (Vm.Alike.refl U.vm) q.2.2.2⟩, fun U hU hW => ⟨rfl, by rw [hU], by rw [hU]; exact hP1, va_K.moved hW.alike hK⟩⟩ rfl rfl hl.1 rfl (lv_room (Nat.le_of_ble_eq_true rfl)) dX1_made_28 ⟨Nat.le_of_ble_eq_true rfl, Nat.le_of_ble_eq_true rfl⟩) (fun v st₀ t L h0 hWm hq hL => ?_)
  obtain ⟨hv, hP2, hF1, hF2⟩ := hq
  cases hv
  rw [h0] at hF1 hF2
  refine W.aret hx hb hr (.inl ⟨_, rfl⟩) (.inr ⟨_, rfl⟩) (fun t1 ht hW => ⟨q, rfl, hq1, by rw [ht]; exact hP2, by rw [ht]; exact Nat.le_trans hS1.1 hF1, fun z h1 h2 => ?_⟩) (fun z hz => ?_) dX1_made_31 hlocks
  · rcases List.mem_append.mp hz with h | h
    · cases h
    · exact (hL z h).elim (fun e => e ▸ hq1) (fun e => Nat.le_trans hS1.1 e)
  · rw [ht, hF2 z (Nat.lt_of_lt_of_le h1 hS1.1) (fun e => e.elim (fun e => h2 (e ▸ hq1)) (fun e => absurd (Nat.lt_of_lt_of_le h1 hS1.1) (Nat.not_lt.mpr e)))]
    exact hS1.2.1 z h1 h2
theorem jn_made_2 (hcl : cx_clok cl) (sz : Nat) (n v : Int32) (ax kx : Nat) (fx : List Value) (sx dx : Int32) (hkx : kx ≤ 9) (hsx : fx[2]? = some (.int sx)) (hdx : fx[3]? = some (.int dx)) (ay ky : Nat) (fy : List Value) (sy dy : Int32) (hky : ky ≤ 9) (hsy : fy[2]? = some (.int sy)) (hdy : fy[3]? = some (.int dy)) : Met l yX1_made (ws_ yX1_made cX1_made 5 (some (.object "FormulaVoice$Node"))) { frames := 4, cells := 1, slots := 6, locals := 160 } (fun a U => a = [.int n, .int (nI 2), .ref ax, .ref ay, .int v].toArray ∧ U.heap.size = sz ∧ va_K D cl [] U ∧ va_P D cl [(ax, .inr (cx_ci kx, fx))] U.heap ∧ va_P D cl [(ay, .inr (cx_ci ky, fy))] U.heap) (fun _ st o t => ∃ q, o = .returned (some (.ref q)) ∧ sz ≤ q ∧ va_P D cl [(q, .inr (5, [.int n, .int (nI 2), .int (1 + sx + sy), .int (1 + (if dx < dy then dy else dx)), .ref ax, .ref ay]))] t.heap ∧ va_F (fun z => sz ≤ z) st t) 1 6 (fun z => sz ≤ z) := by
  refine Met.ofW (cc := cX1_made) (maxL := 5) (ret := (some (.object "FormulaVoice$Node"))) (by decide) rfl ?_
  intro p e s m args below meth c s₁ B hml hv
  obtain ⟨rfl, hsz, hK, hPx, hPy⟩ := hv
  subst hsz
  have hP : va_P D cl [] s.heap := fun k q h => by cases h
  have hD : va_D (fun z => s.heap.size ≤ z) [] := ⟨fun i j a b h => (by cases h), fun k q h => (by cases h)⟩
  have hx := B.exec
  have hb := B.bytes
  have hr := B.returns
  have hts := atoms_spec (ws := ws_ yX1_made cX1_made 5 (some (.object "FormulaVoice$Node"))) B.pre
  have hts : ∀ w ∈ lw_all, w.before _ s = true := fun w h => hts w (List.mem_cons_of_mem _ h)
  have hown : s.vm.findClass RX1 = some m.cls := findClass_of_methodNamed B.named
  have hlocks := B.notSynchronized
  have hl := lv_entry ([.int n, .int (nI 2), .ref ax, .ref ay, .int v]) (n := 5) (Nat.le_of_ble_eq_true rfl)
  rw [lg_entry_eq]
  generalize (lg_sl ([.int n, .int (nI 2), .ref ax, .ref ay, .int v]) ++ List.replicate (5 - (lg_sl ([.int n, .int (nI 2), .ref ax, .ref ay, .int v])).length) Slot.unset).toArray = ls at hl ⊢
  have hl : lv_has ls 5 [(0, .int n), (1, .int (nI 2)), (2, .ref ax), (3, .ref ay), (4, .int v)] := hl
  refine lv_iload_n hx hb dX1_made_0 rfl (lv_at hl 1 rfl) ?_
  refine lv_if_ne hx hb dX1_made_1 rfl (fun _ => ?_) (fun h => False.elim (by revert h; decide))
  refine lv_iload_n hx hb dX1_made_16 rfl (lv_at hl 1 rfl) ?_
  refine lv_iconst hx hb dX1_made_17 rfl ?_
  refine lv_icmp_ne hx hb dX1_made_18 rfl (fun _ => ?_) (fun h => False.elim (by revert h; decide))
  refine lv_iload_n hx hb dX1_made_32 rfl (lv_at hl 1 rfl) ?_
  refine lv_iconst hx hb dX1_made_33 rfl ?_
  refine lv_icmp_ge hx hb dX1_made_34 rfl (fun h => False.elim (by revert h; decide)) (fun _ => ?_)
  refine va_new hx hb hts in_X10 tyX10 tyX10_ok hown (hts _ q167) (hts _ q168) (hts _ q80) hK hP hD va_S.rf (fun q h => h) (hcl 5 _ rfl) (fs := [.int 0, .int 0, .int 0, .int 0, .null, .null]) ?_ (Nat.le_of_ble_eq_true rfl) (Nat.le_of_ble_eq_true rfl) dX1_made_37 (fun q H1 hP1 hD1 hS1 => ?_)
  · intro j hj
    match j, hj with
    | 0, _ => rfl
    | 1, _ => rfl
    | 2, _ => rfl
    | 3, _ => rfl
    | 4, _ => rfl
    | 5, _ => rfl
  have hq1 : s.heap.size ≤ q := hD1.2 0 _ rfl
  have hPx : va_P D cl [(ax, .inr (cx_ci kx, fx))] H1 := hPx.kept (fun i z hz => by
    have h1 : i < 1 := (List.getElem?_eq_some_iff.mp hz).1
    have h2 : i = 0 := by omega
    subst h2
    cases hz
    have hlt := (hPx 0 _ rfl).lt
    exact hS1.2.1 _ hlt (Nat.not_le.mpr hlt))
  have hPy : va_P D cl [(ay, .inr (cx_ci ky, fy))] H1 := hPy.kept (fun i z hz => by
    have h1 : i < 1 := (List.getElem?_eq_some_iff.mp hz).1
    have h2 : i = 0 := by omega
    subst h2
    cases hz
    have hlt := (hPy 0 _ rfl).lt
    exact hS1.2.1 _ hlt (Nat.not_le.mpr hlt))
  refine lv_dup hx hb dX1_made_40 rfl ?_
  refine lv_iload_n hx hb dX1_made_41 rfl (lv_at hl 0 rfl) ?_
  refine lv_iload_n hx hb dX1_made_42 rfl (lv_at hl 1 rfl) ?_
  refine lv_aload_n hx hb dX1_made_43 rfl (lv_at hl 2 rfl) ?_
  refine lv_aload_n hx hb dX1_made_44 rfl (lv_at hl 3 rfl) ?_
  refine am_callR (va_runI (own := RX1) (n := 4) (Ts := lw_all) (b := q) (As := [.int n, .int (nI 2), .ref ax, .ref ay]) (rest := [.ref q]) ⟨hx, hb, hml, hown, hts⟩ (jn_two_X10 hcl q H1.size n (nI 2) ax kx fx sx dx hkx hsx hdx ay ky fy sy dy hky hsy hdy) (cwI 4 hts (lw_meth q171) rfl rfl rfl (hts _ q80) (hts _ q169) (hts _ q170) rfl ⟨by decide, by decide, by decide +kernel⟩ ⟨Nat.le_of_ble_eq_true rfl, Nat.le_of_ble_eq_true rfl⟩) ⟨fun a U gg mk q => ⟨q.1, q.2.1, q.2.2.1, va_K.moved (u := U) (U := U.calling gg mk a) (Vm.Alike.refl U.vm) q.2.2.2.1, q.2.2.2.2⟩, fun U hU hW => ⟨rfl, by rw [hU], by rw [hU]; exact hP1, va_K.moved hW.alike hK, by rw [hU]; exact hPx, by rw [hU]; exact hPy⟩⟩ rfl rfl hl.1 rfl (lv_room (Nat.le_of_ble_eq_true rfl)) dX1_made_45 ⟨Nat.le_of_ble_eq_true rfl, Nat.le_of_ble_eq_true rfl⟩) (fun v st₀ t L h0 hWm hq hL => ?_)
  obtain ⟨hv, hP2, hF1, hF2⟩ := hq
  cases hv
  rw [h0] at hF1 hF2
  refine W.aret hx hb hr (.inl ⟨_, rfl⟩) (.inr ⟨_, rfl⟩) (fun t1 ht hW => ⟨q, rfl, hq1, by rw [ht]; exact hP2, by rw [ht]; exact Nat.le_trans hS1.1 hF1, fun z h1 h2 => ?_⟩) (fun z hz => ?_) dX1_made_48 hlocks
  · rcases List.mem_append.mp hz with h | h
    · cases h
    · exact (hL z h).elim (fun e => e ▸ hq1) (fun e => Nat.le_trans hS1.1 e)
  · rw [ht, hF2 z (Nat.lt_of_lt_of_le h1 hS1.1) (fun e => e.elim (fun e => h2 (e ▸ hq1)) (fun e => absurd (Nat.lt_of_lt_of_le h1 hS1.1) (Nat.not_lt.mpr e)))]
    exact hS1.2.1 z h1 h2
theorem jn_made_3 (hcl : cx_clok cl) (sz : Nat) (n v : Int32) (ax kx : Nat) (fx : List Value) (sx dx : Int32) (hkx : kx ≤ 9) (hsx : fx[2]? = some (.int sx)) (hdx : fx[3]? = some (.int dx)) (ay ky : Nat) (fy : List Value) (sy dy : Int32) (hky : ky ≤ 9) (hsy : fy[2]? = some (.int sy)) (hdy : fy[3]? = some (.int dy)) : Met l yX1_made (ws_ yX1_made cX1_made 5 (some (.object "FormulaVoice$Node"))) { frames := 4, cells := 1, slots := 6, locals := 160 } (fun a U => a = [.int n, .int (nI 3), .ref ax, .ref ay, .int v].toArray ∧ U.heap.size = sz ∧ va_K D cl [] U ∧ va_P D cl [(ax, .inr (cx_ci kx, fx))] U.heap ∧ va_P D cl [(ay, .inr (cx_ci ky, fy))] U.heap) (fun _ st o t => ∃ q, o = .returned (some (.ref q)) ∧ sz ≤ q ∧ va_P D cl [(q, .inr (5, [.int n, .int (nI 3), .int (1 + sx + sy), .int (1 + (if dx < dy then dy else dx)), .ref ax, .ref ay]))] t.heap ∧ va_F (fun z => sz ≤ z) st t) 1 6 (fun z => sz ≤ z) := by
  refine Met.ofW (cc := cX1_made) (maxL := 5) (ret := (some (.object "FormulaVoice$Node"))) (by decide) rfl ?_
  intro p e s m args below meth c s₁ B hml hv
  obtain ⟨rfl, hsz, hK, hPx, hPy⟩ := hv
  subst hsz
  have hP : va_P D cl [] s.heap := fun k q h => by cases h
  have hD : va_D (fun z => s.heap.size ≤ z) [] := ⟨fun i j a b h => (by cases h), fun k q h => (by cases h)⟩
  have hx := B.exec
  have hb := B.bytes
  have hr := B.returns
  have hts := atoms_spec (ws := ws_ yX1_made cX1_made 5 (some (.object "FormulaVoice$Node"))) B.pre
  have hts : ∀ w ∈ lw_all, w.before _ s = true := fun w h => hts w (List.mem_cons_of_mem _ h)
  have hown : s.vm.findClass RX1 = some m.cls := findClass_of_methodNamed B.named
  have hlocks := B.notSynchronized
  have hl := lv_entry ([.int n, .int (nI 3), .ref ax, .ref ay, .int v]) (n := 5) (Nat.le_of_ble_eq_true rfl)
  rw [lg_entry_eq]
  generalize (lg_sl ([.int n, .int (nI 3), .ref ax, .ref ay, .int v]) ++ List.replicate (5 - (lg_sl ([.int n, .int (nI 3), .ref ax, .ref ay, .int v])).length) Slot.unset).toArray = ls at hl ⊢
  have hl : lv_has ls 5 [(0, .int n), (1, .int (nI 3)), (2, .ref ax), (3, .ref ay), (4, .int v)] := hl
  refine lv_iload_n hx hb dX1_made_0 rfl (lv_at hl 1 rfl) ?_
  refine lv_if_ne hx hb dX1_made_1 rfl (fun _ => ?_) (fun h => False.elim (by revert h; decide))
  refine lv_iload_n hx hb dX1_made_16 rfl (lv_at hl 1 rfl) ?_
  refine lv_iconst hx hb dX1_made_17 rfl ?_
  refine lv_icmp_ne hx hb dX1_made_18 rfl (fun _ => ?_) (fun h => False.elim (by revert h; decide))
  refine lv_iload_n hx hb dX1_made_32 rfl (lv_at hl 1 rfl) ?_
  refine lv_iconst hx hb dX1_made_33 rfl ?_
  refine lv_icmp_ge hx hb dX1_made_34 rfl (fun h => False.elim (by revert h; decide)) (fun _ => ?_)
  refine va_new hx hb hts in_X10 tyX10 tyX10_ok hown (hts _ q167) (hts _ q168) (hts _ q80) hK hP hD va_S.rf (fun q h => h) (hcl 5 _ rfl) (fs := [.int 0, .int 0, .int 0, .int 0, .null, .null]) ?_ (Nat.le_of_ble_eq_true rfl) (Nat.le_of_ble_eq_true rfl) dX1_made_37 (fun q H1 hP1 hD1 hS1 => ?_)
  · intro j hj
    match j, hj with
    | 0, _ => rfl
    | 1, _ => rfl
    | 2, _ => rfl
    | 3, _ => rfl
    | 4, _ => rfl
    | 5, _ => rfl
  have hq1 : s.heap.size ≤ q := hD1.2 0 _ rfl
  have hPx : va_P D cl [(ax, .inr (cx_ci kx, fx))] H1 := hPx.kept (fun i z hz => by
    have h1 : i < 1 := (List.getElem?_eq_some_iff.mp hz).1
    have h2 : i = 0 := by omega
    subst h2
    cases hz
    have hlt := (hPx 0 _ rfl).lt
    exact hS1.2.1 _ hlt (Nat.not_le.mpr hlt))
  have hPy : va_P D cl [(ay, .inr (cx_ci ky, fy))] H1 := hPy.kept (fun i z hz => by
    have h1 : i < 1 := (List.getElem?_eq_some_iff.mp hz).1
    have h2 : i = 0 := by omega
    subst h2
    cases hz
    have hlt := (hPy 0 _ rfl).lt
    exact hS1.2.1 _ hlt (Nat.not_le.mpr hlt))
  refine lv_dup hx hb dX1_made_40 rfl ?_
  refine lv_iload_n hx hb dX1_made_41 rfl (lv_at hl 0 rfl) ?_
  refine lv_iload_n hx hb dX1_made_42 rfl (lv_at hl 1 rfl) ?_
  refine lv_aload_n hx hb dX1_made_43 rfl (lv_at hl 2 rfl) ?_
  refine lv_aload_n hx hb dX1_made_44 rfl (lv_at hl 3 rfl) ?_
  refine am_callR (va_runI (own := RX1) (n := 4) (Ts := lw_all) (b := q) (As := [.int n, .int (nI 3), .ref ax, .ref ay]) (rest := [.ref q]) ⟨hx, hb, hml, hown, hts⟩ (jn_two_X10 hcl q H1.size n (nI 3) ax kx fx sx dx hkx hsx hdx ay ky fy sy dy hky hsy hdy) (cwI 4 hts (lw_meth q171) rfl rfl rfl (hts _ q80) (hts _ q169) (hts _ q170) rfl ⟨by decide, by decide, by decide +kernel⟩ ⟨Nat.le_of_ble_eq_true rfl, Nat.le_of_ble_eq_true rfl⟩) ⟨fun a U gg mk q => ⟨q.1, q.2.1, q.2.2.1, va_K.moved (u := U) (U := U.calling gg mk a) (Vm.Alike.refl U.vm) q.2.2.2.1, q.2.2.2.2⟩, fun U hU hW => ⟨rfl, by rw [hU], by rw [hU]; exact hP1, va_K.moved hW.alike hK, by rw [hU]; exact hPx, by rw [hU]; exact hPy⟩⟩ rfl rfl hl.1 rfl (lv_room (Nat.le_of_ble_eq_true rfl)) dX1_made_45 ⟨Nat.le_of_ble_eq_true rfl, Nat.le_of_ble_eq_true rfl⟩) (fun v st₀ t L h0 hWm hq hL => ?_)
  obtain ⟨hv, hP2, hF1, hF2⟩ := hq
  cases hv
  rw [h0] at hF1 hF2
  refine W.aret hx hb hr (.inl ⟨_, rfl⟩) (.inr ⟨_, rfl⟩) (fun t1 ht hW => ⟨q, rfl, hq1, by rw [ht]; exact hP2, by rw [ht]; exact Nat.le_trans hS1.1 hF1, fun z h1 h2 => ?_⟩) (fun z hz => ?_) dX1_made_48 hlocks
  · rcases List.mem_append.mp hz with h | h
    · cases h
    · exact (hL z h).elim (fun e => e ▸ hq1) (fun e => Nat.le_trans hS1.1 e)
  · rw [ht, hF2 z (Nat.lt_of_lt_of_le h1 hS1.1) (fun e => e.elim (fun e => h2 (e ▸ hq1)) (fun e => absurd (Nat.lt_of_lt_of_le h1 hS1.1) (Nat.not_lt.mpr e)))]
    exact hS1.2.1 z h1 h2
theorem jn_made_4 (hcl : cx_clok cl) (sz : Nat) (n v : Int32) (ax kx : Nat) (fx : List Value) (sx dx : Int32) (hkx : kx ≤ 9) (hsx : fx[2]? = some (.int sx)) (hdx : fx[3]? = some (.int dx)) (ay ky : Nat) (fy : List Value) (sy dy : Int32) (hky : ky ≤ 9) (hsy : fy[2]? = some (.int sy)) (hdy : fy[3]? = some (.int dy)) : Met l yX1_made (ws_ yX1_made cX1_made 5 (some (.object "FormulaVoice$Node"))) { frames := 4, cells := 1, slots := 6, locals := 160 } (fun a U => a = [.int n, .int (nI 4), .ref ax, .ref ay, .int v].toArray ∧ U.heap.size = sz ∧ va_K D cl [] U ∧ va_P D cl [(ax, .inr (cx_ci kx, fx))] U.heap ∧ va_P D cl [(ay, .inr (cx_ci ky, fy))] U.heap) (fun _ st o t => ∃ q, o = .returned (some (.ref q)) ∧ sz ≤ q ∧ va_P D cl [(q, .inr (5, [.int n, .int (nI 4), .int (1 + sx + sy), .int (1 + (if dx < dy then dy else dx)), .ref ax, .ref ay]))] t.heap ∧ va_F (fun z => sz ≤ z) st t) 1 6 (fun z => sz ≤ z) := by
  refine Met.ofW (cc := cX1_made) (maxL := 5) (ret := (some (.object "FormulaVoice$Node"))) (by decide) rfl ?_
  intro p e s m args below meth c s₁ B hml hv
  obtain ⟨rfl, hsz, hK, hPx, hPy⟩ := hv
  subst hsz
  have hP : va_P D cl [] s.heap := fun k q h => by cases h
  have hD : va_D (fun z => s.heap.size ≤ z) [] := ⟨fun i j a b h => (by cases h), fun k q h => (by cases h)⟩
  have hx := B.exec
  have hb := B.bytes
  have hr := B.returns
  have hts := atoms_spec (ws := ws_ yX1_made cX1_made 5 (some (.object "FormulaVoice$Node"))) B.pre
  have hts : ∀ w ∈ lw_all, w.before _ s = true := fun w h => hts w (List.mem_cons_of_mem _ h)
  have hown : s.vm.findClass RX1 = some m.cls := findClass_of_methodNamed B.named
  have hlocks := B.notSynchronized
  have hl := lv_entry ([.int n, .int (nI 4), .ref ax, .ref ay, .int v]) (n := 5) (Nat.le_of_ble_eq_true rfl)
  rw [lg_entry_eq]
  generalize (lg_sl ([.int n, .int (nI 4), .ref ax, .ref ay, .int v]) ++ List.replicate (5 - (lg_sl ([.int n, .int (nI 4), .ref ax, .ref ay, .int v])).length) Slot.unset).toArray = ls at hl ⊢
  have hl : lv_has ls 5 [(0, .int n), (1, .int (nI 4)), (2, .ref ax), (3, .ref ay), (4, .int v)] := hl
  refine lv_iload_n hx hb dX1_made_0 rfl (lv_at hl 1 rfl) ?_
  refine lv_if_ne hx hb dX1_made_1 rfl (fun _ => ?_) (fun h => False.elim (by revert h; decide))
  refine lv_iload_n hx hb dX1_made_16 rfl (lv_at hl 1 rfl) ?_
  refine lv_iconst hx hb dX1_made_17 rfl ?_
  refine lv_icmp_ne hx hb dX1_made_18 rfl (fun _ => ?_) (fun h => False.elim (by revert h; decide))
  refine lv_iload_n hx hb dX1_made_32 rfl (lv_at hl 1 rfl) ?_
  refine lv_iconst hx hb dX1_made_33 rfl ?_
  refine lv_icmp_ge hx hb dX1_made_34 rfl (fun h => False.elim (by revert h; decide)) (fun _ => ?_)
  refine va_new hx hb hts in_X10 tyX10 tyX10_ok hown (hts _ q167) (hts _ q168) (hts _ q80) hK hP hD va_S.rf (fun q h => h) (hcl 5 _ rfl) (fs := [.int 0, .int 0, .int 0, .int 0, .null, .null]) ?_ (Nat.le_of_ble_eq_true rfl) (Nat.le_of_ble_eq_true rfl) dX1_made_37 (fun q H1 hP1 hD1 hS1 => ?_)
  · intro j hj
    match j, hj with
    | 0, _ => rfl
    | 1, _ => rfl
    | 2, _ => rfl
    | 3, _ => rfl
    | 4, _ => rfl
    | 5, _ => rfl
  have hq1 : s.heap.size ≤ q := hD1.2 0 _ rfl
  have hPx : va_P D cl [(ax, .inr (cx_ci kx, fx))] H1 := hPx.kept (fun i z hz => by
    have h1 : i < 1 := (List.getElem?_eq_some_iff.mp hz).1
    have h2 : i = 0 := by omega
    subst h2
    cases hz
    have hlt := (hPx 0 _ rfl).lt
    exact hS1.2.1 _ hlt (Nat.not_le.mpr hlt))
  have hPy : va_P D cl [(ay, .inr (cx_ci ky, fy))] H1 := hPy.kept (fun i z hz => by
    have h1 : i < 1 := (List.getElem?_eq_some_iff.mp hz).1
    have h2 : i = 0 := by omega
    subst h2
    cases hz
    have hlt := (hPy 0 _ rfl).lt
    exact hS1.2.1 _ hlt (Nat.not_le.mpr hlt))
  refine lv_dup hx hb dX1_made_40 rfl ?_
  refine lv_iload_n hx hb dX1_made_41 rfl (lv_at hl 0 rfl) ?_
  refine lv_iload_n hx hb dX1_made_42 rfl (lv_at hl 1 rfl) ?_
  refine lv_aload_n hx hb dX1_made_43 rfl (lv_at hl 2 rfl) ?_
  refine lv_aload_n hx hb dX1_made_44 rfl (lv_at hl 3 rfl) ?_
  refine am_callR (va_runI (own := RX1) (n := 4) (Ts := lw_all) (b := q) (As := [.int n, .int (nI 4), .ref ax, .ref ay]) (rest := [.ref q]) ⟨hx, hb, hml, hown, hts⟩ (jn_two_X10 hcl q H1.size n (nI 4) ax kx fx sx dx hkx hsx hdx ay ky fy sy dy hky hsy hdy) (cwI 4 hts (lw_meth q171) rfl rfl rfl (hts _ q80) (hts _ q169) (hts _ q170) rfl ⟨by decide, by decide, by decide +kernel⟩ ⟨Nat.le_of_ble_eq_true rfl, Nat.le_of_ble_eq_true rfl⟩) ⟨fun a U gg mk q => ⟨q.1, q.2.1, q.2.2.1, va_K.moved (u := U) (U := U.calling gg mk a) (Vm.Alike.refl U.vm) q.2.2.2.1, q.2.2.2.2⟩, fun U hU hW => ⟨rfl, by rw [hU], by rw [hU]; exact hP1, va_K.moved hW.alike hK, by rw [hU]; exact hPx, by rw [hU]; exact hPy⟩⟩ rfl rfl hl.1 rfl (lv_room (Nat.le_of_ble_eq_true rfl)) dX1_made_45 ⟨Nat.le_of_ble_eq_true rfl, Nat.le_of_ble_eq_true rfl⟩) (fun v st₀ t L h0 hWm hq hL => ?_)
  obtain ⟨hv, hP2, hF1, hF2⟩ := hq
  cases hv
  rw [h0] at hF1 hF2
  refine W.aret hx hb hr (.inl ⟨_, rfl⟩) (.inr ⟨_, rfl⟩) (fun t1 ht hW => ⟨q, rfl, hq1, by rw [ht]; exact hP2, by rw [ht]; exact Nat.le_trans hS1.1 hF1, fun z h1 h2 => ?_⟩) (fun z hz => ?_) dX1_made_48 hlocks
  · rcases List.mem_append.mp hz with h | h
    · cases h
    · exact (hL z h).elim (fun e => e ▸ hq1) (fun e => Nat.le_trans hS1.1 e)
  · rw [ht, hF2 z (Nat.lt_of_lt_of_le h1 hS1.1) (fun e => e.elim (fun e => h2 (e ▸ hq1)) (fun e => absurd (Nat.lt_of_lt_of_le h1 hS1.1) (Nat.not_lt.mpr e)))]
    exact hS1.2.1 z h1 h2
theorem jn_made_5 (hcl : cx_clok cl) (sz : Nat) (n v : Int32) (ax kx : Nat) (fx : List Value) (sx dx : Int32) (hkx : kx ≤ 9) (hsx : fx[2]? = some (.int sx)) (hdx : fx[3]? = some (.int dx)) (ay ky : Nat) (fy : List Value) (sy dy : Int32) (hky : ky ≤ 9) (hsy : fy[2]? = some (.int sy)) (hdy : fy[3]? = some (.int dy)) : Met l yX1_made (ws_ yX1_made cX1_made 5 (some (.object "FormulaVoice$Node"))) { frames := 4, cells := 1, slots := 6, locals := 160 } (fun a U => a = [.int n, .int (nI 5), .ref ax, .ref ay, .int v].toArray ∧ U.heap.size = sz ∧ va_K D cl [] U ∧ va_P D cl [(ax, .inr (cx_ci kx, fx))] U.heap ∧ va_P D cl [(ay, .inr (cx_ci ky, fy))] U.heap) (fun _ st o t => ∃ q, o = .returned (some (.ref q)) ∧ sz ≤ q ∧ va_P D cl [(q, .inr (6, [.int n, .int (nI 5), .int (1 + sx + sy), .int (1 + (if dx < dy then dy else dx)), .ref ax, .ref ay]))] t.heap ∧ va_F (fun z => sz ≤ z) st t) 1 6 (fun z => sz ≤ z) := by
  refine Met.ofW (cc := cX1_made) (maxL := 5) (ret := (some (.object "FormulaVoice$Node"))) (by decide) rfl ?_
  intro p e s m args below meth c s₁ B hml hv
  obtain ⟨rfl, hsz, hK, hPx, hPy⟩ := hv
  subst hsz
  have hP : va_P D cl [] s.heap := fun k q h => by cases h
  have hD : va_D (fun z => s.heap.size ≤ z) [] := ⟨fun i j a b h => (by cases h), fun k q h => (by cases h)⟩
  have hx := B.exec
  have hb := B.bytes
  have hr := B.returns
  have hts := atoms_spec (ws := ws_ yX1_made cX1_made 5 (some (.object "FormulaVoice$Node"))) B.pre
  have hts : ∀ w ∈ lw_all, w.before _ s = true := fun w h => hts w (List.mem_cons_of_mem _ h)
  have hown : s.vm.findClass RX1 = some m.cls := findClass_of_methodNamed B.named
  have hlocks := B.notSynchronized
  have hl := lv_entry ([.int n, .int (nI 5), .ref ax, .ref ay, .int v]) (n := 5) (Nat.le_of_ble_eq_true rfl)
  rw [lg_entry_eq]
  generalize (lg_sl ([.int n, .int (nI 5), .ref ax, .ref ay, .int v]) ++ List.replicate (5 - (lg_sl ([.int n, .int (nI 5), .ref ax, .ref ay, .int v])).length) Slot.unset).toArray = ls at hl ⊢
  have hl : lv_has ls 5 [(0, .int n), (1, .int (nI 5)), (2, .ref ax), (3, .ref ay), (4, .int v)] := hl
  refine lv_iload_n hx hb dX1_made_0 rfl (lv_at hl 1 rfl) ?_
  refine lv_if_ne hx hb dX1_made_1 rfl (fun _ => ?_) (fun h => False.elim (by revert h; decide))
  refine lv_iload_n hx hb dX1_made_16 rfl (lv_at hl 1 rfl) ?_
  refine lv_iconst hx hb dX1_made_17 rfl ?_
  refine lv_icmp_ne hx hb dX1_made_18 rfl (fun _ => ?_) (fun h => False.elim (by revert h; decide))
  refine lv_iload_n hx hb dX1_made_32 rfl (lv_at hl 1 rfl) ?_
  refine lv_iconst hx hb dX1_made_33 rfl ?_
  refine lv_icmp_ge hx hb dX1_made_34 rfl (fun _ => ?_) (fun h => False.elim (by revert h; decide))
  refine lv_iload_n hx hb dX1_made_49 rfl (lv_at hl 1 rfl) ?_
  refine lv_bipush hx hb dX1_made_50 rfl ?_
  refine lv_icmp_gt hx hb dX1_made_52 rfl (fun h => False.elim (by revert h; decide)) (fun _ => ?_)
  refine va_new hx hb hts in_X11 tyX11 tyX11_ok hown (hts _ q187) (hts _ q188) (hts _ q82) hK hP hD va_S.rf (fun q h => h) (hcl 6 _ rfl) (fs := [.int 0, .int 0, .int 0, .int 0, .null, .null]) ?_ (Nat.le_of_ble_eq_true rfl) (Nat.le_of_ble_eq_true rfl) dX1_made_55 (fun q H1 hP1 hD1 hS1 => ?_)
  · intro j hj
    match j, hj with
    | 0, _ => rfl
    | 1, _ => rfl
    | 2, _ => rfl
    | 3, _ => rfl
    | 4, _ => rfl
    | 5, _ => rfl
  have hq1 : s.heap.size ≤ q := hD1.2 0 _ rfl
  have hPx : va_P D cl [(ax, .inr (cx_ci kx, fx))] H1 := hPx.kept (fun i z hz => by
    have h1 : i < 1 := (List.getElem?_eq_some_iff.mp hz).1
    have h2 : i = 0 := by omega
    subst h2
    cases hz
    have hlt := (hPx 0 _ rfl).lt
    exact hS1.2.1 _ hlt (Nat.not_le.mpr hlt))
  have hPy : va_P D cl [(ay, .inr (cx_ci ky, fy))] H1 := hPy.kept (fun i z hz => by
    have h1 : i < 1 := (List.getElem?_eq_some_iff.mp hz).1
    have h2 : i = 0 := by omega
    subst h2
    cases hz
    have hlt := (hPy 0 _ rfl).lt
    exact hS1.2.1 _ hlt (Nat.not_le.mpr hlt))
  refine lv_dup hx hb dX1_made_58 rfl ?_
  refine lv_iload_n hx hb dX1_made_59 rfl (lv_at hl 0 rfl) ?_
  refine lv_iload_n hx hb dX1_made_60 rfl (lv_at hl 1 rfl) ?_
  refine lv_aload_n hx hb dX1_made_61 rfl (lv_at hl 2 rfl) ?_
  refine lv_aload_n hx hb dX1_made_62 rfl (lv_at hl 3 rfl) ?_
  refine am_callR (va_runI (own := RX1) (n := 4) (Ts := lw_all) (b := q) (As := [.int n, .int (nI 5), .ref ax, .ref ay]) (rest := [.ref q]) ⟨hx, hb, hml, hown, hts⟩ (jn_script hcl q H1.size n (nI 5) ax kx fx sx dx hkx hsx hdx ay ky fy sy dy hky hsy hdy) (cwI 4 hts (lw_meth q191) rfl rfl rfl (hts _ q82) (hts _ q189) (hts _ q190) rfl ⟨by decide, by decide, by decide +kernel⟩ ⟨Nat.le_of_ble_eq_true rfl, Nat.le_of_ble_eq_true rfl⟩) ⟨fun a U gg mk q => ⟨q.1, q.2.1, q.2.2.1, va_K.moved (u := U) (U := U.calling gg mk a) (Vm.Alike.refl U.vm) q.2.2.2.1, q.2.2.2.2⟩, fun U hU hW => ⟨rfl, by rw [hU], by rw [hU]; exact hP1, va_K.moved hW.alike hK, by rw [hU]; exact hPx, by rw [hU]; exact hPy⟩⟩ rfl rfl hl.1 rfl (lv_room (Nat.le_of_ble_eq_true rfl)) dX1_made_63 ⟨Nat.le_of_ble_eq_true rfl, Nat.le_of_ble_eq_true rfl⟩) (fun v st₀ t L h0 hWm hq hL => ?_)
  obtain ⟨hv, hP2, hF1, hF2⟩ := hq
  cases hv
  rw [h0] at hF1 hF2
  refine W.aret hx hb hr (.inl ⟨_, rfl⟩) (.inr ⟨_, rfl⟩) (fun t1 ht hW => ⟨q, rfl, hq1, by rw [ht]; exact hP2, by rw [ht]; exact Nat.le_trans hS1.1 hF1, fun z h1 h2 => ?_⟩) (fun z hz => ?_) dX1_made_66 hlocks
  · rcases List.mem_append.mp hz with h | h
    · cases h
    · exact (hL z h).elim (fun e => e ▸ hq1) (fun e => Nat.le_trans hS1.1 e)
  · rw [ht, hF2 z (Nat.lt_of_lt_of_le h1 hS1.1) (fun e => e.elim (fun e => h2 (e ▸ hq1)) (fun e => absurd (Nat.lt_of_lt_of_le h1 hS1.1) (Nat.not_lt.mpr e)))]
    exact hS1.2.1 z h1 h2
theorem jn_made_6 (hcl : cx_clok cl) (sz : Nat) (n v : Int32) (ax kx : Nat) (fx : List Value) (sx dx : Int32) (hkx : kx ≤ 9) (hsx : fx[2]? = some (.int sx)) (hdx : fx[3]? = some (.int dx)) (ay ky : Nat) (fy : List Value) (sy dy : Int32) (hky : ky ≤ 9) (hsy : fy[2]? = some (.int sy)) (hdy : fy[3]? = some (.int dy)) : Met l yX1_made (ws_ yX1_made cX1_made 5 (some (.object "FormulaVoice$Node"))) { frames := 4, cells := 1, slots := 6, locals := 160 } (fun a U => a = [.int n, .int (nI 6), .ref ax, .ref ay, .int v].toArray ∧ U.heap.size = sz ∧ va_K D cl [] U ∧ va_P D cl [(ax, .inr (cx_ci kx, fx))] U.heap ∧ va_P D cl [(ay, .inr (cx_ci ky, fy))] U.heap) (fun _ st o t => ∃ q, o = .returned (some (.ref q)) ∧ sz ≤ q ∧ va_P D cl [(q, .inr (6, [.int n, .int (nI 6), .int (1 + sx + sy), .int (1 + (if dx < dy then dy else dx)), .ref ax, .ref ay]))] t.heap ∧ va_F (fun z => sz ≤ z) st t) 1 6 (fun z => sz ≤ z) := by
  refine Met.ofW (cc := cX1_made) (maxL := 5) (ret := (some (.object "FormulaVoice$Node"))) (by decide) rfl ?_
  intro p e s m args below meth c s₁ B hml hv
  obtain ⟨rfl, hsz, hK, hPx, hPy⟩ := hv
  subst hsz
  have hP : va_P D cl [] s.heap := fun k q h => by cases h
  have hD : va_D (fun z => s.heap.size ≤ z) [] := ⟨fun i j a b h => (by cases h), fun k q h => (by cases h)⟩
  have hx := B.exec
  have hb := B.bytes
  have hr := B.returns
  have hts := atoms_spec (ws := ws_ yX1_made cX1_made 5 (some (.object "FormulaVoice$Node"))) B.pre
  have hts : ∀ w ∈ lw_all, w.before _ s = true := fun w h => hts w (List.mem_cons_of_mem _ h)
  have hown : s.vm.findClass RX1 = some m.cls := findClass_of_methodNamed B.named
  have hlocks := B.notSynchronized
  have hl := lv_entry ([.int n, .int (nI 6), .ref ax, .ref ay, .int v]) (n := 5) (Nat.le_of_ble_eq_true rfl)
  rw [lg_entry_eq]
  generalize (lg_sl ([.int n, .int (nI 6), .ref ax, .ref ay, .int v]) ++ List.replicate (5 - (lg_sl ([.int n, .int (nI 6), .ref ax, .ref ay, .int v])).length) Slot.unset).toArray = ls at hl ⊢
  have hl : lv_has ls 5 [(0, .int n), (1, .int (nI 6)), (2, .ref ax), (3, .ref ay), (4, .int v)] := hl
  refine lv_iload_n hx hb dX1_made_0 rfl (lv_at hl 1 rfl) ?_
  refine lv_if_ne hx hb dX1_made_1 rfl (fun _ => ?_) (fun h => False.elim (by revert h; decide))
  refine lv_iload_n hx hb dX1_made_16 rfl (lv_at hl 1 rfl) ?_
  refine lv_iconst hx hb dX1_made_17 rfl ?_
  refine lv_icmp_ne hx hb dX1_made_18 rfl (fun _ => ?_) (fun h => False.elim (by revert h; decide))
  refine lv_iload_n hx hb dX1_made_32 rfl (lv_at hl 1 rfl) ?_
  refine lv_iconst hx hb dX1_made_33 rfl ?_
  refine lv_icmp_ge hx hb dX1_made_34 rfl (fun _ => ?_) (fun h => False.elim (by revert h; decide))
  refine lv_iload_n hx hb dX1_made_49 rfl (lv_at hl 1 rfl) ?_
  refine lv_bipush hx hb dX1_made_50 rfl ?_
  refine lv_icmp_gt hx hb dX1_made_52 rfl (fun h => False.elim (by revert h; decide)) (fun _ => ?_)
  refine va_new hx hb hts in_X11 tyX11 tyX11_ok hown (hts _ q187) (hts _ q188) (hts _ q82) hK hP hD va_S.rf (fun q h => h) (hcl 6 _ rfl) (fs := [.int 0, .int 0, .int 0, .int 0, .null, .null]) ?_ (Nat.le_of_ble_eq_true rfl) (Nat.le_of_ble_eq_true rfl) dX1_made_55 (fun q H1 hP1 hD1 hS1 => ?_)
  · intro j hj
    match j, hj with
    | 0, _ => rfl
    | 1, _ => rfl
    | 2, _ => rfl
    | 3, _ => rfl
    | 4, _ => rfl
    | 5, _ => rfl
  have hq1 : s.heap.size ≤ q := hD1.2 0 _ rfl
  have hPx : va_P D cl [(ax, .inr (cx_ci kx, fx))] H1 := hPx.kept (fun i z hz => by
    have h1 : i < 1 := (List.getElem?_eq_some_iff.mp hz).1
    have h2 : i = 0 := by omega
    subst h2
    cases hz
    have hlt := (hPx 0 _ rfl).lt
    exact hS1.2.1 _ hlt (Nat.not_le.mpr hlt))
  have hPy : va_P D cl [(ay, .inr (cx_ci ky, fy))] H1 := hPy.kept (fun i z hz => by
    have h1 : i < 1 := (List.getElem?_eq_some_iff.mp hz).1
    have h2 : i = 0 := by omega
    subst h2
    cases hz
    have hlt := (hPy 0 _ rfl).lt
    exact hS1.2.1 _ hlt (Nat.not_le.mpr hlt))
  refine lv_dup hx hb dX1_made_58 rfl ?_
  refine lv_iload_n hx hb dX1_made_59 rfl (lv_at hl 0 rfl) ?_
  refine lv_iload_n hx hb dX1_made_60 rfl (lv_at hl 1 rfl) ?_
  refine lv_aload_n hx hb dX1_made_61 rfl (lv_at hl 2 rfl) ?_
  refine lv_aload_n hx hb dX1_made_62 rfl (lv_at hl 3 rfl) ?_
  refine am_callR (va_runI (own := RX1) (n := 4) (Ts := lw_all) (b := q) (As := [.int n, .int (nI 6), .ref ax, .ref ay]) (rest := [.ref q]) ⟨hx, hb, hml, hown, hts⟩ (jn_script hcl q H1.size n (nI 6) ax kx fx sx dx hkx hsx hdx ay ky fy sy dy hky hsy hdy) (cwI 4 hts (lw_meth q191) rfl rfl rfl (hts _ q82) (hts _ q189) (hts _ q190) rfl ⟨by decide, by decide, by decide +kernel⟩ ⟨Nat.le_of_ble_eq_true rfl, Nat.le_of_ble_eq_true rfl⟩) ⟨fun a U gg mk q => ⟨q.1, q.2.1, q.2.2.1, va_K.moved (u := U) (U := U.calling gg mk a) (Vm.Alike.refl U.vm) q.2.2.2.1, q.2.2.2.2⟩, fun U hU hW => ⟨rfl, by rw [hU], by rw [hU]; exact hP1, va_K.moved hW.alike hK, by rw [hU]; exact hPx, by rw [hU]; exact hPy⟩⟩ rfl rfl hl.1 rfl (lv_room (Nat.le_of_ble_eq_true rfl)) dX1_made_63 ⟨Nat.le_of_ble_eq_true rfl, Nat.le_of_ble_eq_true rfl⟩) (fun v st₀ t L h0 hWm hq hL => ?_)
  obtain ⟨hv, hP2, hF1, hF2⟩ := hq
  cases hv
  rw [h0] at hF1 hF2
  refine W.aret hx hb hr (.inl ⟨_, rfl⟩) (.inr ⟨_, rfl⟩) (fun t1 ht hW => ⟨q, rfl, hq1, by rw [ht]; exact hP2, by rw [ht]; exact Nat.le_trans hS1.1 hF1, fun z h1 h2 => ?_⟩) (fun z hz => ?_) dX1_made_66 hlocks
  · rcases List.mem_append.mp hz with h | h
    · cases h
    · exact (hL z h).elim (fun e => e ▸ hq1) (fun e => Nat.le_trans hS1.1 e)
  · rw [ht, hF2 z (Nat.lt_of_lt_of_le h1 hS1.1) (fun e => e.elim (fun e => h2 (e ▸ hq1)) (fun e => absurd (Nat.lt_of_lt_of_le h1 hS1.1) (Nat.not_lt.mpr e)))]
    exact hS1.2.1 z h1 h2
theorem jn_made_7 (hcl : cx_clok cl) (sz : Nat) (n v : Int32) (ax kx : Nat) (fx : List Value) (sx dx : Int32) (hkx : kx ≤ 9) (hsx : fx[2]? = some (.int sx)) (hdx : fx[3]? = some (.int dx)) : Met l yX1_made (ws_ yX1_made cX1_made 5 (some (.object "FormulaVoice$Node"))) { frames := 4, cells := 1, slots := 5, locals := 160 } (fun a U => a = [.int n, .int (nI 7), .ref ax, .null, .int v].toArray ∧ U.heap.size = sz ∧ va_K D cl [] U ∧ va_P D cl [(ax, .inr (cx_ci kx, fx))] U.heap) (fun _ st o t => ∃ q, o = .returned (some (.ref q)) ∧ sz ≤ q ∧ va_P D cl [(q, .inr (7, [.int n, .int 7, .int (1 + sx), .int (1 + dx), .ref ax]))] t.heap ∧ va_F (fun z => sz ≤ z) st t) 1 5 (fun z => sz ≤ z) := by
  refine Met.ofW (cc := cX1_made) (maxL := 5) (ret := (some (.object "FormulaVoice$Node"))) (by decide) rfl ?_
  intro p e s m args below meth c s₁ B hml hv
  obtain ⟨rfl, hsz, hK, hPx⟩ := hv
  subst hsz
  have hP : va_P D cl [] s.heap := fun k q h => by cases h
  have hD : va_D (fun z => s.heap.size ≤ z) [] := ⟨fun i j a b h => (by cases h), fun k q h => (by cases h)⟩
  have hx := B.exec
  have hb := B.bytes
  have hr := B.returns
  have hts := atoms_spec (ws := ws_ yX1_made cX1_made 5 (some (.object "FormulaVoice$Node"))) B.pre
  have hts : ∀ w ∈ lw_all, w.before _ s = true := fun w h => hts w (List.mem_cons_of_mem _ h)
  have hown : s.vm.findClass RX1 = some m.cls := findClass_of_methodNamed B.named
  have hlocks := B.notSynchronized
  have hl := lv_entry ([.int n, .int (nI 7), .ref ax, .null, .int v]) (n := 5) (Nat.le_of_ble_eq_true rfl)
  rw [lg_entry_eq]
  generalize (lg_sl ([.int n, .int (nI 7), .ref ax, .null, .int v]) ++ List.replicate (5 - (lg_sl ([.int n, .int (nI 7), .ref ax, .null, .int v])).length) Slot.unset).toArray = ls at hl ⊢
  have hl : lv_has ls 5 [(0, .int n), (1, .int (nI 7)), (2, .ref ax), (3, .null), (4, .int v)] := hl
  refine lv_iload_n hx hb dX1_made_0 rfl (lv_at hl 1 rfl) ?_
  refine lv_if_ne hx hb dX1_made_1 rfl (fun _ => ?_) (fun h => False.elim (by revert h; decide))
  refine lv_iload_n hx hb dX1_made_16 rfl (lv_at hl 1 rfl) ?_
  refine lv_iconst hx hb dX1_made_17 rfl ?_
  refine lv_icmp_ne hx hb dX1_made_18 rfl (fun _ => ?_) (fun h => False.elim (by revert h; decide))
  refine lv_iload_n hx hb dX1_made_32 rfl (lv_at hl 1 rfl) ?_
  refine lv_iconst hx hb dX1_made_33 rfl ?_
  refine lv_icmp_ge hx hb dX1_made_34 rfl (fun _ => ?_) (fun h => False.elim (by revert h; decide))
  refine lv_iload_n hx hb dX1_made_49 rfl (lv_at hl 1 rfl) ?_
  refine lv_bipush hx hb dX1_made_50 rfl ?_
  refine lv_icmp_gt hx hb dX1_made_52 rfl (fun _ => ?_) (fun h => False.elim (by revert h; decide))
  refine lv_iload_n hx hb dX1_made_67 rfl (lv_at hl 1 rfl) ?_
  refine lv_bipush hx hb dX1_made_68 rfl ?_
  refine lv_icmp_ne hx hb dX1_made_70 rfl (fun h => False.elim (by revert h; decide)) (fun _ => ?_)
  refine va_new hx hb hts in_X12 tyX12 tyX12_ok hown (hts _ q200) (hts _ q201) (hts _ q83) hK hP hD va_S.rf (fun q h => h) (hcl 7 _ rfl) (fs := [.int 0, .int 0, .int 0, .int 0, .null]) ?_ (Nat.le_of_ble_eq_true rfl) (Nat.le_of_ble_eq_true rfl) dX1_made_73 (fun q H1 hP1 hD1 hS1 => ?_)
  · intro j hj
    match j, hj with
    | 0, _ => rfl
    | 1, _ => rfl
    | 2, _ => rfl
    | 3, _ => rfl
    | 4, _ => rfl
  have hq1 : s.heap.size ≤ q := hD1.2 0 _ rfl
  have hPx : va_P D cl [(ax, .inr (cx_ci kx, fx))] H1 := hPx.kept (fun i z hz => by
    have h1 : i < 1 := (List.getElem?_eq_some_iff.mp hz).1
    have h2 : i = 0 := by omega
    subst h2
    cases hz
    have hlt := (hPx 0 _ rfl).lt
    exact hS1.2.1 _ hlt (Nat.not_le.mpr hlt))
  refine lv_dup hx hb dX1_made_76 rfl ?_
  refine lv_iload_n hx hb dX1_made_77 rfl (lv_at hl 0 rfl) ?_
  refine lv_bipush hx hb dX1_made_78 rfl ?_
  refine lv_aload_n hx hb dX1_made_80 rfl (lv_at hl 2 rfl) ?_
  refine am_callR (va_runI (own := RX1) (n := 3) (Ts := lw_all) (b := q) (As := [.int n, .int 7, .ref ax]) (rest := [.ref q]) ⟨hx, hb, hml, hown, hts⟩ (jn_root_X12 hcl q H1.size n 7 ax kx fx sx dx hkx hsx hdx) (cwI 3 hts (lw_meth q204) rfl rfl rfl (hts _ q83) (hts _ q202) (hts _ q203) rfl ⟨by decide, by decide, by decide +kernel⟩ ⟨Nat.le_of_ble_eq_true rfl, Nat.le_of_ble_eq_true rfl⟩) ⟨fun a U gg mk q => ⟨q.1, q.2.1, q.2.2.1, va_K.moved (u := U) (U := U.calling gg mk a) (Vm.Alike.refl U.vm) q.2.2.2.1, q.2.2.2.2⟩, fun U hU hW => ⟨rfl, by rw [hU], by rw [hU]; exact hP1, va_K.moved hW.alike hK, by rw [hU]; exact hPx⟩⟩ rfl rfl hl.1 rfl (lv_room (Nat.le_of_ble_eq_true rfl)) dX1_made_81 ⟨Nat.le_of_ble_eq_true rfl, Nat.le_of_ble_eq_true rfl⟩) (fun v st₀ t L h0 hWm hq hL => ?_)
  obtain ⟨hv, hP2, hF1, hF2⟩ := hq
  cases hv
  rw [h0] at hF1 hF2
  refine W.aret hx hb hr (.inl ⟨_, rfl⟩) (.inr ⟨_, rfl⟩) (fun t1 ht hW => ⟨q, rfl, hq1, by rw [ht]; exact hP2, by rw [ht]; exact Nat.le_trans hS1.1 hF1, fun z h1 h2 => ?_⟩) (fun z hz => ?_) dX1_made_84 hlocks
  · rcases List.mem_append.mp hz with h | h
    · cases h
    · exact (hL z h).elim (fun e => e ▸ hq1) (fun e => Nat.le_trans hS1.1 e)
  · rw [ht, hF2 z (Nat.lt_of_lt_of_le h1 hS1.1) (fun e => e.elim (fun e => h2 (e ▸ hq1)) (fun e => absurd (Nat.lt_of_lt_of_le h1 hS1.1) (Nat.not_lt.mpr e)))]
    exact hS1.2.1 z h1 h2
theorem jn_made_8 (hcl : cx_clok cl) (sz : Nat) (n v : Int32) (ax kx : Nat) (fx : List Value) (sx dx : Int32) (hkx : kx ≤ 9) (hsx : fx[2]? = some (.int sx)) (hdx : fx[3]? = some (.int dx)) : Met l yX1_made (ws_ yX1_made cX1_made 5 (some (.object "FormulaVoice$Node"))) { frames := 4, cells := 1, slots := 5, locals := 160 } (fun a U => a = [.int n, .int (nI 8), .ref ax, .null, .int v].toArray ∧ U.heap.size = sz ∧ va_K D cl [] U ∧ va_P D cl [(ax, .inr (cx_ci kx, fx))] U.heap) (fun _ st o t => ∃ q, o = .returned (some (.ref q)) ∧ sz ≤ q ∧ va_P D cl [(q, .inr (8, [.int n, .int 8, .int (1 + sx), .int (1 + dx), .ref ax]))] t.heap ∧ va_F (fun z => sz ≤ z) st t) 1 5 (fun z => sz ≤ z) := by
  refine Met.ofW (cc := cX1_made) (maxL := 5) (ret := (some (.object "FormulaVoice$Node"))) (by decide) rfl ?_
  intro p e s m args below meth c s₁ B hml hv
  obtain ⟨rfl, hsz, hK, hPx⟩ := hv
  subst hsz
  have hP : va_P D cl [] s.heap := fun k q h => by cases h
  have hD : va_D (fun z => s.heap.size ≤ z) [] := ⟨fun i j a b h => (by cases h), fun k q h => (by cases h)⟩
  have hx := B.exec
  have hb := B.bytes
  have hr := B.returns
  have hts := atoms_spec (ws := ws_ yX1_made cX1_made 5 (some (.object "FormulaVoice$Node"))) B.pre
  have hts : ∀ w ∈ lw_all, w.before _ s = true := fun w h => hts w (List.mem_cons_of_mem _ h)
  have hown : s.vm.findClass RX1 = some m.cls := findClass_of_methodNamed B.named
  have hlocks := B.notSynchronized
  have hl := lv_entry ([.int n, .int (nI 8), .ref ax, .null, .int v]) (n := 5) (Nat.le_of_ble_eq_true rfl)
  rw [lg_entry_eq]
  generalize (lg_sl ([.int n, .int (nI 8), .ref ax, .null, .int v]) ++ List.replicate (5 - (lg_sl ([.int n, .int (nI 8), .ref ax, .null, .int v])).length) Slot.unset).toArray = ls at hl ⊢
  have hl : lv_has ls 5 [(0, .int n), (1, .int (nI 8)), (2, .ref ax), (3, .null), (4, .int v)] := hl
  refine lv_iload_n hx hb dX1_made_0 rfl (lv_at hl 1 rfl) ?_
  refine lv_if_ne hx hb dX1_made_1 rfl (fun _ => ?_) (fun h => False.elim (by revert h; decide))
  refine lv_iload_n hx hb dX1_made_16 rfl (lv_at hl 1 rfl) ?_
  refine lv_iconst hx hb dX1_made_17 rfl ?_
  refine lv_icmp_ne hx hb dX1_made_18 rfl (fun _ => ?_) (fun h => False.elim (by revert h; decide))
  refine lv_iload_n hx hb dX1_made_32 rfl (lv_at hl 1 rfl) ?_
  refine lv_iconst hx hb dX1_made_33 rfl ?_
  refine lv_icmp_ge hx hb dX1_made_34 rfl (fun _ => ?_) (fun h => False.elim (by revert h; decide))
  refine lv_iload_n hx hb dX1_made_49 rfl (lv_at hl 1 rfl) ?_
  refine lv_bipush hx hb dX1_made_50 rfl ?_
  refine lv_icmp_gt hx hb dX1_made_52 rfl (fun _ => ?_) (fun h => False.elim (by revert h; decide))
  refine lv_iload_n hx hb dX1_made_67 rfl (lv_at hl 1 rfl) ?_
  refine lv_bipush hx hb dX1_made_68 rfl ?_
  refine lv_icmp_ne hx hb dX1_made_70 rfl (fun _ => ?_) (fun h => False.elim (by revert h; decide))
  refine lv_iload_n hx hb dX1_made_85 rfl (lv_at hl 1 rfl) ?_
  refine lv_bipush hx hb dX1_made_86 rfl ?_
  refine lv_icmp_ne hx hb dX1_made_88 rfl (fun h => False.elim (by revert h; decide)) (fun _ => ?_)
  refine va_new hx hb hts in_X13 tyX13 tyX13_ok hown (hts _ q214) (hts _ q215) (hts _ q84) hK hP hD va_S.rf (fun q h => h) (hcl 8 _ rfl) (fs := [.int 0, .int 0, .int 0, .int 0, .null]) ?_ (Nat.le_of_ble_eq_true rfl) (Nat.le_of_ble_eq_true rfl) dX1_made_91 (fun q H1 hP1 hD1 hS1 => ?_)
  · intro j hj
    match j, hj with
    | 0, _ => rfl
    | 1, _ => rfl
    | 2, _ => rfl
    | 3, _ => rfl
    | 4, _ => rfl
  have hq1 : s.heap.size ≤ q := hD1.2 0 _ rfl
  have hPx : va_P D cl [(ax, .inr (cx_ci kx, fx))] H1 := hPx.kept (fun i z hz => by
    have h1 : i < 1 := (List.getElem?_eq_some_iff.mp hz).1
    have h2 : i = 0 := by omega
    subst h2
    cases hz
    have hlt := (hPx 0 _ rfl).lt
    exact hS1.2.1 _ hlt (Nat.not_le.mpr hlt))
  refine lv_dup hx hb dX1_made_94 rfl ?_
  refine lv_iload_n hx hb dX1_made_95 rfl (lv_at hl 0 rfl) ?_
  refine lv_aload_n hx hb dX1_made_96 rfl (lv_at hl 2 rfl) ?_
  refine am_callR (va_runI (own := RX1) (n := 2) (Ts := lw_all) (b := q) (As := [.int n, .ref ax]) (rest := [.ref q]) ⟨hx, hb, hml, hown, hts⟩ (jn_fenced hcl q H1.size n ax kx fx sx dx hkx hsx hdx) (cwI 2 hts (lw_meth q218) rfl rfl rfl (hts _ q84) (hts _ q216) (hts _ q217) rfl ⟨by decide, by decide, by decide +kernel⟩ ⟨Nat.le_of_ble_eq_true rfl, Nat.le_of_ble_eq_true rfl⟩) ⟨fun a U gg mk q => ⟨q.1, q.2.1, q.2.2.1, va_K.moved (u := U) (U := U.calling gg mk a) (Vm.Alike.refl U.vm) q.2.2.2.1, q.2.2.2.2⟩, fun U hU hW => ⟨rfl, by rw [hU], by rw [hU]; exact hP1, va_K.moved hW.alike hK, by rw [hU]; exact hPx⟩⟩ rfl rfl hl.1 rfl (lv_room (Nat.le_of_ble_eq_true rfl)) dX1_made_97 ⟨Nat.le_of_ble_eq_true rfl, Nat.le_of_ble_eq_true rfl⟩) (fun v st₀ t L h0 hWm hq hL => ?_)
  obtain ⟨hv, hP2, hF1, hF2⟩ := hq
  cases hv
  rw [h0] at hF1 hF2
  refine lv_goto hx hb dX1_made_100 rfl ?_
  refine W.aret hx hb hr (.inl ⟨_, rfl⟩) (.inr ⟨_, rfl⟩) (fun t1 ht hW => ⟨q, rfl, hq1, by rw [ht]; exact hP2, by rw [ht]; exact Nat.le_trans hS1.1 hF1, fun z h1 h2 => ?_⟩) (fun z hz => ?_) dX1_made_114 hlocks
  · rcases List.mem_append.mp hz with h | h
    · cases h
    · exact (hL z h).elim (fun e => e ▸ hq1) (fun e => Nat.le_trans hS1.1 e)
  · rw [ht, hF2 z (Nat.lt_of_lt_of_le h1 hS1.1) (fun e => e.elim (fun e => h2 (e ▸ hq1)) (fun e => absurd (Nat.lt_of_lt_of_le h1 hS1.1) (Nat.not_lt.mpr e)))]
    exact hS1.2.1 z h1 h2
theorem jn_made_9 (hcl : cx_clok cl) (sz : Nat) (n v : Int32) (ax kx : Nat) (fx : List Value) (sx dx : Int32) (hkx : kx ≤ 9) (hsx : fx[2]? = some (.int sx)) (hdx : fx[3]? = some (.int dx)) : Met l yX1_made (ws_ yX1_made cX1_made 5 (some (.object "FormulaVoice$Node"))) { frames := 4, cells := 1, slots := 6, locals := 160 } (fun a U => a = [.int n, .int (nI 9), .ref ax, .null, .int v].toArray ∧ U.heap.size = sz ∧ va_K D cl [] U ∧ va_P D cl [(ax, .inr (cx_ci kx, fx))] U.heap) (fun _ st o t => ∃ q, o = .returned (some (.ref q)) ∧ sz ≤ q ∧ va_P D cl [(q, .inr (9, [.int n, .int 9, .int (1 + sx), .int (1 + dx), .ref ax, .int v]))] t.heap ∧ va_F (fun z => sz ≤ z) st t) 1 6 (fun z => sz ≤ z) := by
  refine Met.ofW (cc := cX1_made) (maxL := 5) (ret := (some (.object "FormulaVoice$Node"))) (by decide) rfl ?_
  intro p e s m args below meth c s₁ B hml hv
  obtain ⟨rfl, hsz, hK, hPx⟩ := hv
  subst hsz
  have hP : va_P D cl [] s.heap := fun k q h => by cases h
  have hD : va_D (fun z => s.heap.size ≤ z) [] := ⟨fun i j a b h => (by cases h), fun k q h => (by cases h)⟩
  have hx := B.exec
  have hb := B.bytes
  have hr := B.returns
  have hts := atoms_spec (ws := ws_ yX1_made cX1_made 5 (some (.object "FormulaVoice$Node"))) B.pre
  have hts : ∀ w ∈ lw_all, w.before _ s = true := fun w h => hts w (List.mem_cons_of_mem _ h)
  have hown : s.vm.findClass RX1 = some m.cls := findClass_of_methodNamed B.named
  have hlocks := B.notSynchronized
  have hl := lv_entry ([.int n, .int (nI 9), .ref ax, .null, .int v]) (n := 5) (Nat.le_of_ble_eq_true rfl)
  rw [lg_entry_eq]
  generalize (lg_sl ([.int n, .int (nI 9), .ref ax, .null, .int v]) ++ List.replicate (5 - (lg_sl ([.int n, .int (nI 9), .ref ax, .null, .int v])).length) Slot.unset).toArray = ls at hl ⊢
  have hl : lv_has ls 5 [(0, .int n), (1, .int (nI 9)), (2, .ref ax), (3, .null), (4, .int v)] := hl
  refine lv_iload_n hx hb dX1_made_0 rfl (lv_at hl 1 rfl) ?_
  refine lv_if_ne hx hb dX1_made_1 rfl (fun _ => ?_) (fun h => False.elim (by revert h; decide))
  refine lv_iload_n hx hb dX1_made_16 rfl (lv_at hl 1 rfl) ?_
  refine lv_iconst hx hb dX1_made_17 rfl ?_
  refine lv_icmp_ne hx hb dX1_made_18 rfl (fun _ => ?_) (fun h => False.elim (by revert h; decide))
  refine lv_iload_n hx hb dX1_made_32 rfl (lv_at hl 1 rfl) ?_
  refine lv_iconst hx hb dX1_made_33 rfl ?_
  refine lv_icmp_ge hx hb dX1_made_34 rfl (fun _ => ?_) (fun h => False.elim (by revert h; decide))
  refine lv_iload_n hx hb dX1_made_49 rfl (lv_at hl 1 rfl) ?_
  refine lv_bipush hx hb dX1_made_50 rfl ?_
  refine lv_icmp_gt hx hb dX1_made_52 rfl (fun _ => ?_) (fun h => False.elim (by revert h; decide))
  refine lv_iload_n hx hb dX1_made_67 rfl (lv_at hl 1 rfl) ?_
  refine lv_bipush hx hb dX1_made_68 rfl ?_
  refine lv_icmp_ne hx hb dX1_made_70 rfl (fun _ => ?_) (fun h => False.elim (by revert h; decide))
  refine lv_iload_n hx hb dX1_made_85 rfl (lv_at hl 1 rfl) ?_
  refine lv_bipush hx hb dX1_made_86 rfl ?_
  refine lv_icmp_ne hx hb dX1_made_88 rfl (fun _ => ?_) (fun h => False.elim (by revert h; decide))
  refine va_new hx hb hts in_X14 tyX14 tyX14_ok hown (hts _ q226) (hts _ q227) (hts _ q85) hK hP hD va_S.rf (fun q h => h) (hcl 9 _ rfl) (fs := [.int 0, .int 0, .int 0, .int 0, .null, .int 0]) ?_ (Nat.le_of_ble_eq_true rfl) (Nat.le_of_ble_eq_true rfl) dX1_made_103 (fun q H1 hP1 hD1 hS1 => ?_)
  · intro j hj
    match j, hj with
    | 0, _ => rfl
    | 1, _ => rfl
    | 2, _ => rfl
    | 3, _ => rfl
    | 4, _ => rfl
    | 5, _ => rfl
  have hq1 : s.heap.size ≤ q := hD1.2 0 _ rfl
  have hPx : va_P D cl [(ax, .inr (cx_ci kx, fx))] H1 := hPx.kept (fun i z hz => by
    have h1 : i < 1 := (List.getElem?_eq_some_iff.mp hz).1
    have h2 : i = 0 := by omega
    subst h2
    cases hz
    have hlt := (hPx 0 _ rfl).lt
    exact hS1.2.1 _ hlt (Nat.not_le.mpr hlt))
  refine lv_dup hx hb dX1_made_106 rfl ?_
  refine lv_iload_n hx hb dX1_made_107 rfl (lv_at hl 0 rfl) ?_
  refine lv_iload hx hb dX1_made_108 (lv_at hl 4 rfl) ?_
  refine lv_aload_n hx hb dX1_made_110 rfl (lv_at hl 2 rfl) ?_
  refine am_callR (va_runI (own := RX1) (n := 3) (Ts := lw_all) (b := q) (As := [.int n, .int v, .ref ax]) (rest := [.ref q]) ⟨hx, hb, hml, hown, hts⟩ (jn_call hcl q H1.size n v ax kx fx sx dx hkx hsx hdx) (cwI 3 hts (lw_meth q230) rfl rfl rfl (hts _ q85) (hts _ q228) (hts _ q229) rfl ⟨by decide, by decide, by decide +kernel⟩ ⟨Nat.le_of_ble_eq_true rfl, Nat.le_of_ble_eq_true rfl⟩) ⟨fun a U gg mk q => ⟨q.1, q.2.1, q.2.2.1, va_K.moved (u := U) (U := U.calling gg mk a) (Vm.Alike.refl U.vm) q.2.2.2.1, q.2.2.2.2⟩, fun U hU hW => ⟨rfl, by rw [hU], by rw [hU]; exact hP1, va_K.moved hW.alike hK, by rw [hU]; exact hPx⟩⟩ rfl rfl hl.1 rfl (lv_room (Nat.le_of_ble_eq_true rfl)) dX1_made_111 ⟨Nat.le_of_ble_eq_true rfl, Nat.le_of_ble_eq_true rfl⟩) (fun v st₀ t L h0 hWm hq hL => ?_)
  obtain ⟨hv, hP2, hF1, hF2⟩ := hq
  cases hv
  rw [h0] at hF1 hF2
  refine W.aret hx hb hr (.inl ⟨_, rfl⟩) (.inr ⟨_, rfl⟩) (fun t1 ht hW => ⟨q, rfl, hq1, by rw [ht]; exact hP2, by rw [ht]; exact Nat.le_trans hS1.1 hF1, fun z h1 h2 => ?_⟩) (fun z hz => ?_) dX1_made_114 hlocks
  · rcases List.mem_append.mp hz with h | h
    · cases h
    · exact (hL z h).elim (fun e => e ▸ hq1) (fun e => Nat.le_trans hS1.1 e)
  · rw [ht, hF2 z (Nat.lt_of_lt_of_le h1 hS1.1) (fun e => e.elim (fun e => h2 (e ▸ hq1)) (fun e => absurd (Nat.lt_of_lt_of_le h1 hS1.1) (Nat.not_lt.mpr e)))]
    exact hS1.2.1 z h1 h2
end
