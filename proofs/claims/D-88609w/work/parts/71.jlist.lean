/-! ARRAYLIST: contracts of its members, over small worlds. (Printed by gen/jlist.py.) -/
section
variable {l : Launch} {D : va_G} {cl : List vw_C}
theorem jm_ci (i n : Int32) (hi : ¬ i < 0) (hn : i < n) : Met l yJ10_checkIndex (ws_ yJ10_checkIndex cJ10_checkIndex 3 (some .int)) { frames := 0, cells := 0, slots := 0, locals := 0 } (fun a U => a = [.int i, .int n, .null].toArray) (fun _ st o t => o = .returned (some (.int i)) ∧ t.heap = st.heap) 0 0 (fun _ => False) := by
  refine Met.ofW (cc := cJ10_checkIndex) (maxL := 3) (ret := (some .int)) (by decide) rfl ?_
  intro p e s m args below meth c s₁ B hml hv
  obtain rfl := hv
  have hx := B.exec
  have hb := B.bytes
  have hr := B.returns
  have hts := atoms_spec (ws := ws_ yJ10_checkIndex cJ10_checkIndex 3 (some .int)) B.pre
  have hts : ∀ w ∈ lw_all, w.before _ s = true := fun w h => hts w (List.mem_cons_of_mem _ h)
  have hown : s.vm.findClass RJ10 = some m.cls := findClass_of_methodNamed B.named
  have hlocks := B.notSynchronized
  have hl := lv_entry ([.int i, .int n, .null]) (n := 3) (Nat.le_of_ble_eq_true rfl)
  rw [lg_entry_eq]
  generalize (lg_sl ([.int i, .int n, .null]) ++ List.replicate (3 - (lg_sl ([.int i, .int n, .null])).length) Slot.unset).toArray = ls at hl ⊢
  have hl : lv_has ls 3 [(0, .int i), (1, .int n), (2, .null)] := hl
  refine lv_iload_n hx hb dJ10_checkIndex_0 rfl (lv_at hl 0 rfl) ?_
  refine lv_if_lt hx hb dJ10_checkIndex_1 rfl (fun h => absurd h hi) (fun _ => ?_)
  refine lv_iload_n hx hb dJ10_checkIndex_4 rfl (lv_at hl 0 rfl) ?_
  refine lv_iload_n hx hb dJ10_checkIndex_5 rfl (lv_at hl 1 rfl) ?_
  refine lv_icmp_lt hx hb dJ10_checkIndex_6 rfl (fun _ => ?_) (fun h => absurd hn h)
  refine lv_iload_n hx hb dJ10_checkIndex_16 rfl (lv_at hl 0 rfl) ?_
  exact W.iret hx hb hr (fun t ht hW => ⟨rfl, ht⟩) (fun _ h => by cases h) dJ10_checkIndex_17 hlocks
theorem jm_oci (i n : Int32) (hi : ¬ i < 0) (hn : i < n) : Met l yJ9_checkIndex (ws_ yJ9_checkIndex cJ9_checkIndex 2 (some .int)) { frames := 1, cells := 0, slots := 0, locals := 40 } (fun a U => a = [.int i, .int n].toArray) (fun _ st o t => o = .returned (some (.int i)) ∧ t.heap = st.heap) 0 0 (fun _ => False) := by
  refine Met.ofW (cc := cJ9_checkIndex) (maxL := 2) (ret := (some .int)) (by decide) rfl ?_
  intro p e s m args below meth c s₁ B hml hv
  obtain rfl := hv
  have hx := B.exec
  have hb := B.bytes
  have hr := B.returns
  have hts := atoms_spec (ws := ws_ yJ9_checkIndex cJ9_checkIndex 2 (some .int)) B.pre
  have hts : ∀ w ∈ lw_all, w.before _ s = true := fun w h => hts w (List.mem_cons_of_mem _ h)
  have hown : s.vm.findClass RJ9 = some m.cls := findClass_of_methodNamed B.named
  have hlocks := B.notSynchronized
  have hl := lv_entry ([.int i, .int n]) (n := 2) (Nat.le_of_ble_eq_true rfl)
  rw [lg_entry_eq]
  generalize (lg_sl ([.int i, .int n]) ++ List.replicate (2 - (lg_sl ([.int i, .int n])).length) Slot.unset).toArray = ls at hl ⊢
  have hl : lv_has ls 2 [(0, .int i), (1, .int n)] := hl
  refine lv_iload_n hx hb dJ9_checkIndex_0 rfl (lv_at hl 0 rfl) ?_
  refine lv_iload_n hx hb dJ9_checkIndex_1 rfl (lv_at hl 1 rfl) ?_
  refine lv_null hx hb dJ9_checkIndex_2 ?_
  refine am_callR (va_runS (own := RJ9) (n := 3) (Ts := lw_all) (As := [.int i, .int n, .null]) (rest := []) ⟨hx, hb, hml, hown, hts⟩ (jm_ci i n hi hn) (va_cwS 3 hts (lw_S q331 q332 q90 q333) rfl rfl rfl ⟨by decide, by decide, by decide +kernel⟩ ⟨by decide, by decide⟩) ⟨fun _ _ _ _ h => h, fun U hU hW => rfl⟩ rfl rfl hl.1 rfl (lv_room (Nat.le_of_ble_eq_true rfl)) dJ9_checkIndex_3 ⟨by decide, by decide⟩) (fun v st₀ t L h0 hWm hq hL => ?_)
  obtain ⟨hv, hH⟩ := hq
  cases hv
  rw [h0] at hH
  exact W.iret hx hb hr (fun t1 ht hW => ⟨rfl, ht.trans hH⟩) (fun q h => by rw [List.nil_append] at h; exact hL q h) dJ9_checkIndex_6 hlocks
theorem jm_size (hcl : cx_clok cl) (x : Nat) (mc n : Int32) (r : Value) : Met l yJ2_size (ws_ yJ2_size cJ2_size 1 (some .int)) { frames := 0, cells := 0, slots := 0, locals := 0 } (fun a U => a = [.ref x].toArray ∧ va_P D cl [(x, .inr (10, [.int mc, r, .int n]))] U.heap ∧ va_K D cl [] U) (fun _ st o t => o = .returned (some (.int n)) ∧ t.heap = st.heap) 0 0 (fun _ => False) := by
  refine Met.ofW (cc := cJ2_size) (maxL := 1) (ret := (some .int)) (by decide) rfl ?_
  intro p e s m args below meth c s₁ B hml hv
  obtain ⟨rfl, hP, hK⟩ := hv
  have hx := B.exec
  have hb := B.bytes
  have hr := B.returns
  have hts := atoms_spec (ws := ws_ yJ2_size cJ2_size 1 (some .int)) B.pre
  have hts : ∀ w ∈ lw_all, w.before _ s = true := fun w h => hts w (List.mem_cons_of_mem _ h)
  have hown : s.vm.findClass RJ2 = some m.cls := findClass_of_methodNamed B.named
  have hlocks := B.notSynchronized
  have hl := lv_entry ([.ref x]) (n := 1) (Nat.le_of_ble_eq_true rfl)
  rw [lg_entry_eq]
  generalize (lg_sl ([.ref x]) ++ List.replicate (1 - (lg_sl ([.ref x])).length) Slot.unset).toArray = ls at hl ⊢
  have hl : lv_has ls 1 [(0, .ref x)] := hl
  refine lv_aload_n hx hb dJ2_size_0 rfl (lv_at hl 0 rfl) ?_
  refine va_get (ci := 10) (v := .int n) (C := RJ2) (T := TJ2) (N := 3) hx hb hts in_J2 hown hK hP 0 rfl (hcl 10 _ rfl) 2 (by decide) (hts _ q653) (fun _ h9 => h9) rfl dJ2_size_1 ?_
  exact W.iret hx hb hr (fun t ht hW => ⟨rfl, ht⟩) (fun _ h => by cases h) dJ2_size_4 hlocks
theorem jm_ed (hcl : cx_clok cl) (x ea cap : Nat) (cA : ClassId) (mc n i : Int32) (g : Nat → Option Nat) (hin : vp_in i cap) : Met l yJ2_elementData (ws_ yJ2_elementData cJ2_elementData 2 (some (.object "java/lang/Object"))) { frames := 0, cells := 0, slots := 0, locals := 0 } (fun a U => a = [.ref x, .int i].toArray ∧ va_P D cl [(x, .inr (10, [.int mc, .ref ea, .int n])), (ea, .inl (cA, cap, .inr (.inr (.inr (.inr g)))))] U.heap ∧ va_K D cl [(cA, .object "java/lang/Object")] U) (fun _ st o t => o = .returned (some (va_rf (g i.toNatClampNeg))) ∧ t.heap = st.heap) 0 0 (fun _ => False) := by
  refine Met.ofW (cc := cJ2_elementData) (maxL := 2) (ret := (some (.object "java/lang/Object"))) (by decide) rfl ?_
  intro p e s m args below meth c s₁ B hml hv
  obtain ⟨rfl, hP, hK⟩ := hv
  have hx := B.exec
  have hb := B.bytes
  have hr := B.returns
  have hts := atoms_spec (ws := ws_ yJ2_elementData cJ2_elementData 2 (some (.object "java/lang/Object"))) B.pre
  have hts : ∀ w ∈ lw_all, w.before _ s = true := fun w h => hts w (List.mem_cons_of_mem _ h)
  have hown : s.vm.findClass RJ2 = some m.cls := findClass_of_methodNamed B.named
  have hlocks := B.notSynchronized
  have hl := lv_entry ([.ref x, .int i]) (n := 2) (Nat.le_of_ble_eq_true rfl)
  rw [lg_entry_eq]
  generalize (lg_sl ([.ref x, .int i]) ++ List.replicate (2 - (lg_sl ([.ref x, .int i])).length) Slot.unset).toArray = ls at hl ⊢
  have hl : lv_has ls 2 [(0, .ref x), (1, .int i)] := hl
  refine lv_aload_n hx hb dJ2_elementData_0 rfl (lv_at hl 0 rfl) ?_
  refine va_get (ci := 10) (v := .ref ea) (C := RJ2) (T := TJ2) (N := 3) hx hb hts in_J2 hown hK hP 0 rfl (hcl 10 _ rfl) 1 (by decide) (hts _ q652) (fun _ h9 => h9) rfl dJ2_elementData_1 ?_
  refine lv_iload_n hx hb dJ2_elementData_4 rfl (lv_at hl 1 rfl) ?_
  refine va_aldq hx hb hK hP 1 0 rfl rfl hin dJ2_elementData_5 ?_
  exact W.aret hx hb hr (.inl ⟨_, rfl⟩) (by cases g i.toNatClampNeg with | none => exact .inl rfl | some z => exact .inr ⟨z, rfl⟩) (fun t ht hW => ⟨rfl, ht⟩) (fun _ h => by cases h) dJ2_elementData_6 hlocks
theorem jm_get (hcl : cx_clok cl) (x ea cap : Nat) (cA : ClassId) (mc n i : Int32) (g : Nat → Option Nat) (hin : vp_in i cap) (hi : ¬ i < 0) (hn : i < n) : Met l yJ2_get (ws_ yJ2_get cJ2_get 2 (some (.object "java/lang/Object"))) { frames := 2, cells := 0, slots := 0, locals := 80 } (fun a U => a = [.ref x, .int i].toArray ∧ va_P D cl [(x, .inr (10, [.int mc, .ref ea, .int n])), (ea, .inl (cA, cap, .inr (.inr (.inr (.inr g)))))] U.heap ∧ va_K D cl [(cA, .object "java/lang/Object")] U) (fun _ st o t => o = .returned (some (va_rf (g i.toNatClampNeg))) ∧ t.heap = st.heap) 0 0 (fun _ => False) := by
  refine Met.ofW (cc := cJ2_get) (maxL := 2) (ret := (some (.object "java/lang/Object"))) (by decide) rfl ?_
  intro p e s m args below meth c s₁ B hml hv
  obtain ⟨rfl, hP, hK⟩ := hv
  have hx := B.exec
  have hb := B.bytes
  have hr := B.returns
  have hts := atoms_spec (ws := ws_ yJ2_get cJ2_get 2 (some (.object "java/lang/Object"))) B.pre
  have hts : ∀ w ∈ lw_all, w.before _ s = true := fun w h => hts w (List.mem_cons_of_mem _ h)
  have hown : s.vm.findClass RJ2 = some m.cls := findClass_of_methodNamed B.named
  have hlocks := B.notSynchronized
  have hl := lv_entry ([.ref x, .int i]) (n := 2) (Nat.le_of_ble_eq_true rfl)
  rw [lg_entry_eq]
  generalize (lg_sl ([.ref x, .int i]) ++ List.replicate (2 - (lg_sl ([.ref x, .int i])).length) Slot.unset).toArray = ls at hl ⊢
  have hl : lv_has ls 2 [(0, .ref x), (1, .int i)] := hl
  refine lv_iload_n hx hb dJ2_get_0 rfl (lv_at hl 1 rfl) ?_
  refine lv_aload_n hx hb dJ2_get_1 rfl (lv_at hl 0 rfl) ?_
  refine va_get (ci := 10) (v := .int n) (C := RJ2) (T := TJ2) (N := 3) hx hb hts in_J2 hown hK hP 0 rfl (hcl 10 _ rfl) 2 (by decide) (hts _ q653) (fun _ h9 => h9) rfl dJ2_get_2 ?_
  refine am_callR (va_runS (own := RJ2) (n := 2) (Ts := lw_all) (As := [.int i, .int n]) (rest := []) ⟨hx, hb, hml, hown, hts⟩ (jm_oci i n hi hn) (va_cwS 2 hts (lw_S q328 q329 q89 q330) rfl rfl rfl ⟨by decide, by decide, by decide +kernel⟩ ⟨by decide, by decide⟩) ⟨fun _ _ _ _ h => h, fun U hU hW => rfl⟩ rfl rfl hl.1 rfl (lv_room (Nat.le_of_ble_eq_true rfl)) dJ2_get_5 ⟨by decide, by decide⟩) (fun v st₀ t L h0 hWm hq hL => ?_)
  obtain ⟨hv, hH⟩ := hq
  cases hv
  rw [h0] at hH
  rw [hH]
  refine lv_pop hx hb dJ2_get_8 rfl ?_
  refine lv_aload_n hx hb dJ2_get_9 rfl (lv_at hl 0 rfl) ?_
  refine lv_iload_n hx hb dJ2_get_10 rfl (lv_at hl 1 rfl) ?_
  refine am_callR (va_runV (own := RJ2) (C := RJ2) (n := 1) (Ts := lw_all) (b := x) (As := [.int i]) (rest := []) ⟨hx, hb, hml, hown, hts⟩ (jm_ed hcl x ea cap cA mc n i g hin) (cwV 1 hts (lw_V q334 q335 q336 q68 q337) rfl rfl rfl ⟨rfl, by decide, by decide, by decide +kernel⟩ ⟨by decide, by decide⟩) ⟨fun a U g mk q => ⟨q.1, q.2.1, va_K.moved (u := U) (U := U.calling g mk a) (Vm.Alike.refl U.vm) q.2.2⟩, va_recv hK hP (hcl 10 _ rfl) (q0 := 0) rfl, fun U hU hW => ⟨rfl, by rw [hU]; exact hP, va_K.moved hW.alike hK⟩⟩ rfl rfl hl.1 rfl (lv_room (Nat.le_of_ble_eq_true rfl)) dJ2_get_11 ⟨by decide, by decide⟩) (fun v st₀ t L h0 hWm hq hL => ?_)
  obtain ⟨hv, hH2⟩ := hq
  cases hv
  rw [‹st₀.heap = s.heap›] at hH2
  exact W.aret hx hb hr (.inl ⟨_, rfl⟩) (by cases g i.toNatClampNeg with | none => exact .inl rfl | some z => exact .inr ⟨z, rfl⟩) (fun t1 ht hW => ⟨rfl, ht.trans hH2⟩) (fun q h => by rcases List.mem_append.mp h with h | h; exact ‹∀ q ∈ _, False› q h; exact hL q h) dJ2_get_14 hlocks
end
