/-! ARRAYLIST GROWS. (Printed by gen/jlist2.py.) -/
section
variable {l : Launch} {D : va_G} {cl : List vw_C}
theorem jm_nl (c0 a0 b0 r : Int32) (hr0 : c0 + (if a0 < b0 then b0 else a0) = r) (h1 : ¬ r ≤ 0) (h2 : ¬ 2147483639 < r) : Met l yJ7_newLength (ws_ yJ7_newLength cJ7_newLength 4 (some .int)) { frames := 1, cells := 0, slots := 0, locals := 40 } (fun a U => a = [.int c0, .int a0, .int b0].toArray) (fun _ st o t => o = .returned (some (.int r)) ∧ t.heap = st.heap) 0 0 (fun _ => False) := by
  refine Met.ofW (cc := cJ7_newLength) (maxL := 4) (ret := (some .int)) (by decide) rfl ?_
  intro p e s m args below meth c s₁ B hml hv
  obtain rfl := hv
  have hx := B.exec
  have hb := B.bytes
  have hr := B.returns
  have hts := atoms_spec (ws := ws_ yJ7_newLength cJ7_newLength 4 (some .int)) B.pre
  have hts : ∀ w ∈ lw_all, w.before _ s = true := fun w h => hts w (List.mem_cons_of_mem _ h)
  have hown : s.vm.findClass RJ7 = some m.cls := findClass_of_methodNamed B.named
  have hlocks := B.notSynchronized
  have hl := lv_entry ([.int c0, .int a0, .int b0]) (n := 4) (Nat.le_of_ble_eq_true rfl)
  rw [lg_entry_eq]
  generalize (lg_sl ([.int c0, .int a0, .int b0]) ++ List.replicate (4 - (lg_sl ([.int c0, .int a0, .int b0])).length) Slot.unset).toArray = ls at hl ⊢
  have hl : lv_has ls 4 [(0, .int c0), (1, .int a0), (2, .int b0)] := hl
  refine lv_iload_n hx hb dJ7_newLength_0 rfl (lv_at hl 0 rfl) ?_
  refine lv_iload_n hx hb dJ7_newLength_1 rfl (lv_at hl 1 rfl) ?_
  refine lv_iload_n hx hb dJ7_newLength_2 rfl (lv_at hl 2 rfl) ?_
  refine va_mmax hx hb (hml.trans hl.1.symm) hown (hts _ q268) (hts _ q173) (hts _ q81) (hts _ q174) (by decide) (Nat.le_of_ble_eq_true rfl) (by decide) (by decide) dJ7_newLength_3 ?_
  refine lv_iadd hx hb dJ7_newLength_6 ?_
  rw [hr0]
  refine lv_istore_n hx hb dJ7_newLength_7 rfl hl (by decide) rfl (fun ls hl => ?_)
  refine lv_iconst hx hb dJ7_newLength_8 rfl ?_
  refine lv_iload_n hx hb dJ7_newLength_9 rfl (lv_at hl 0 rfl) ?_
  refine lv_icmp_ge hx hb dJ7_newLength_10 rfl (fun h => absurd h h1) (fun _ => ?_)
  refine lv_iload_n hx hb dJ7_newLength_13 rfl (lv_at hl 0 rfl) ?_
  refine lv_ldc hx hb hown (hts _ q269) dJ7_newLength_14 ?_
  refine lv_icmp_gt hx hb dJ7_newLength_16 rfl (fun h => absurd h h2) (fun _ => ?_)
  refine lv_iload_n hx hb dJ7_newLength_19 rfl (lv_at hl 0 rfl) ?_
  exact W.iret hx hb hr (fun t ht hW => ⟨rfl, ht⟩) (fun _ h => by cases h) dJ7_newLength_20 hlocks
theorem jm_co2 (ea cap N mi sz : Nat) (cA : ClassId) (g : Nat → Option Nat) (hN : cap ≤ N) (hN2 : N ≤ 100000) : Met l yJ8_copyOf_2 (ws_ yJ8_copyOf_2 cJ8_copyOf_2 4 (some (.array (.object "java/lang/Object")))) { frames := 1, cells := 1, slots := N, locals := 40 } (fun a U => a = [.ref ea, .int (nI N), .ref mi].toArray ∧ U.heap.size = sz ∧ va_P D cl [(ea, .inl (cA, cap, .inr (.inr (.inr (.inr g)))))] U.heap ∧ va_K D cl [(cA, .object "java/lang/Object")] U ∧ va_AO "java/lang/Object" U ∧ va_Mi "[Ljava/lang/Object;" mi U ∧ va_Dc U ∧ ∀ j y, j < cap → g j = some y → y < sz ∧ va_Any "java/lang/Object" U U.heap y) (fun _ st o t => ∃ q, o = .returned (some (.ref q)) ∧ sz ≤ q ∧ va_P D cl [(q, .inl (cA, N, .inr (.inr (.inr (.inr (va_cpy g (fun _ => none) 0 0 cap))))))] t.heap ∧ va_F (fun z => sz ≤ z) st t) 1 N (fun z => z = ea ∨ sz ≤ z) := by
  refine Met.ofW (cc := cJ8_copyOf_2) (maxL := 4) (ret := (some (.array (.object "java/lang/Object")))) (by decide) rfl ?_
  intro p e s m args below meth c s₁ B hml hv
  obtain ⟨rfl, hsz, hP, hK, hAO, hMi, hDc, hel⟩ := hv
  subst hsz
  have hD : va_D (fun z => z = ea ∨ s.heap.size ≤ z) [(ea, .inl (cA, cap, .inr (.inr (.inr (.inr g)))))] := ⟨fun i j a b ha hb _ => by
    have h1 : i < 1 := (List.getElem?_eq_some_iff.mp ha).1
    have h2 : j < 1 := (List.getElem?_eq_some_iff.mp hb).1
    omega, fun k q hk => by
    have h1 : k < 1 := (List.getElem?_eq_some_iff.mp hk).1
    have h2 : k = 0 := by omega
    subst h2
    cases hk
    exact .inl rfl⟩
  have hx := B.exec
  have hb := B.bytes
  have hr := B.returns
  have hts := atoms_spec (ws := ws_ yJ8_copyOf_2 cJ8_copyOf_2 4 (some (.array (.object "java/lang/Object")))) B.pre
  have hts : ∀ w ∈ lw_all, w.before _ s = true := fun w h => hts w (List.mem_cons_of_mem _ h)
  have hown : s.vm.findClass RJ8 = some m.cls := findClass_of_methodNamed B.named
  have hlocks := B.notSynchronized
  have hl := lv_entry ([.ref ea, .int (nI N), .ref mi]) (n := 4) (Nat.le_of_ble_eq_true rfl)
  rw [lg_entry_eq]
  generalize (lg_sl ([.ref ea, .int (nI N), .ref mi]) ++ List.replicate (4 - (lg_sl ([.ref ea, .int (nI N), .ref mi])).length) Slot.unset).toArray = ls at hl ⊢
  have hl : lv_has ls 4 [(0, .ref ea), (1, .int (nI N)), (2, .ref mi)] := hl
  refine lv_aload_n hx hb dJ8_copyOf_2_0 rfl (lv_at hl 2 rfl) ?_
  refine va_ldcM hx hb hown (hts _ q304) hMi dJ8_copyOf_2_1 ?_
  refine lv_acmp_ne (rx := some mi) (ry := some mi) hx hb dJ8_copyOf_2_3 rfl (fun h => absurd rfl h) (fun _ => ?_)
  refine lv_iload_n hx hb dJ8_copyOf_2_6 rfl (lv_at hl 1 rfl) ?_
  refine va_newq hx hb hown (hts _ q306) hAO hK hP hD va_S.rf (fun q h => .inr h) (n := nI N) (N' := N) (nI_pos (by omega)) (nI_clamp (by omega)) (by omega) (Nat.le_of_ble_eq_true rfl) (by show 0 + N ≤ N; omega) dJ8_copyOf_2_7 (fun q cB H1 hK1 hP1 hD1 hS1 => ?_)
  have hcB : cB = cA := by
    obtain ⟨_, _, _, _, _, e1⟩ := (hK1.2 0 _ rfl).2
    obtain ⟨_, _, _, _, _, e2⟩ := (hK1.2 1 _ rfl).2
    exact Option.some.inj (e2.symm.trans e1)
  subst hcB
  rw [Nat.zero_add N]
  refine lv_goto hx hb dJ8_copyOf_2_10 rfl ?_
  refine lv_astore_n hx hb dJ8_copyOf_2_24 rfl hl (by decide) rfl (fun ls hl => ?_)
  refine lv_aload_n hx hb dJ8_copyOf_2_25 rfl (lv_at hl 1 rfl) ?_
  refine lv_iconst hx hb dJ8_copyOf_2_26 rfl ?_
  refine lv_aload_n hx hb dJ8_copyOf_2_27 rfl (lv_at hl 0 rfl) ?_
  refine lv_iconst hx hb dJ8_copyOf_2_28 rfl ?_
  refine lv_aload_n hx hb dJ8_copyOf_2_29 rfl (lv_at hl 1 rfl) ?_
  refine va_alen hx hb hK1 hP1 0 0 rfl rfl rfl dJ8_copyOf_2_30 ?_
  refine lv_iload_n hx hb dJ8_copyOf_2_31 rfl (lv_at hl 2 rfl) ?_
  refine va_mmin hx hb (hml.trans hl.1.symm) hown (hts _ q307) (hts _ q308) (hts _ q81) (hts _ q309) (Nat.le_of_ble_eq_true rfl) (Nat.le_of_ble_eq_true rfl) (Nat.le_of_ble_eq_true rfl) (Nat.le_refl _) dJ8_copyOf_2_32 ?_
  have hmin : (if nI N < Int32.ofNat cap then nI N else Int32.ofNat cap) = nI cap := if_neg (nI_nlt (by omega) (by omega))
  rw [hmin]
  have e0 : (nI cap).toNatClampNeg = cap := nI_clamp (by omega)
  refine va_copyM hx hb (hml.trans hl.1.symm) hown (hts _ q310) (hts _ q312) (hts _ q311) (hts _ q88) hK1 hP1 hD1 hS1 0 1 0 1 (E0 := "java/lang/Object") (E1 := "java/lang/Object") rfl rfl rfl rfl (by decide) (by decide) (nI_pos (by omega)) (by rw [e0]; show 0 + cap ≤ cap; omega) (by rw [e0]; show 0 + cap ≤ N; omega) (fun i hi y hy => ?_) (Nat.le_of_ble_eq_true rfl) (by rw [show nativeFrameWords "java/lang/System" "arraycopy" 5 = 7 by decide +kernel]; exact Nat.le_of_ble_eq_true rfl) dJ8_copyOf_2_35 (fun H2 locs2 hP2 hD2 hS2 => ?_)
  · rw [e0] at hi
    have hy : g (0 + i) = some y := hy
    rw [Nat.zero_add] at hy
    obtain ⟨hlt, cellV, v1, v2, v3, v4⟩ := hel i y hi hy
    by_cases hye : y = ea
    · subst hye
      have := hP1 0 _ rfl
      refine ⟨cellV, ?_, v2, v3, v4⟩
      have h2 : s.heap[y]? = some (vp_cell cB (cap, .inr (.inr (.inr (.inr g))))) := hP 0 _ rfl
      have h3 : H1[y]? = some (vp_cell cB (cap, .inr (.inr (.inr (.inr g))))) := hP1 0 _ rfl
      rw [h3, ← h2]
      exact v1
    · refine ⟨cellV, ?_, v2, v3, v4⟩
      rw [hS1.2.1 y hlt (fun z => z.elim hye (fun z => absurd hlt (Nat.not_lt.mpr z)))]
      exact v1
  rw [e0] at hP2 hD2
  refine lv_aload_n hx hb dJ8_copyOf_2_38 rfl (lv_at hl 0 rfl) ?_
  have hq1 : s.heap.size ≤ q := by
    have hA := hD1.2 1 _ rfl
    rcases hA with hA | hA
    · exact absurd (hD1.1 1 0 _ _ rfl rfl hA) (by decide)
    · exact hA
  refine W.aret hx hb hr (.inr ⟨_, rfl⟩) (.inr ⟨_, rfl⟩) (fun t ht hW => ⟨q, rfl, hq1, ?_, ?_⟩) ?_ dJ8_copyOf_2_39 hlocks
  · exact hS2.2.2
  · rw [ht]
    exact hP2.sub [1] rfl
  · refine ⟨by rw [ht]; exact hS2.1, fun z h1 h2 => ?_⟩
    rw [ht]
    by_cases hz : z = ea
    · subst hz
      have h2 : s.heap[z]? = some (vp_cell cB (cap, .inr (.inr (.inr (.inr g))))) := hP 0 _ rfl
      have h3 : H2[z]? = some (vp_cell cB (cap, .inr (.inr (.inr (.inr g))))) := hP2 0 _ rfl
      rw [h2, h3]
    · exact hS2.2.1 z h1 (fun y => y.elim hz h2)
theorem jm_any {U V : State} {H : Heap} {y : Nat} (hal : U.vm.Alike V.vm) (h : va_Any "java/lang/Object" U H y) : va_Any "java/lang/Object" V H y := by
  obtain ⟨cell, h1, h2, ⟨kC, h3⟩, h4⟩ := h
  obtain ⟨k', h3', -⟩ := hal.2.2 _ _ h3
  exact ⟨cell, h1, h2, ⟨k', h3'⟩, fun comp hc => by rw [hal.assignable]; exact h4 comp (by rw [← hal.findClass]; exact hc)⟩
theorem jm_co (ea cap N sz : Nat) (cA : ClassId) (g : Nat → Option Nat) (hN : cap ≤ N) (hN2 : N ≤ 100000) : Met l yJ8_copyOf (ws_ yJ8_copyOf cJ8_copyOf 2 (some (.array (.object "java/lang/Object")))) { frames := 2, cells := 1, slots := N, locals := 80 } (fun a U => a = [.ref ea, .int (nI N)].toArray ∧ U.heap.size = sz ∧ va_P D cl [(ea, .inl (cA, cap, .inr (.inr (.inr (.inr g)))))] U.heap ∧ va_K D cl [(cA, .object "java/lang/Object")] U ∧ jm_S U ∧ ∀ j y, j < cap → g j = some y → y < sz ∧ va_Any "java/lang/Object" U U.heap y) (fun _ st o t => ∃ q, o = .returned (some (.ref q)) ∧ sz ≤ q ∧ va_P D cl [(q, .inl (cA, N, .inr (.inr (.inr (.inr (va_cpy g (fun _ => none) 0 0 cap))))))] t.heap ∧ va_F (fun z => sz ≤ z) st t) 1 N (fun z => z = ea ∨ sz ≤ z) := by
  refine Met.ofW (cc := cJ8_copyOf) (maxL := 2) (ret := (some (.array (.object "java/lang/Object")))) (by decide) rfl ?_
  intro p e s m args below meth c s₁ B hml hv
  obtain ⟨rfl, hsz, hP, hK, ⟨hAO, ⟨mi, hMi⟩, hDc⟩, hel⟩ := hv
  subst hsz
  have hx := B.exec
  have hb := B.bytes
  have hr := B.returns
  have hts := atoms_spec (ws := ws_ yJ8_copyOf cJ8_copyOf 2 (some (.array (.object "java/lang/Object")))) B.pre
  have hts : ∀ w ∈ lw_all, w.before _ s = true := fun w h => hts w (List.mem_cons_of_mem _ h)
  have hown : s.vm.findClass RJ8 = some m.cls := findClass_of_methodNamed B.named
  have hlocks := B.notSynchronized
  have hl := lv_entry ([.ref ea, .int (nI N)]) (n := 2) (Nat.le_of_ble_eq_true rfl)
  rw [lg_entry_eq]
  generalize (lg_sl ([.ref ea, .int (nI N)]) ++ List.replicate (2 - (lg_sl ([.ref ea, .int (nI N)])).length) Slot.unset).toArray = ls at hl ⊢
  have hl : lv_has ls 2 [(0, .ref ea), (1, .int (nI N))] := hl
  refine lv_aload_n hx hb dJ8_copyOf_0 rfl (lv_at hl 0 rfl) ?_
  refine lv_iload_n hx hb dJ8_copyOf_1 rfl (lv_at hl 1 rfl) ?_
  refine lv_aload_n hx hb dJ8_copyOf_2 rfl (lv_at hl 0 rfl) ?_
  have hnm : s.vm.findClass "[Ljava/lang/Object;" = some cA := by
    obtain ⟨_, _, _, _, _, e1⟩ := (hK.2 0 _ rfl).2
    exact e1
  refine va_getC hx hb (hml.trans hl.1.symm) hown (hts _ q276) hDc.use (hts _ q1665) (hts _ q277) (hts _ q300) hMi ⟨_, hP 0 _ rfl, rfl, hnm⟩ (Nat.le_of_ble_eq_true rfl) (Nat.le_of_ble_eq_true rfl) dJ8_copyOf_3 ?_
  refine am_callR (va_runS (own := RJ8) (n := 3) (Ts := lw_all) (As := [.ref ea, .int (nI N), .ref mi]) (rest := []) ⟨hx, hb, hml, hown, hts⟩ (jm_co2 ea cap N mi s.heap.size cA g hN hN2) (va_cwS 3 hts (lw_S q301 q302 q87 q303) rfl rfl rfl ⟨by decide, by decide, by decide +kernel⟩ ⟨Nat.le_of_ble_eq_true rfl, Nat.le_of_ble_eq_true rfl⟩) ⟨fun a U gg mk q => ⟨q.1, q.2.1, q.2.2.1, va_K.moved (u := U) (U := U.calling gg mk a) (Vm.Alike.refl U.vm) q.2.2.2.1, va_AO.moved (u := U) (U := U.calling gg mk a) (Vm.Alike.refl U.vm) q.2.2.2.2.1, va_Mi.moved (u := U) (U := U.calling gg mk a) (Vm.Alike.refl U.vm) q.2.2.2.2.2.1, va_Dc.moved (u := U) (U := U.calling gg mk a) (Vm.Alike.refl U.vm) q.2.2.2.2.2.2.1, fun j y h1 h2 => ⟨(q.2.2.2.2.2.2.2 j y h1 h2).1, jm_any (U := U) (V := U.calling gg mk a) (Vm.Alike.refl U.vm) (q.2.2.2.2.2.2.2 j y h1 h2).2⟩⟩, fun U hU hW => ⟨rfl, by rw [hU], by rw [hU]; exact hP, va_K.moved hW.alike hK, hAO.moved hW.alike, hMi.moved hW.alike, hDc.moved hW.alike, fun j y h1 h2 => by rw [hU]; exact ⟨(hel j y h1 h2).1, jm_any hW.alike (hel j y h1 h2).2⟩⟩⟩ rfl rfl hl.1 rfl (lv_room (Nat.le_of_ble_eq_true rfl)) dJ8_copyOf_6 ⟨Nat.le_of_ble_eq_true rfl, by show 0 + N ≤ N; omega⟩) (fun v st₀ t L h0 hWm hq hL => ?_)
  obtain ⟨q, hv, hq1, hP1, hF⟩ := hq
  cases hv
  rw [Nat.zero_add N]
  obtain ⟨hF1, hF2⟩ := hF
  rw [h0] at hF1 hF2
  refine W.aret hx hb hr (.inr ⟨_, rfl⟩) (.inr ⟨_, rfl⟩) (fun t1 ht hW => ⟨q, rfl, hq1, by rw [ht]; exact hP1, by rw [ht]; exact hF1, fun z h1 h2 => by rw [ht]; exact hF2 z h1 h2⟩) (fun z h => by rw [List.nil_append] at h; exact hL z h) dJ8_copyOf_9 hlocks
end
