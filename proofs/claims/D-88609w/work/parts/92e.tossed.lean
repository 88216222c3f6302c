set_option maxRecDepth 100000
/-! WHAT A NODE THROWS: Tossed, the nodes' failures. -/
section
variable {l : Launch} {D : va_G} {cl : List vw_C}
/-- an object is whatever its slots hold -/
theorem ob_of {args : Array Value} {s : State} (hts : ∀ w ∈ lw_all, w.before args s = true) {C : String} {T : u_T} {N ci : Nat} (hin : ∀ w ∈ u_ws C T N, w ∈ lw_all) {tys : List (ClassId × FieldType)} (hK : va_K D cl tys s) (hc : cl[ci]? = some (C, T, N)) (hinst : Cond.instantiable C N ∈ lw_all) {H : Heap} {a : Nat} {ce : Cell} (h : H[a]? = some ce) (hcls : s.vm.findClass C = some ce.cls) (hvm : ce.vm = .none) (hsz : ce.slots.size = N) : ∃ fs : List Value, fs.length = N ∧ va_at D cl (a, .inr (ci, fs)) H := by
  obtain ⟨hS, hfc, kC, hkC, hkind⟩ := hK.1 ci _ hc
  obtain ⟨c1, k1, hc1, hk1, -, -, -, hn⟩ := Cond.instantiable_spec (hts _ hinst)
  cases Option.some.inj (hc1.symm.trans hfc)
  cases Option.some.inj (hk1.symm.trans hkC)
  refine ⟨(List.range N).map fun k => (ce.slots[D.2 ci k]?).getD .null, by simp, _, hc, ce, h, Option.some.inj (hcls.symm.trans hfc), hvm, fun k hk => ?_⟩
  obtain ⟨cf, kf, fi, f, hi, hsl⟩ := hS k hk
  have hty := (u_facts hfc hkC (u_lays hts hin hk) hi).2.2
  have hlt : D.2 ci k < ce.slots.size := by
    rw [hsz, ← hn, ← hsl]
    exact (Array.getElem?_eq_some_iff.mp hty).1
  have hk' : k < N := hk
  rw [vp_V, List.getD_eq_getElem?_getD, List.getElem?_map, List.getElem?_range hk']
  simp [Array.getElem?_eq_getElem hlt]
def to_A (x sz : Nat) : Nat → Prop := fun q => q = x ∨ sz ≤ q
def to_Pc (x sz : Nat) (v : Int32) (D : va_G) (cl : List vw_C) : Array Value → State → Prop := fun a U => a = [.ref x, .int v].toArray ∧ U.heap.size = sz ∧ (∃ cX kX, U.vm.findClass RX15 = some cX ∧ U.vm.classes[cX]? = some kX ∧ U.heap[x]? = some (freshCell cX { kX with resolved := kX.resolved })) ∧ va_K D cl [] U ∧ sx_N U ∧ ex_ZL (to_A x sz) U U.heap
def to_Qc (x sz : Nat) (v : Int32) (D : va_G) (cl : List vw_C) : Array Value → State → Outcome → State → Prop := fun _ st o t => o = .returned none ∧ (∃ fs, fs[6]? = some (.int v) ∧ va_at D cl (x, .inr (14, fs)) t.heap) ∧ va_F (to_A x sz) st t
theorem cb_to : cx_cb yX15_init (ws_ yX15_init cX15_init 2 none) 2 := cx_cb.of q1112 q99 ⟨by decide, by decide⟩ (by decide)
theorem to_init (hfl : l.flags = flags0) (h14 : cl[14]? = some (RX15, TX15, 7)) (x sz : Nat) (v : Int32) : xm_Met l yX15_init (ws_ yX15_init cX15_init 2 none) { frames := 8, cells := 0, slots := 0, locals := 200 } (to_Pc x sz v D cl) (to_Qc x sz v D cl) 0 0 (to_A x sz) := by
  refine sx_ofW (cc := cX15_init) (maxL := 2) (ret := none) (hh := []) (by decide) (.inl ⟨rfl, rfl⟩) ?_
  intro p e s m args below meth c hadm hx hb hml hret hlocks hnm hts hown hex hP
  obtain ⟨rfl, rfl, ⟨cX, kX, hfX, hkX, hcell⟩, hK, hN, hZ⟩ := hP
  have htr : e.platform.stackTraces = false := Launch.traces_off hfl hadm
  have hl := lv_entry ([.ref x, .int v]) (n := 2) (Nat.le_of_ble_eq_true rfl)
  rw [lg_entry_eq]
  generalize (lg_sl ([.ref x, .int v]) ++ List.replicate (2 - (lg_sl ([.ref x, .int v])).length) Slot.unset).toArray = ls at hl ⊢
  have hl : lv_has ls 2 [(0, .ref x), (1, .int v)] := hl
  refine lv_aload_n hx hb dX15_init_0 rfl (lv_at hl 0 rfl) ?_
  -- 1: .invokespecial 1
  refine sx_ctor hx hb htr hts hN hZ va_S.rf (by rw [hml]; exact hl.1) hown (names := [Bundle.eN]) (by decide +kernel) (by decide +kernel) exTo_in (by decide) hfX hkX hcell (.inl rfl) dX15_init_1 ⟨by decide, by decide⟩ (fun H1 L hz hk hce hL => ?_)
  obtain ⟨ce, c1, c2, c3, c4⟩ := hce
  obtain ⟨fs, hfs, hat⟩ := ob_of hts in_X15 hK h14 q1102 c1 (by rw [c2]; exact hfX) c3 c4
  have hS1 : va_S (to_A x s.heap.size) s.heap H1 ([] ++ L) := ⟨by omega, fun q h1 h2 => hk q fun z => h2 (.inl z), fun q hq => by rw [List.nil_append] at hq; exact .inl (hL q hq)⟩
  have hD1 : va_D (to_A x s.heap.size) [(x, .inr (14, fs))] := ⟨fun i j a b ha hb _ => by
    have h1 : i < 1 := (List.getElem?_eq_some_iff.mp ha).1
    have h2 : j < 1 := (List.getElem?_eq_some_iff.mp hb).1
    omega, fun k q hk => by
    have h1 : k < 1 := (List.getElem?_eq_some_iff.mp hk).1
    have h2 : k = 0 := by omega
    subst h2
    cases hk
    exact .inl rfl⟩
  refine lv_aload_n hx hb dX15_init_4 rfl (lv_at hl 0 rfl) ?_
  refine lv_iload_n hx hb dX15_init_5 rfl (lv_at hl 1 rfl) ?_
  -- 6: .putfield 7
  refine va_putF (ci := 14) (v := .int v) (ty := .int) (C := RX15) (T := TX15) (N := 7) hx hb hts in_X15 tyX15 tyX15_ok nmX15 hown hK (va_P1 hat) hD1 hS1 0 rfl h14 6 (by decide) (hts _ q1114) (fun _ h9 => h9) rfl hnm rfl (by decide +kernel) rfl rfl (by rw [hfs]; decide) dX15_init_6 (fun H2 locs2 hP2 hD2 hS2 => ?_)
  have hat2 : va_at D cl (x, .inr (14, fs.set 6 (.int v))) H2 := hP2 0 _ rfl
  exact xm_W (W.vret hx hb hret (fun t1 ht hW => ⟨rfl, ⟨_, List.getElem?_set_self (by rw [hfs]; decide), by rw [ht]; exact hat2⟩, hS2.F ht⟩) hS2.2.2 dX15_init_9 hlocks) (fun t => xm_MQ.of)
end
