set_option maxRecDepth 100000
/-! A CAST THAT FAILS: its note, its text. -/
theorem home_len {U : State} (hm : modulesRight_1 U = true) {k : Class} (hl : k.loader = none) (hp : packageOf k.name ∈ castPackages_1) : (U.vm.home k).toList.length ≤ 38 := by
  have hmod : ∀ m, U.vm.moduleOf k = some m → m.name = "java.base" := by
    intro m h
    unfold Vm.moduleOf at h
    split at h
    · have := List.find?_some h
      exact eq_of_beq this
    · have h1 := List.find?_some h
      have h2 := List.mem_of_find?_eq_some h
      obtain ⟨h3, h4⟩ := (Bool.and_eq_true _ _).mp h1
      have h5 : m.loader = none := by rw [eq_of_beq h3]; exact hl
      have h6 := List.all_eq_true.mp hm m h2
      have h7 : (castPackages_1.any fun p => m.packages.contains p) = true := List.any_eq_true.mpr ⟨_, hp, h4⟩
      rw [h7, h5] at h6
      have h8 : (m.name == "java.base") = true := by simpa using h6
      exact eq_of_beq h8
  unfold Vm.home
  rw [hl]
  cases h : U.vm.moduleOf k with
  | none => show ("unnamed module" ++ " of loader " ++ "'bootstrap'").toList.length ≤ 38; decide
  | some m =>
    have e := hmod m h
    show ("module " ++ m.name ++ " of loader " ++ "'bootstrap'").toList.length ≤ 38
    rw [e]
    decide
/-- the classes that are named in such texts -/
def cc_ok (k : Class) : Prop := k.loader = none ∧ k.hidden = none ∧ packageOf k.name ∈ castPackages_1 ∧ (dotted k.name).toList.length ≤ 19
theorem cc_shown {k : Class} (h : cc_ok k) : k.shown.toList.length ≤ 19 := by
  unfold Class.shown
  rw [h.2.1]
  exact h.2.2.2
theorem cc_len {U : State} (hm : modulesRight_1 U = true) {a b : Class} (ha : cc_ok a) (hb : cc_ok b) : (Op.checkcast.message U.vm a b).toList.length ≤ 202 := by
  have a1 := cc_shown ha
  have b1 := cc_shown hb
  have a2 := home_len hm ha.1 ha.2.2.1
  have b2 := home_len hm hb.1 hb.2.2.1
  have hh : (U.vm.homes a b).toList.length ≤ 130 := by
    unfold Vm.homes
    split
    · show (toString a.shown ++ toString " and " ++ toString b.shown ++ toString " are in " ++ toString (U.vm.home a)).toList.length ≤ 130
      simp only [String.toList_append, List.length_append]
      have c1 : (toString " and ").toList.length = 5 := by decide
      have c2 : (toString " are in ").toList.length = 8 := by decide
      have c3 : (toString a.shown).toList.length ≤ 19 := a1
      have c4 : (toString b.shown).toList.length ≤ 19 := b1
      have c5 : (toString (U.vm.home a)).toList.length ≤ 38 := a2
      omega
    · show (toString a.shown ++ toString " is in " ++ toString (U.vm.home a) ++ toString "; " ++ toString b.shown ++ toString " is in " ++ toString (U.vm.home b)).toList.length ≤ 130
      simp only [String.toList_append, List.length_append]
      have c1 : (toString " is in ").toList.length = 7 := by decide
      have c2 : (toString "; ").toList.length = 2 := by decide
      have c3 : (toString a.shown).toList.length ≤ 19 := a1
      have c4 : (toString b.shown).toList.length ≤ 19 := b1
      have c5 : (toString (U.vm.home a)).toList.length ≤ 38 := a2
      have c6 : (toString (U.vm.home b)).toList.length ≤ 38 := b2
      omega
  show (toString "class " ++ toString a.shown ++ toString " cannot be cast to class " ++ toString b.shown ++ toString " (" ++ toString (U.vm.homes a b) ++ toString ")").toList.length ≤ 202
  simp only [String.toList_append, List.length_append]
  have c1 : (toString "class ").toList.length = 6 := by decide
  have c2 : (toString " cannot be cast to class ").toList.length = 25 := by decide
  have c3 : (toString a.shown).toList.length ≤ 19 := a1
  have c4 : (toString b.shown).toList.length ≤ 19 := b1
  have c5 : (toString " (").toList.length = 2 := by decide
  have c6 : (toString ")").toList.length = 1 := by decide
  have c7 : (toString (U.vm.homes a b)).toList.length ≤ 130 := hh
  omega
theorem cc_bytes {U : State} (hm : modulesRight_1 U = true) {a b : Class} (ha : cc_ok a) (hb : cc_ok b) : (stringBytes (stringToUtf16 (Op.checkcast.message U.vm a b))).size ≤ 810 := by
  have h1 := stringBytes_size_le (stringToUtf16 (Op.checkcast.message U.vm a b))
  have h2 := utf16_size_le (Op.checkcast.message U.vm a b)
  have h3 := cc_len hm ha hb
  omega
theorem cc_mod (vm : Vm) (a b : Class) : (Op.checkcast.message vm a b == notModelled) = false := by
  rw [beq_eq_false_iff_ne]
  intro h
  have h2 := congrArg String.toList h
  have h3 : (Op.checkcast.message vm a b).toList = 'c' :: ("lass ".toList ++ a.shown.toList ++ " cannot be cast to class ".toList ++ b.shown.toList ++ " (".toList ++ (vm.homes a b).toList ++ ")".toList) := by
    show (toString "class " ++ toString a.shown ++ toString " cannot be cast to class " ++ toString b.shown ++ toString " (" ++ toString (vm.homes a b) ++ toString ")").toList = _
    simp only [String.toList_append]
    rfl
  rw [h3] at h2
  have h4 : notModelled.toList = '\u0000' :: " a message that is not modelled".toList := by decide
  rw [h4] at h2
  simp at h2
theorem cc_find {U : State} {nm : String} {c : ClassId} (h : U.vm.findClass nm = some c) (hp : packageOf nm ∈ castPackages_1 ∧ (dotted nm).toList.length ≤ 19) : ∃ k, U.vm.classes[c]? = some k ∧ cc_ok k := by
  obtain ⟨hlt, hp1, -⟩ := Array.findIdx?_eq_some_iff_getElem.mp h
  refine ⟨U.vm.classes[c], by simp [hlt], ?_⟩
  simp only [Bool.and_eq_true, beq_iff_eq, Option.isNone_iff_eq_none] at hp1
  exact ⟨hp1.2, hp1.1.1.2, by rw [hp1.1.1.1]; exact hp.1, by rw [hp1.1.1.1]; exact hp.2⟩
section
variable {p : Program} {l : Launch} {e : Env} {R : Room} {s : State} {m : MethodId} {args : Array Value} {below : List Frame} {meth : Method} {c : Code} {H : Heap} {locs : List Loc} {cells slots : Nat} {Q : State → Prop} {pc : Nat} {ls : Array Slot} {cc : ByteArray} {rest : List Value}
theorem sx_ccNo {T : State} (X : Stand p l e R s m args below meth c T locs cells slots) (hexec : p.tables.exec = Jvm.exec)
    {own name : String} {index : Nat} (hown : s.vm.findClass own = some m.cls) (hlink : (Cond.classLink own index name).before args s = true)
    {a : Addr} {cell : Cell} {cT : ClassId} {ks kt : Class} (hcell : T.heap[a]? = some cell) (hobj : cell.vm.isStatics = false) (hks : s.vm.classes[cell.cls]? = some ks) (hcT : s.vm.findClass name = some cT) (hkt : s.vm.classes[cT]? = some kt) (hasg : s.vm.assignable cell.cls cT = false)
    {g : JFrame} (hg : g.method = m) {rest : List Value} (hstack : g.stack = .ref a :: rest) (hdg : decode c.code g.pc = .ok (.checkcast index, 3)) :
    ∃ (vm' : Vm) (ks' kt' : Class), Stand p l e R s m args below meth c (T.setVm vm') locs cells slots ∧ (∃ r n h, ks' = { ks with resolved := r, nestHost := n, nestHostError := h }) ∧ (∃ r n h, kt' = { kt with resolved := r, nestHost := n, nestHostError := h }) ∧
      ∀ target, Steps p.tables e below (((T.setVm vm').setTop g).pushFrame (.throwNew "java/lang/ClassCastException" (some (Op.checkcast.message vm' ks' kt')) none)) target → Steps p.tables e below (T.setTop g) target := by
  have hpl : e.platform.magicAccessors = ({} : Platform).magicAccessors := by rw [X.admits.platform]
  obtain ⟨c', hc', hcl⟩ := Cond.classLink_spec hown hlink e.platform hpl
  cases hcT.symm.trans hc'
  obtain ⟨dk, _, _, kt0, hd, _, _, _, _, hkt0, _, hopen⟩ := hcl.here
  have hcl₀ := X.warmed.classLinks hcl
  have hW' : s.WarmedH (T.vm.noted m.cls index (.cls cT)) := X.warmed.noted hd hopen (State.rightAt_cls hcl)
  obtain ⟨ks', hks', es⟩ := hW'.alike.2.2 _ _ hks
  obtain ⟨kt', hkt', et⟩ := hW'.alike.2.2 _ _ hkt
  refine ⟨_, ks', kt', X.noted hW', ⟨_, _, _, es⟩, ⟨_, _, _, et⟩, fun target hrest => ?_⟩
  subst hg
  jvm_step X.here [hexec, hdg, Op.checkcast.wp_cold (e := e) (s := T) (f := g) X.here.top hstack (resolveClass_links e.toSetting hcl₀) hcl₀.ready,
    Op.checkcast.wp_ready (e := e) (s := T.setVm (T.vm.noted g.method.cls index (.cls cT))) (f := g) X.here.top hcl₀.ready hstack]
  refine ⟨cell, hcell, VmData.noStatics_of hobj, ks', hks', kt', hkt', ?_⟩
  have h1 : (T.vm.noted g.method.cls index (Resolved.cls cT)).assignable cell.cls cT = false := by rw [hW'.alike.assignable]; exact hasg
  simp only [h1]
  exact hrest
/-- a cast fails -/
theorem sx_castX (hx : p.tables.exec = Jvm.exec) (hb : c.code = cc) (hN : sx_N s) {own nm C : String} {index : Nat} (hown : s.vm.findClass own = some m.cls) (hlink : (Cond.classLink own index nm).before args s = true) (hc : va_Nc C nm s) {a : Nat}
    (hr : ∃ cell : Cell, H[a]? = some cell ∧ cell.vm.isStatics = false ∧ s.vm.findClass C = some cell.cls) (hpC : packageOf C ∈ castPackages_1 ∧ (dotted C).toList.length ≤ 19) (hpn : packageOf nm ∈ castPackages_1 ∧ (dotted nm).toList.length ≤ 19) (hdg : decode cc pc = .ok (.checkcast index, 3))
    (h : ∀ text, (text == notModelled) = false → (stringBytes (stringToUtf16 text)).size ≤ 810 → ex_N p l e R s m args below meth c H locs cells slots Q (F0 m pc ls (.ref a :: rest)) "java/lang/ClassCastException" (some text)) : W p l e R s m args below meth c H locs cells slots Q (F0 m pc ls (.ref a :: rest)) := by
  obtain ⟨cell, h1, h2, h3⟩ := hr
  obtain ⟨c0, t0, f1, f2, f3⟩ := hc
  cases h3.symm.trans f1
  intro T hT X
  obtain ⟨ks, hks, oks⟩ := cc_find h3 hpC
  obtain ⟨kt, hkt, okt⟩ := cc_find f2 hpn
  obtain ⟨vm', ks', kt', X', ⟨r1, n1, e1, es⟩, ⟨r2, n2, e2, et⟩, st⟩ := sx_ccNo X hx hown hlink (by rw [hT]; exact h1) h2 hks f2 hkt f3 (g := F0 m pc ls (.ref a :: rest)) rfl rfl (by rw [hb]; exact hdg)
  have hm : modulesRight_1 (T.setVm vm') = true := (hN.warm (U := T.setVm vm') X'.warmed).2.2
  have ha : cc_ok ks' := by rw [es]; exact oks
  have hb' : cc_ok kt' := by rw [et]; exact okt
  obtain ⟨t, a1, b1⟩ := h _ (cc_mod vm' ks' kt') (cc_bytes hm ha hb') (T.setVm vm') hT X'
  exact ⟨t, st t a1, b1⟩
end
