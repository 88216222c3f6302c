set_option maxRecDepth 100000
/-! EXCEPTIONS THAT ARE MADE AND THROWN (new X(); athrow). -/
theorem exIA_in : ∀ w ∈ exC RX1 261 "java/lang/IllegalArgumentException" [Bundle.rN, Bundle.eN] "java/lang/IllegalArgumentException" 6, w ∈ lw_tbl ∧ (goodWord w || sx_kd w || sx_ls w) = true := sx_in (exC RX1 261 "java/lang/IllegalArgumentException" [Bundle.rN, Bundle.eN] "java/lang/IllegalArgumentException" 6) [70, 789, 798, 820, 823, 825, 790, 791, 125, 126, 792, 797, 821, 838, 779, 839, 781, 840, 783, 793, 794, 795, 796, 785, 1149, 1150, 1151, 830, 770, 830, 831, 832, 833, 772, 833, 834, 835, 790, 774, 1148, 1140, 1142, 803, 1143, 1144, 1145, 788, 787, 1147] (by rfl) (by decide +kernel)
theorem exIS_in : ∀ w ∈ exC RX1 332 "java/lang/IllegalStateException" [Bundle.rN, Bundle.eN] "java/lang/IllegalStateException" 6, w ∈ lw_tbl ∧ (goodWord w || sx_kd w || sx_ls w) = true := sx_in (exC RX1 332 "java/lang/IllegalStateException" [Bundle.rN, Bundle.eN] "java/lang/IllegalStateException" 6) [70, 789, 798, 820, 823, 825, 790, 791, 125, 126, 792, 797, 821, 838, 779, 839, 781, 840, 783, 793, 794, 795, 796, 785, 1172, 1173, 1174, 830, 770, 830, 831, 832, 833, 772, 833, 834, 835, 790, 774, 1171, 1163, 1165, 804, 1166, 1167, 1168, 788, 787, 1170] (by rfl) (by decide +kernel)
theorem exTo_in : ∀ w ∈ exC RX15 1 Bundle.rN [Bundle.eN] RX15 7, w ∈ lw_tbl ∧ (goodWord w || sx_kd w || sx_ls w) = true := sx_in (exC RX15 1 Bundle.rN [Bundle.eN] RX15 7) [70, 789, 798, 820, 823, 825, 790, 791, 125, 126, 792, 797, 821, 838, 779, 839, 781, 840, 783, 793, 794, 795, 796, 785, 830, 831, 832, 833, 772, 833, 834, 835, 790, 774, 1113, 1102, 1104, 800, 1105, 1106, 1107, 788, 787, 1109] (by rfl) (by decide +kernel)
theorem exEn_in : ∀ w ∈ exC RX3 1 Bundle.rN [Bundle.eN] RX3 6, w ∈ lw_tbl ∧ (goodWord w || sx_kd w || sx_ls w) = true := sx_in (exC RX3 1 Bundle.rN [Bundle.eN] RX3 6) [70, 789, 798, 820, 823, 825, 790, 791, 125, 126, 792, 797, 821, 838, 779, 839, 781, 840, 783, 793, 794, 795, 796, 785, 830, 831, 832, 833, 772, 833, 834, 835, 790, 774, 829, 768, 776, 777, 778, 780, 782, 788, 787, 786] (by rfl) (by decide +kernel)
section
variable {p : Program} {l : Launch} {e : Env} {R : Room} {s : State} {m : MethodId} {args : Array Value} {below : List Frame} {meth : Method} {c : Code} {H : Heap} {locs : List Loc} {cells slots : Nat} {Q : State → Prop} {pc : Nat} {ls : Array Slot} {cc : ByteArray} {rest : List Value} {A0 : Nat → Prop}
/-- the constructor is called -/
theorem sx_ctor (hx : p.tables.exec = Jvm.exec) (hb : c.code = cc) (htr : e.platform.stackTraces = false) (hts : ∀ w ∈ lw_all, w.before args s = true) (hN : sx_N s) (hZ : ex_ZL A0 s s.heap) (hS : va_S A0 s.heap H locs) (hsz : ls.size = c.maxLocals) {own Y X : String} {names : List String} {ic n : Nat} (hown : s.vm.findClass own = some m.cls) (hY : Bundle.fit Y = true) (hnames : ∀ n ∈ names, Bundle.fit n = true) (hin : ∀ w ∈ exC own ic Y names X n, w ∈ lw_tbl ∧ (goodWord w || sx_kd w || sx_ls w) = true) (h3 : names.length ≤ 3)
    {a : Addr} {cX : ClassId} {kX : Class} (hfoundX : s.vm.findClass X = some cX) (hkX : s.vm.classes[cX]? = some kX) (hcell : H[a]? = some (freshCell cX kX)) (hAa : A0 a) (hdg : decode cc pc = .ok (.invokespecial ic, 3)) (hR : 7 ≤ R.frames ∧ (rest.map fun v => v.category).sum + 100 ≤ R.locals)
    (kk : ∀ (H' : Heap) (L : List Loc), H'.size = H.size → (∀ q, q ≠ a → H'[q]? = H[q]?) → (∃ ce : Cell, H'[a]? = some ce ∧ ce.cls = cX ∧ ce.vm = .none ∧ ce.slots.size = n) → (∀ y ∈ L, y.base = a) → W p l e R s m args below meth c H' (locs ++ L) cells slots Q (F0 m (pc + 3) ls rest)) : W p l e R s m args below meth c H locs cells slots Q (F0 m pc ls (.ref a :: rest)) := by
  intro T hT X0
  obtain ⟨U, L, X', hL, h1, h2, h4, st⟩ := ex_ctor X0 hx htr hown hY hnames (sx_wd hZ hts hN hin) hZ.1 (by rw [hT]; exact hS) hfoundX hkX (by rw [hT]; exact hcell) hAa (g := F0 m pc ls (.ref a :: rest)) rfl hsz (rest := rest) rfl (by rw [hb]; exact hdg) (by omega) (show 2 * 0 + (rest.map fun v => v.category).sum + (13 * (names.length + 1) + 41) ≤ R.locals by omega)
  rw [hT] at h1 h2
  obtain ⟨t, a1, b1⟩ := kk U.heap L h1 h2 h4 hL U rfl X'
  exact ⟨t, st t a1, b1⟩
/-- a thrown object -/
theorem sx_athrow (hx : p.tables.exec = Jvm.exec) (hb : c.code = cc) {a : Nat} (hdg : decode cc pc = .ok (.athrow, 1)) (h : am_WX p l e R s m args below meth c H locs cells slots Q pc ls a) : W p l e R s m args below meth c H locs cells slots Q (F0 m pc ls (.ref a :: rest)) := by
  intro T hT X
  obtain ⟨t, a1, b1⟩ := h rest T hT X
  refine ⟨t, ?_, b1⟩
  jvm_step X.here [X.here.top, hx, hb, hdg, Op.athrow.wp_sem]
  exact a1
end
/-- an exception of X is made, thrown, and leaves the method -/
theorem sx_throw {p : Program} {l : Launch} {e : Env} {R : Room} {s : State} {m : MethodId} {args : Array Value} {below : List Frame} {meth : Method} {c : Code} {D : va_G} {cl : List vw_C} {ad : Nat → Nat} {d : Nat → ClassId} {nL pc : Nat} {cc : ByteArray} {ι0 ι : cx_I} {κ0 κ : sx_I} {SH SH0 : Nat → sh_T} {σ : cs_S} {H : Heap} {locs : List Loc} {cells slots : Nat} {rls : Array Slot}
    (hC : sx_C p R s m args c D cl ad d nL cc (sx_A ι0 κ0 SH0 s.heap.size)) (hG : sx_G D cl ad d ι0 (sx_A ι0 κ0 SH0 s.heap.size) s.heap σ SH ι κ H locs) (htr : e.platform.stackTraces = false) (hN : sx_N s) (hZ : ex_ZL (sx_A ι0 κ0 SH0 s.heap.size) s s.heap) (hlocks : meth.locks = false) (hsz : rls.size = nL)
    {X : String} {names : List String} {ix ic : Nat} (hY : Bundle.fit X = true) (hnames : ∀ n ∈ names, Bundle.fit n = true) (hin : ∀ w ∈ exC RX1 ic X names X 6, w ∈ lw_tbl ∧ (goodWord w || sx_kd w || sx_ls w) = true) (h3 : names.length ≤ 3) (hcl0 : Cond.classLink RX1 ix X ∈ lw_all) (hinst : Cond.instantiable X 6 ∈ lw_all) (hini : Cond.initialized X ∈ lw_all) (hcs : cells + 1 ≤ 10 ∧ slots + 6 ≤ 1000) (hR : R.cells = 10 ∧ R.slots = 1000)
    (d1 : decode cc pc = .ok (.new ix, 3)) (d2 : decode cc (pc + 3) = .ok (.dup, 1)) (d3 : decode cc (pc + 4) = .ok (.invokespecial ic, 3)) (d4 : decode cc (pc + 7) = .ok (.athrow, 1)) (hout : ∀ x ∈ c.exceptionTable.toList, covers x (pc + 7) = false) :
    W p l e R s m args below meth c H locs cells slots (xm_MQ below (fun _ st o' t => ∃ ι' κ', sx_ro ad ι' (.inr X) o' t ∧ cx_le ι0 ι' ∧ cx_W D cl ad d ι' (cs_mk σ 10 1000) t.heap ∧ sx_W D cl ad d ι' κ' SH t.heap ∧ (∀ c ∈ ι'.1, sx_A ι0 κ0 SH0 s.heap.size (ι'.2.1 c)) ∧ (∀ j, sx_has SH j → sx_A ι0 κ0 SH0 s.heap.size (κ'.1 j)) ∧ va_F (sx_A ι0 κ0 SH0 s.heap.size) st t) args s 10 1000 (sx_A ι0 κ0 SH0 s.heap.size)) (F0 m pc rls []) := by
  obtain ⟨hx, hb, hml, hown, hts, hcl, hK, hA2, hR1, hR2⟩ := hC
  obtain ⟨cX, kX, hfX, hkX, -⟩ := Cond.instantiable_spec (hts _ hinst)
  refine W.newcK hx hb hown (hts _ hcl0) (hts _ hinst) (hts _ hini) rfl d1 (by omega) (by omega) hfX rfl fun H1 kC hkC e1 z1 o1 => ?_
  have hG1 := hG.grow (by omega) o1
  refine lv_dup hx hb d2 rfl ?_
  have hA : sx_A ι0 κ0 SH0 s.heap.size H.size := hA2 _ hG.2.2.2.2.2.1
  refine sx_ctor hx hb htr hts hN hZ hG1.2.2.2.2.2 (by rw [hml]; exact hsz) hown hY hnames hin h3 hfX hkC e1 hA d3 ⟨by omega, by show 1 + 100 ≤ R.locals; omega⟩ (fun H2 L hz hk hce hL => ?_)
  obtain ⟨ce, c1, c2, c3, -⟩ := hce
  have hG2 : sx_G D cl ad d ι0 (sx_A ι0 κ0 SH0 s.heap.size) s.heap σ SH ι κ H2 (locs ++ L) := by
    refine hG.growL hA2 (by omega) (fun q hq => ?_) (fun y hy => by rw [hL y hy]; exact Nat.le_refl _)
    rw [hk q (Nat.ne_of_lt hq)]
    exact o1 q hq
  refine W.up (cells' := 10) (slots' := 1000) ?_ (by omega) (by omega)
  refine sx_athrow hx hb d4 ?_
  refine ct_leave (Qc := fun _ st o' t => ∃ ι' κ', sx_ro ad ι' (.inr X) o' t ∧ cx_le ι0 ι' ∧ cx_W D cl ad d ι' (cs_mk σ 10 1000) t.heap ∧ sx_W D cl ad d ι' κ' SH t.heap ∧ (∀ c ∈ ι'.1, sx_A ι0 κ0 SH0 s.heap.size (ι'.2.1 c)) ∧ (∀ j, sx_has SH j → sx_A ι0 κ0 SH0 s.heap.size (κ'.1 j)) ∧ va_F (sx_A ι0 κ0 SH0 s.heap.size) st t) hout hlocks (fun t ht hWm => ?_) hG2.2.2.2.2.2.2.2
  exact (hG2.mk (a := 10) (b := 1000)).fin (o := .inr X) (o' := .threw H.size) ht ⟨_, ce, rfl, by rw [ht]; exact c1, by rw [hWm.alike.findClass, c2]; exact hfX, by rw [c3]; rfl⟩
