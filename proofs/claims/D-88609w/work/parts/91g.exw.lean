set_option maxRecDepth 100000
/-! THE MACHINE's OWN EXCEPTIONS in walks by hand. -/
theorem sx_in (ws : List Cond) (ps : List Nat) (hp : ws = ps.filterMap (fun i => lw_tbl[i]?)) (hg : ws.all (fun w => goodWord w || sx_kd w || sx_ls w) = true) : ∀ w ∈ ws, w ∈ lw_tbl ∧ (goodWord w || sx_kd w || sx_ls w) = true := by
  intro w h
  have h1 := List.all_eq_true.mp hg w h
  rw [hp] at h
  obtain ⟨i, -, hi⟩ := List.mem_filterMap.mp h
  exact ⟨List.mem_of_getElem? hi, h1⟩
theorem sx_wd {args : Array Value} {s : State} {A0 : Nat → Prop} (hZ : ex_ZL A0 s s.heap) (hts : ∀ w ∈ lw_all, w.before args s = true) (hN : sx_N s) {ws : List Cond} (h : ∀ w ∈ ws, w ∈ lw_tbl ∧ (goodWord w || sx_kd w || sx_ls w) = true) : ∀ w ∈ ws, w.before args s = true := by
  intro w hw
  obtain ⟨h1, h2⟩ := h w hw
  rcases (Bool.or_eq_true _ _).mp h2 with g | g
  rcases (Bool.or_eq_true _ _).mp g with g | g
  · exact hts _ (lw_g h1 g)
  · have := hN.1 w h1 g
    cases w with
    | castable a b => exact va_Nw.use (A := args) rfl this
    | declares a => exact va_Nw.use (A := args) rfl this
    | fieldLinkNest a b c d e f => exact va_Nw.use (A := args) rfl this
    | _ => cases g
  · cases w with
    | laysStatic C n d =>
      obtain ⟨g1, g2⟩ := (Bool.and_eq_true _ _).mp g
      obtain rfl := of_decide_eq_true g1
      rcases (Bool.or_eq_true _ _).mp g2 with g | g
      · obtain ⟨q1, q2⟩ := (Bool.and_eq_true _ _).mp g
        obtain rfl := of_decide_eq_true q1
        obtain rfl := of_decide_eq_true q2
        exact hZ.2.1.use
      · obtain ⟨q1, q2⟩ := (Bool.and_eq_true _ _).mp g
        obtain rfl := of_decide_eq_true q1
        obtain rfl := of_decide_eq_true q2
        exact hZ.2.2.use
    | _ => cases g
theorem exP_in : ∀ w ∈ exP 8, w ∈ lw_tbl ∧ (goodWord w || sx_kd w || sx_ls w) = true := sx_in (exP 8) [70, 789, 798, 820, 823, 825, 790, 791, 125, 126, 792, 797, 821, 838, 779, 839, 781, 840, 783, 793, 794, 795, 796, 785, 817, 807, 808, 1034, 1036, 814, 815, 1048, 1031, 1032, 1033, 830, 770, 830, 831, 832, 833, 772, 833, 834, 835, 790, 774, 95, 812, 1046, 1047, 806, 1042, 1043, 1045, 788, 787, 1040] (by rfl) (by decide +kernel)
theorem exCC_in : ∀ w ∈ exM "java/lang/ClassCastException" [Bundle.rN, Bundle.eN], w ∈ lw_tbl ∧ (goodWord w || sx_kd w || sx_ls w) = true := sx_in (exM "java/lang/ClassCastException" [Bundle.rN, Bundle.eN]) [70, 789, 798, 820, 823, 825, 790, 791, 125, 126, 792, 797, 821, 838, 779, 839, 781, 840, 783, 793, 794, 795, 796, 785, 982, 983, 837, 785, 1051, 1052, 1053, 976, 771, 976, 977, 978, 979, 773, 979, 980, 981, 982, 775, 94, 993, 850, 994, 996, 995, 997, 96, 1050, 1061, 1062, 802, 1056, 1057, 1059, 1055, 788, 787, 1054] (by rfl) (by decide +kernel)
theorem exNA_in : ∀ w ∈ exM "java/lang/NegativeArraySizeException" [Bundle.rN, Bundle.eN], w ∈ lw_tbl ∧ (goodWord w || sx_kd w || sx_ls w) = true := sx_in (exM "java/lang/NegativeArraySizeException" [Bundle.rN, Bundle.eN]) [70, 789, 798, 820, 823, 825, 790, 791, 125, 126, 792, 797, 821, 838, 779, 839, 781, 840, 783, 793, 794, 795, 796, 785, 982, 983, 837, 785, 973, 974, 975, 976, 771, 976, 977, 978, 979, 773, 979, 980, 981, 982, 775, 94, 993, 850, 994, 996, 995, 997, 93, 972, 991, 992, 805, 986, 987, 989, 985, 788, 787, 984] (by rfl) (by decide +kernel)
theorem exAI_in : ∀ w ∈ exM "java/lang/ArrayIndexOutOfBoundsException" ["java/lang/IndexOutOfBoundsException", Bundle.rN, Bundle.eN], w ∈ lw_tbl ∧ (goodWord w || sx_kd w || sx_ls w) = true := sx_in (exM "java/lang/ArrayIndexOutOfBoundsException" ["java/lang/IndexOutOfBoundsException", Bundle.rN, Bundle.eN]) [70, 789, 798, 820, 823, 825, 790, 791, 125, 126, 792, 797, 821, 838, 779, 839, 781, 840, 783, 793, 794, 795, 796, 785, 982, 983, 837, 785, 1004, 1005, 1006, 1007, 1019, 1007, 1008, 1009, 976, 771, 976, 977, 978, 979, 773, 979, 980, 981, 982, 775, 94, 993, 850, 994, 996, 995, 997, 98, 1003, 1017, 1020, 801, 1012, 1013, 1015, 1011, 788, 787, 1010] (by rfl) (by decide +kernel)
section
variable {p : Program} {l : Launch} {e : Env} {R : Room} {s : State} {m : MethodId} {args : Array Value} {below : List Frame} {meth : Method} {c : Code} {H : Heap} {locs : List Loc} {cells slots : Nat} {Q : State → Prop} {pc : Nat} {ls : Array Slot} {A0 : Nat → Prop}
/-- behind the note: the exception is being thrown -/
def ex_A (p : Program) (l : Launch) (e : Env) (R : Room) (s : State) (m : MethodId) (args : Array Value) (below : List Frame) (meth : Method) (c : Code) (H : Heap) (locs : List Loc) (cells slots : Nat) (Q : State → Prop) (pc : Nat) (ls : Array Slot) (cls : String) (k n : Nat) : Prop :=
  ∀ (H' : Heap) (L : List Loc) (a : Nat), H'.size = H.size + k → (∀ q, q < H.size → H'[q]? = H[q]?) → (∃ ce : Cell, H'[a]? = some ce ∧ s.vm.findClass cls = some ce.cls ∧ ce.vm = .none) → H.size ≤ a → (∀ y ∈ L, H.size ≤ y.base) → am_WX p l e R s m args below meth c H' (locs ++ L) (cells + k) (slots + n) Q pc ls a
theorem sx_npe (hx : p.tables.exec = Jvm.exec) (htr : e.platform.stackTraces = false) (hts : ∀ w ∈ lw_all, w.before args s = true) (hN : sx_N s) (hZ : ex_ZL A0 s s.heap) (hS : va_S A0 s.heap H locs) (hsz : ls.size = c.maxLocals) {st : List Value} (hR : 8 ≤ R.frames ∧ (st.map fun v => v.category).sum + 10240 ≤ R.locals) (hc : cells + 1 ≤ R.cells ∧ slots + 8 ≤ R.slots) (kk : ex_A p l e R s m args below meth c H locs cells slots Q pc ls "java/lang/NullPointerException" 1 8) : ex_N p l e R s m args below meth c H locs cells slots Q (F0 m pc ls st) "java/lang/NullPointerException" none := by
  intro T hT X
  obtain ⟨U, L', X', hL, hst, h1, h2, ce, h3, h4, h5⟩ := ex_npe X hx htr (n := 8) (sx_wd hZ hts hN exP_in) hZ.1 (by rw [hT]; exact hS) (g := F0 m pc ls st) rfl hsz (by omega) (show 2 * 0 + (st.map fun v => v.category).sum + 10240 ≤ R.locals by omega) hc.1 hc.2
  rw [hT] at h1 h2 h3 hL hst
  obtain ⟨t, a1, b1⟩ := kk U.heap L' H.size h1 h2 ⟨ce, h3, h4, h5⟩ (Nat.le_refl _) (fun y hy => by rw [hL y hy]; exact Nat.le_refl _) st U rfl X'
  exact ⟨t, hst.trans a1, b1⟩
theorem sx_msg (hx : p.tables.exec = Jvm.exec) (htr : e.platform.stackTraces = false) (hts : ∀ w ∈ lw_all, w.before args s = true) (hN : sx_N s) (hZ : ex_ZL A0 s s.heap) (hS : va_S A0 s.heap H locs) (hsz : ls.size = c.maxLocals) {cls : String} {names : List String} {text : String} {n : Nat} (hcls : Bundle.fit cls = true) (hnames : ∀ n ∈ names, Bundle.fit n = true) (hsoe : (cls == "java/lang/StackOverflowError") = false) (hoom : (cls == "java/lang/OutOfMemoryError") = false) (hin : ∀ w ∈ exM cls names, w ∈ lw_tbl ∧ (goodWord w || sx_kd w || sx_ls w) = true) (h3 : names.length ≤ 3)
    (htext : (text == notModelled) = false) (hbytes : (stringBytes (stringToUtf16 text)).size ≤ n) (hn : n ≤ 100000) {st : List Value} (hR : 8 ≤ R.frames ∧ (st.map fun v => v.category).sum + 10240 ≤ R.locals) (hc : cells + 3 ≤ R.cells ∧ slots + (n + 10) ≤ R.slots) (kk : ex_A p l e R s m args below meth c H locs cells slots Q pc ls cls 3 (n + 10)) : ex_N p l e R s m args below meth c H locs cells slots Q (F0 m pc ls st) cls (some text) := by
  intro T hT X
  have hlim : ¬ (stringBytes (stringToUtf16 text)).size > e.platform.arrayLengthLimit := by
    have : e.platform.arrayLengthLimit = ({} : Platform).arrayLengthLimit := by rw [X.admits.platform]
    rw [this]
    show ¬ _ > 2147483645
    omega
  have hhp : ¬ (stringBytes (stringToUtf16 text)).size * componentBytes .byte > e.platform.maxHeapBytes := by
    have : e.platform.maxHeapBytes = ({} : Platform).maxHeapBytes := by rw [X.admits.platform]
    rw [this]
    show ¬ _ * 1 > 536870912
    omega
  obtain ⟨U, L', X', hL, hst, h1, h2, ce, h3, h4, h5⟩ := ex_msg X hx htr hcls hnames hsoe hoom (sx_wd hZ hts hN hin) hZ.1 (by rw [hT]; exact hS) htext hlim hhp (g := F0 m pc ls st) rfl hsz (by omega) (show 2 * 0 + (st.map fun v => v.category).sum + 10240 ≤ R.locals by omega) (by omega) hc.1 (by omega)
  rw [hT] at h1 h2 h3 hL hst
  obtain ⟨y1, y2, y3, y4, y5, y6⟩ := X'.same
  obtain ⟨t, a1, b1⟩ := kk U.heap L' (H.size + 2) h1 h2 ⟨ce, h3, h4, h5⟩ (by omega) (fun y hy => by rw [hL y hy]; omega) st U rfl { X' with same := ⟨y1, y2, y3, y4, by omega, y6⟩ }
  exact ⟨t, hst.trans a1, b1⟩
end
