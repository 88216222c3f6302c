set_option maxRecDepth 100000
/-! THE SHELVES' WORLD, beside the component's. -/
/-- addresses: 0 the array, 1.. the shelves, 9.. their rows; what each shelf holds -/
abbrev sx_I : Type := (Nat → Nat) × (Nat → Value)
def sx_has (SH : Nat → sh_T) (j : Nat) : Prop := j ≤ 8 ∨ j ≤ 16 ∧ 3 ≤ (SH (j - 9)).1
def sx_row (d : Nat → ClassId) (q : sh_T) : va_E := .inl (d q.1, q.2.2.length, .inl fun j => nI (q.2.2.getD j 0))
section
variable {D : va_G} {cl : List vw_C} {ad : Nat → Nat} {d : Nat → ClassId} {ι ι' : cx_I} {κ κ' : sx_I} {SH SH' : Nat → sh_T} {σ σ' : cs_S} {H H1 : Heap}
def sx_1 (D : va_G) (cl : List vw_C) (ad : Nat → Nat) (d : Nat → ClassId) (ι : cx_I) (κ : sx_I) (q : sh_T) (H : Heap) (i : Nat) : Prop :=
  va_at D cl (κ.1 (1 + i), .inr (13, [κ.2 i])) H ∧
  ((q.1 = 0 ∧ κ.2 i = .null) ∨ (q.1 = 1 ∧ tr_nd q.2.1 = true ∧ cx_TR ad ι q.2.1 (κ.2 i)) ∨ ((q.1 = 3 ∨ q.1 = 4) ∧ κ.2 i = .ref (κ.1 (9 + i)) ∧ va_at D cl (κ.1 (9 + i), sx_row d q) H))
def sx_arr (d : Nat → ClassId) (κ : sx_I) : va_E := .inl (d 7, 8, .inr (.inr (.inr (.inr fun i => if i < 8 then some (κ.1 (1 + i)) else none))))
def sx_W (D : va_G) (cl : List vw_C) (ad : Nat → Nat) (d : Nat → ClassId) (ι : cx_I) (κ : sx_I) (SH : Nat → sh_T) (H : Heap) : Prop :=
  κ.1 0 = ad 118 ∧ (∀ j, sx_has SH j → ∀ c ∈ ι.1, ι.2.1 c ≠ κ.1 j) ∧ (∀ j j', sx_has SH j → sx_has SH j' → κ.1 j = κ.1 j' → j = j') ∧ (∀ j, sx_has SH j → κ.1 j < H.size) ∧
  va_at D cl (κ.1 0, sx_arr d κ) H ∧ ∀ i, i < 8 → sx_1 D cl ad d ι κ (SH i) H i
theorem sx_1.kept {q : sh_T} {i : Nat} (h : sx_1 D cl ad d ι κ q H i) (hle : cr_le (cx_TR ad) ι ι') (h1 : H1[κ.1 (1 + i)]? = H[κ.1 (1 + i)]?) (h2 : 3 ≤ q.1 → H1[κ.1 (9 + i)]? = H[κ.1 (9 + i)]?) : sx_1 D cl ad d ι' κ q H1 i := by
  obtain ⟨a, b⟩ := h
  refine ⟨va_at.kept a h1, ?_⟩
  rcases b with b | ⟨b1, b2, b3⟩ | ⟨b1, b2, b3⟩
  · exact .inl b
  · exact .inr (.inl ⟨b1, b2, hle _ _ b3⟩)
  · exact .inr (.inr ⟨b1, b2, va_at.kept b3 (h2 (by omega))⟩)
/-- the shelves stay, where their cells stay -/
theorem sx_W.kept (h : sx_W D cl ad d ι κ SH H) (hle : cr_le (cx_TR ad) ι ι') (hA : ∀ c ∈ ι'.1, (∃ c' ∈ ι.1, ι'.2.1 c = ι.2.1 c') ∨ H.size ≤ ι'.2.1 c) (hz : H.size ≤ H1.size) (hk : ∀ j, sx_has SH j → H1[κ.1 j]? = H[κ.1 j]?) : sx_W D cl ad d ι' κ SH H1 := by
  obtain ⟨h0, h1, h2, h3, h4, h5⟩ := h
  refine ⟨h0, fun j hj c hc => ?_, h2, fun j hj => Nat.lt_of_lt_of_le (h3 j hj) hz, va_at.kept h4 (hk 0 (.inl (by omega))), fun i hi => (h5 i hi).kept hle (hk _ (.inl (by omega))) fun q => hk _ (.inr ⟨by omega, by rw [show 9 + i - 9 = i by omega]; exact q⟩)⟩
  rcases hA c hc with ⟨c', hc', e⟩ | e
  · rw [e]
    exact h1 j hj c' hc'
  · have := h3 j hj
    omega
/-- the component's world stays, where its cells stay -/
theorem cx_W.kept (h : cx_W D cl ad d ι σ H) (hk : ∀ c ∈ ι.1, H1[ι.2.1 c]? = H[ι.2.1 c]?) : cx_W D cl ad d ι σ H1 := ⟨fun c hc => va_at.kept (h.1 c hc) (hk c hc), h.2⟩
/-- what was made is counted: nothing else hangs on it -/
theorem cx_W.mk {a b : Nat} (h : cx_W D cl ad d ι σ H) : cx_W D cl ad d ι (cs_mk σ a b) H := h
theorem sx_has.lt {j : Nat} (h : sx_W D cl ad d ι κ SH H) (hj : sx_has SH j) : ¬ cx_A ι H.size (κ.1 j) := by
  rintro (⟨c, hc, e⟩ | e)
  · exact h.2.1 j hj c hc e.symm
  · have := h.2.2.2.1 j hj
    omega
/-- what may be written: the component's cells, the shelves', what is new -/
def sx_A (ι : cx_I) (κ : sx_I) (SH : Nat → sh_T) (sz : Nat) : Nat → Prop := fun q => cx_A ι sz q ∨ ∃ j, sx_has SH j ∧ q = κ.1 j
end
/-- words that aren't good by themselves, but stay -/
def sx_kd : Cond → Bool
  | .castable _ _ => true
  | .declares _ => true
  | .fieldLinkNest _ _ _ _ _ _ => true
  | _ => false
def sx_nc : List (String × String) := [("FormulaVoice$Letter", "[B"), ("FormulaVoice$Digits", "[B"), ("FormulaVoice$Two", "[B"), ("FormulaVoice$Script", "[B"), ("FormulaVoice$Root", "[B"), ("FormulaVoice$Fenced", "[B"), ("FormulaVoice$Call", "[B"), ("[C", "[B"),
  ("FormulaVoice$Letter", "[C"), ("FormulaVoice$Digits", "[C"), ("FormulaVoice$Two", "[C"), ("FormulaVoice$Script", "[C"), ("FormulaVoice$Root", "[C"), ("FormulaVoice$Fenced", "[C"), ("FormulaVoice$Call", "[C"), ("[B", "[C"),
  ("[B", "FormulaVoice$Node"), ("[C", "FormulaVoice$Node"),
  ("java/lang/ClassCastException", "java/lang/NullPointerException"), ("java/lang/ArrayIndexOutOfBoundsException", "java/lang/NullPointerException"), ("java/lang/ArrayIndexOutOfBoundsException", "java/lang/ClassCastException"),
  ("java/lang/NullPointerException", "FormulaVoice$Tossed"), ("java/lang/ClassCastException", "FormulaVoice$Tossed"), ("java/lang/IllegalStateException", "java/lang/IllegalArgumentException")]
def sx_N (U : State) : Prop := (∀ w ∈ lw_tbl, sx_kd w = true → va_Nw w U) ∧ (∀ q ∈ sx_nc, va_Nc q.1 q.2 U) ∧ modulesRight_1 U = true
theorem sx_N.warm {s U : State} (hW : s.WarmedH U.vm) (h : sx_N s) : sx_N U := by
  refine ⟨fun w hw hk => ?_, fun q hq => (h.2.1 q hq).moved hW.alike, ?_⟩
  rotate_left
  · have e : U.vm.modules = s.vm.modules := by rw [hW.alike.1]
    unfold modulesRight_1
    rw [e]
    exact h.2.2
  have := h.1 w hw hk
  cases w with
  | castable a b => exact this.warmC hW
  | declares a => exact this.warmD hW
  | fieldLinkNest a b c d e f => exact this.warmF hW
  | _ => cases hk
/-- a static field of Throwable is laid -/
def ex_L (n d : String) (A : Nat → Prop) (U : State) (H : Heap) : Prop := ∃ (c : ClassId) (k : Class) (i : Nat) (f : Field) (a : Nat) (cell : Cell), U.vm.findClass Bundle.tN = some c ∧ U.fieldFound? Bundle.tN n d = some (c, k, i, f) ∧ f.isStatic = true ∧ k.statics = some a ∧ H[a]? = some cell ∧ cell.vm.isStatics = true ∧ cell.cls = c ∧ f.slot < cell.slots.size ∧ k.staticTypes[f.slot]? = some f.type ∧ ¬ A a
theorem ex_L.moved {n d : String} {A : Nat → Prop} {u U : State} {H : Heap} (hvm : u.vm.Alike U.vm) (h : ex_L n d A u H) : ex_L n d A U H := by
  obtain ⟨c, k, i, f, a, cell, h0, h1, h2, h3, h4, h5, h6, h7, h8, h9⟩ := h
  obtain ⟨k', hi', he⟩ := State.fieldFound?_setVm hvm h1
  exact ⟨c, k', i, f, a, cell, by rw [hvm.findClass]; exact h0, hi', h2, by rw [he]; exact h3, h4, h5, h6, h7, by rw [he]; exact h8, h9⟩
theorem ex_L.kept {n d : String} {A : Nat → Prop} {U : State} {H H1 : Heap} (h : ex_L n d A U H) (hq : ∀ a : Nat, a < H.size → ¬ A a → H1[a]? = H[a]?) : ex_L n d A U H1 := by
  obtain ⟨c, k, i, f, a, cell, h0, h1, h2, h3, h4, h5, h6, h7, h8, h9⟩ := h
  exact ⟨c, k, i, f, a, cell, h0, h1, h2, h3, by rw [hq a (Array.getElem?_eq_some_iff.mp h4).1 h9]; exact h4, h5, h6, h7, h8, h9⟩
theorem ex_L.narrow {n d : String} {A B : Nat → Prop} {U : State} {H : Heap} (h : ex_L n d A U H) (hAB : ∀ q, B q → A q) : ex_L n d B U H := by
  obtain ⟨c, k, i, f, a, cell, h0, h1, h2, h3, h4, h5, h6, h7, h8, h9⟩ := h
  exact ⟨c, k, i, f, a, cell, h0, h1, h2, h3, h4, h5, h6, h7, h8, fun z => h9 (hAB a z)⟩
theorem ex_L.use {n d : String} {A : Nat → Prop} {U : State} {args : Array Value} (h : ex_L n d A U U.heap) : (Cond.laysStatic Bundle.tN n d).before args U = true := by
  obtain ⟨c, k, i, f, a, cell, h0, h1, h2, h3, h4, h5, h6, h7, h8, -⟩ := h
  exact Cond.laysStatic_of h0 h1 h2 h3 h4 h5 h6 h7 h8
theorem ex_L.of {n d : String} {A : Nat → Prop} {U : State} {args : Array Value} (h : (Cond.laysStatic Bundle.tN n d).before args U = true) (hA : ∀ a : Nat, a < U.heap.size → ¬ A a) : ex_L n d A U U.heap := by
  obtain ⟨c, k, i, f, a, cell, hc, hi, hst, ha, hcell, hs, hcls, hlt, hty⟩ := Cond.laysStatic_spec h
  exact ⟨c, k, i, f, a, cell, hc, hi, hst, ha, hcell, hs, hcls, hlt, hty, hA a (Array.getElem?_eq_some_iff.mp hcell).1⟩
/-- what exceptions want of Throwable's two statics -/
def ex_ZL (A : Nat → Prop) (U : State) (H : Heap) : Prop := ex_Z A U H ∧ ex_L "UNASSIGNED_STACK" Bundle.steD A U H ∧ ex_L "SUPPRESSED_SENTINEL" Bundle.listD A U H
theorem ex_ZL.moved {A : Nat → Prop} {u U : State} {H : Heap} (hvm : u.vm.Alike U.vm) (h : ex_ZL A u H) : ex_ZL A U H := ⟨⟨h.1.1.moved hvm, h.1.2.moved hvm⟩, h.2.1.moved hvm, h.2.2.moved hvm⟩
theorem ex_ZL.kept {A : Nat → Prop} {U : State} {H H1 : Heap} (h : ex_ZL A U H) (hq : ∀ a : Nat, a < H.size → ¬ A a → H1[a]? = H[a]?) : ex_ZL A U H1 := ⟨⟨h.1.1.kept hq, h.1.2.kept hq⟩, h.2.1.kept hq, h.2.2.kept hq⟩
theorem ex_ZL.narrow {A B : Nat → Prop} {U : State} {H : Heap} (h : ex_ZL A U H) (hAB : ∀ q, B q → A q) : ex_ZL B U H := ⟨⟨h.1.1.narrow hAB, h.1.2.narrow hAB⟩, h.2.1.narrow hAB, h.2.2.narrow hAB⟩
def sx_ls : Cond → Bool
  | .laysStatic C n d => decide (C = Bundle.tN) && (decide (n = "UNASSIGNED_STACK") && decide (d = Bundle.steD) || decide (n = "SUPPRESSED_SENTINEL") && decide (d = Bundle.listD))
  | _ => false
/-- the tables, with what exceptions want -/
def sx_K (D : va_G) (cl : List vw_C) (ad : Nat → Nat) (d : Nat → ClassId) (A : Nat → Prop) (U : State) : Prop := cx_K D cl ad d A U ∧ sx_N U ∧ ex_ZL A U U.heap
/-- an answer of the component's machine, or a thrown object of a class -/
def sx_ro (ad : Nat → Nat) (ι : cx_I) (o : am_O ⊕ String) (o' : Outcome) (t : State) : Prop := match o with
  | .inl (.inl r) => ∃ rv, o' = .returned rv ∧ am_ro (cx_TR ad ι) ad r rv
  | .inl (.inr _) => False
  | .inr C => ∃ (a : Nat) (ce : Cell), o' = .threw a ∧ t.heap[a]? = some ce ∧ t.vm.findClass C = some ce.cls ∧ ce.vm.isStatics = false
/-- a contract over the component's world and the shelves -/
def sx_Met (l : Launch) (D : va_G) (cl : List vw_C) (ad : Nat → Nat) (d : Nat → ClassId) (f L : Nat) (y : MethodName) (ws : List Cond) (args : List am_V) (σ : cs_S) (SH : Nat → sh_T) (o : am_O ⊕ String) (σ' : cs_S) (SH' : Nat → sh_T) : Prop :=
  ∀ (ι : cx_I) (κ : sx_I) (sz : Nat) (rargs : List Value), am_S2 (am_vr (cx_TR ad ι) ad) args rargs →
    xm_Met l y ws { frames := f, cells := cs_n1 σ' - cs_n1 σ, slots := cs_n2 σ' - cs_n2 σ, locals := L }
      (fun a U => a = rargs.toArray ∧ U.heap.size = sz ∧ cx_W D cl ad d ι σ U.heap ∧ sx_W D cl ad d ι κ SH U.heap ∧ sx_K D cl ad d (sx_A ι κ SH sz) U)
      (fun _ st o' t => ∃ ι' κ', sx_ro ad ι' o o' t ∧ cx_le ι ι' ∧ cx_W D cl ad d ι' σ' t.heap ∧ sx_W D cl ad d ι' κ' SH' t.heap ∧ (∀ c ∈ ι'.1, sx_A ι κ SH sz (ι'.2.1 c)) ∧ (∀ j, sx_has SH' j → sx_A ι κ SH sz (κ'.1 j)) ∧ va_F (sx_A ι κ SH sz) st t)
      (cs_n1 σ' - cs_n1 σ) (cs_n2 σ' - cs_n2 σ) (sx_A ι κ SH sz)
