/-! WORLDS BY IDS: cells by their numbers. -/
section
variable {D : va_G} {cl : List vw_C} {H H1 : Heap} {ids : List Nat} {adr : Nat → Nat} {E : Nat → va_E}
def cw (ids : List Nat) (adr : Nat → Nat) (E : Nat → va_E) : va_W := ids.map fun c => (adr c, E c)
theorem cw_get {q0 c : Nat} (h : ids[q0]? = some c) : (cw ids adr E)[q0]? = some (adr c, E c) := by
  simp only [cw, List.getElem?_map, h, Option.map_some]
theorem cw_inv {k : Nat} {q : Nat × va_E} (h : (cw ids adr E)[k]? = some q) : ∃ c, ids[k]? = some c ∧ q = (adr c, E c) := by
  simp only [cw, List.getElem?_map] at h
  cases e : ids[k]? with
  | none => rw [e] at h; cases h
  | some c => rw [e] at h; exact ⟨c, rfl, (Option.some.inj h).symm⟩
theorem cw_P (h : ∀ c ∈ ids, va_at D cl (adr c, E c) H) : va_P D cl (cw ids adr E) H := by
  intro k q hk
  obtain ⟨c, hc, rfl⟩ := cw_inv hk
  exact h c (List.mem_of_getElem? hc)
theorem cw_D {A : Nat → Prop} (hn : ids.Nodup) (hi : ∀ c ∈ ids, ∀ c' ∈ ids, adr c = adr c' → c = c') (hA : ∀ c ∈ ids, A (adr c)) : va_D A (cw ids adr E) := by
  refine ⟨fun i j p q hp hq hpq => ?_, fun k q hk => ?_⟩
  · obtain ⟨c, hc, rfl⟩ := cw_inv hp
    obtain ⟨c', hc', rfl⟩ := cw_inv hq
    have := hi c (List.mem_of_getElem? hc) c' (List.mem_of_getElem? hc') hpq
    subst this
    obtain ⟨h1, h2⟩ := List.getElem?_eq_some_iff.mp hc
    obtain ⟨h3, h4⟩ := List.getElem?_eq_some_iff.mp hc'
    exact (List.getElem_inj hn).mp (h2.trans h4.symm)
  · obtain ⟨c, hc, rfl⟩ := cw_inv hk
    exact hA c (List.mem_of_getElem? hc)
/-- a cell is written -/
theorem cw_set {q0 c0 : Nat} {e' : va_E} {E' : Nat → va_E} (hq : ids[q0]? = some c0) (h : va_P D cl ((cw ids adr E).set q0 (adr c0, e')) H1) (hE : ∀ c ∈ ids, c ≠ c0 → E' c = E c) (he : E' c0 = e') : ∀ c ∈ ids, va_at D cl (adr c, E' c) H1 := by
  intro c hc
  by_cases e : c = c0
  · subst e
    rw [he]
    exact h q0 _ (List.getElem?_set_self (by simpa [cw] using (List.getElem?_eq_some_iff.mp hq).1))
  · obtain ⟨q, hq'⟩ := List.getElem?_of_mem hc
    have hne : q0 ≠ q := fun z => by
      subst z
      exact e (Option.some.inj (hq'.symm.trans hq))
    rw [hE c hc e]
    refine h q _ ?_
    rw [List.getElem?_set_ne hne]
    exact cw_get hq'
/-- a cell comes -/
theorem cw_new {c0 q : Nat} {e' : va_E} {adr' : Nat → Nat} {E' : Nat → va_E} (h : va_P D cl (cw ids adr E ++ [(q, e')]) H1) (ha : ∀ c ∈ ids, adr' c = adr c) (hE : ∀ c ∈ ids, E' c = E c) (ha0 : adr' c0 = q) (he : E' c0 = e') : ∀ c ∈ ids ++ [c0], va_at D cl (adr' c, E' c) H1 := by
  intro c hc
  rcases List.mem_append.mp hc with hc | hc
  · obtain ⟨k, hk⟩ := List.getElem?_of_mem hc
    rw [ha c hc, hE c hc]
    refine h k _ ?_
    have hl := (List.getElem?_eq_some_iff.mp hk).1
    rw [List.getElem?_append_left (by simpa [cw] using hl)]
    exact cw_get hk
  · obtain rfl := List.mem_singleton.mp hc
    rw [ha0, he]
    refine h ids.length _ ?_
    rw [List.getElem?_append_right (by simp [cw])]
    simp [cw]
end
/-! THE COMPONENT's WORLD. -/
/-- which cells stand; their addresses; what stands in cells that nobody writes; references in arrays -/
abbrev cx_I : Type := List Nat × (Nat → Nat) × (Nat → Nat × List Value) × (Nat → Nat → Option Nat)
def cx_cl : List vw_C := [(RX1, TX1, 19), (RX2, TX2, 3), (RX4, TX4, 2), (RX8, TX8, 5), (RX9, TX9, 5), (RX10, TX10, 6), (RX11, TX11, 6), (RX12, TX12, 5), (RX13, TX13, 5), (RX14, TX14, 6), (RJ2, TJ2, 3), (RX3, TX3, 6), (RX6, TX6, 35), (RX5, TX5, 1)]
/-- the classes stand first -/
def cx_clok (cl : List vw_C) : Prop := ∀ (i : Nat) (q : vw_C), cx_cl[i]? = some q → cl[i]? = some q
def cx_ty (d : Nat → ClassId) : List (ClassId × FieldType) := [(d 0, .int), (d 1, .boolean), (d 2, .long), (d 3, .byte), (d 4, .char), (d 5, .object "FormulaVoice$Node"), (d 6, .array .long), (d 7, .object "FormulaVoice$Shelf"), (d 8, .object "java/lang/Object")]
/-- a node's class, by its kind -/
def cx_ci (k : Nat) : Nat := [3, 4, 5, 5, 5, 6, 6, 7, 8, 9].getD k 3
def cx_nfs (n k v sz dp : Nat) (rx ry : Value) : List Value := [.int (nI n), .int (nI k), .int (nI sz), .int (nI dp)] ++ (if k ≤ 1 then [.int (nI v)] else if k ≤ 6 then [rx, ry] else if k ≤ 8 then [rx] else [rx, .int (nI v)])
/-- a tree is a value of the heap -/
def cx_TR (ad : Nat → Nat) (ι : cx_I) : Tr → Value → Prop
  | .leaf, rv => rv = .null
  | .inner n k v x y, rv => (k ≤ 9 ∧ ∃ (c : Nat) (rx ry : Value), 10000 ≤ c ∧ c ∈ ι.1 ∧ rv = .ref (ι.2.1 c) ∧ ι.2.2.1 c = (cx_ci k, cx_nfs n k v (tr_sz (.inner n k v x y)) (tr_dp (.inner n k v x y)) rx ry) ∧ cx_TR ad ι x rx ∧ cx_TR ad ι y ry) ∨
      (k = 50 ∧ n < 21 ∧ rv = .ref (ad (200 + n))) ∨ (k = 52 ∧ n ≤ 500 ∧ 400 + n ∈ ι.1 ∧ rv = .ref (ι.2.1 (400 + n)))
theorem cx_TRok (ad : Nat → Nat) (ι : cx_I) : am_TRok (cx_TR ad ι) := by
  refine ⟨rfl, fun t rv h => ?_⟩
  cases t with
  | leaf => exact .inl ⟨rfl, h⟩
  | inner n k v x y =>
    rcases h with ⟨-, c, -, -, -, -, h, -⟩ | ⟨-, -, h⟩ | ⟨-, -, -, h⟩
    · exact .inr ⟨rfl, _, h⟩
    · exact .inr ⟨rfl, _, h⟩
    · exact .inr ⟨rfl, _, h⟩
def cx_le (ι ι' : cx_I) : Prop := (∀ c ∈ ι.1, c ∈ ι'.1) ∧ (∀ c ∈ ι.1, c < 1000 ∨ 10000 ≤ c → ι'.2.1 c = ι.2.1 c) ∧ (∀ c ∈ ι.1, ι'.2.2.1 c = ι.2.2.1 c)
theorem cx_le.rf (ι : cx_I) : cx_le ι ι := ⟨fun _ h => h, fun _ _ _ => rfl, fun _ _ => rfl⟩
theorem cx_le.tr {ι ι' ι'' : cx_I} (h : cx_le ι ι') (h' : cx_le ι' ι'') : cx_le ι ι'' :=
  ⟨fun c hc => h'.1 c (h.1 c hc), fun c hc q => (h'.2.1 c (h.1 c hc) q).trans (h.2.1 c hc q), fun c hc => (h'.2.2 c (h.1 c hc)).trans (h.2.2 c hc)⟩
theorem cx_le.cr {ad : Nat → Nat} {ι ι' : cx_I} (h : cx_le ι ι') : cr_le (cx_TR ad) ι ι' := by
  intro t
  induction t with
  | leaf => intro rv q; exact q
  | inner n k v x y ihx ihy =>
    intro rv q
    rcases q with ⟨hk, c, rx, ry, h1, h2, h3, h4, h5, h6⟩ | q | ⟨hk, h1, h2, h3⟩
    · exact .inl ⟨hk, c, rx, ry, h1, h.1 c h2, by rw [h.2.1 c h2 (.inr h1)]; exact h3, by rw [h.2.2 c h2]; exact h4, ihx _ h5, ihy _ h6⟩
    · exact .inr (.inl q)
    · exact .inr (.inr ⟨hk, h1, h.1 _ h2, by rw [h.2.1 _ h2 (.inl (by omega))]; exact h3⟩)
/-! what stands in a cell -/
def cx_fs (ad : Nat → Nat) (σ : cs_S) : List Value := (List.range 19).map fun j => bif cs_isI j then .int (cs_i σ j) else .ref (ad (100 + j))
def cx_lf (ad : Nat → Nat) (ι : cx_I) (σ : cs_S) (c : Nat) : List Value :=
  bif Nat.ble 400 c && Nat.beq ((cs_y σ).getD (c - 400) 0) 0 then [.int 0, .null, .int 0]
  else [.int (cs_c σ c).2, .ref (bif Nat.beq (cs_c σ c).1 0 then ad 190 else ι.2.1 (c + 1000)), .int (nI (cs_t σ c).length)]
def cx_E (ad : Nat → Nat) (d : Nat → ClassId) (ι : cx_I) (σ : cs_S) (c : Nat) : va_E :=
  bif Nat.beq c 0 then .inr (0, cx_fs ad σ)
  else bif cs_isW c then .inr (1, [.ref (ad (c + 20)), .int (cs_i σ c), .ref (ad (c + 40))])
  else bif Nat.beq c 105 then .inr (2, [.int (cs_i σ 105), .int (cs_i σ 125)])
  else bif Nat.beq c 110 then .inl (d 6, 21, .inr (.inr (.inr (.inr fun i => some (ad (200 + i))))))
  else bif Nat.beq c 115 then .inl (d 5, 41, .inr (.inr (.inr (.inr (ι.2.2.2 115)))))
  else bif Nat.ble 200 c && Nat.ble c 220 then .inl (d 2, 21, .inr (.inl (σ.2.2.1 (c - 200))))
  else bif cs_isL c || (Nat.ble 400 c && Nat.ble c 999) then .inr (10, cx_lf ad ι σ c)
  else bif Nat.ble 1000 c && Nat.ble c 1999 then .inl (d 8, (cs_c σ (c - 1000)).1, .inr (.inr (.inr (.inr (ι.2.2.2 (c - 1000))))))
  else match am_lk cs_A c with
    | some (n, 0) => .inl (d 0, n, .inl (σ.2.1 c))
    | some (n, 1) => .inl (d 1, n, .inl (σ.2.1 c))
    | some (n, _) => .inl (d 3, n, .inl (σ.2.1 c))
    | none => .inr (ι.2.2.1 c)
def cx_fix : List Nat := [0, 100, 102, 103, 104, 105, 106, 107, 108, 110, 114, 115, 116, 123, 124, 143, 144] ++ (List.range 21).map (200 + ·)
/-- a list: it stands, and is ready -/
def cx_isl (σ : cs_S) (c : Nat) : Prop := c = 100 ∨ c = 106 ∨ ∃ n, c = 400 + n ∧ (cs_y σ)[n]? = some 1
/-- what a list's cells hold -/
def cx_lok (ad : Nat → Nat) (ι : cx_I) (σ : cs_S) (c : Nat) : Prop :=
  (cs_t σ c).length ≤ (cs_c σ c).1 ∧ ((cs_c σ c).1 = 0 ∨ 10 ≤ (cs_c σ c).1 ∧ c + 1000 ∈ ι.1) ∧ (cs_c σ c).1 ≤ 65000 ∧
  (∀ j, j < (cs_t σ c).length → tr_nd ((cs_t σ c).getD j .leaf) = true ∧ cx_TR ad ι ((cs_t σ c).getD j .leaf) (va_rf (ι.2.2.2 c j))) ∧ ∀ j, (cs_t σ c).length ≤ j → ι.2.2.2 c j = none
/-- a byte -/
def cx_by (x : Int32) : Prop := fits .byte (.int x) = true
def cx_inv (ad : Nat → Nat) (ι : cx_I) (σ : cs_S) : Prop :=
  (∀ c ∈ cx_fix, c ∈ ι.1 ∧ ι.2.1 c = ad c) ∧
  ((cs_y σ).length ≤ 501 ∧ (∀ n, n < (cs_y σ).length → 400 + n ∈ ι.1) ∧ ∀ c ∈ ι.1, 400 ≤ c → c < 1000 → c < 400 + (cs_y σ).length) ∧
  (∀ c, cx_isl σ c → cx_lok ad ι σ c) ∧ (∀ c ∈ ι.1, 1000 ≤ c → c < 10000 → cx_isl σ (c - 1000) ∧ (cs_c σ (c - 1000)).1 ≠ 0) ∧
  (∀ j, j < 41 → cx_TR ad ι (cs_p σ j) (va_rf (ι.2.2.2 115 j))) ∧
  (∀ c n, am_lk cs_A c = some (n, 3) → ∀ j, cx_by (σ.2.1 c j)) ∧
  (ι.2.2.1 143).1 = 11 ∧ (ι.2.2.1 144).1 = 11
/-- the cells that may be written, and what is new -/
def cx_A (ι : cx_I) (sz : Nat) : Nat → Prop := fun q => (∃ c ∈ ι.1, q = ι.2.1 c) ∨ sz ≤ q
def cx_W (D : va_G) (cl : List vw_C) (ad : Nat → Nat) (d : Nat → ClassId) (ι : cx_I) (σ : cs_S) (H : Heap) : Prop :=
  (∀ c ∈ ι.1, va_at D cl (ι.2.1 c, cx_E ad d ι σ c) H) ∧ (∀ c ∈ ι.1, ∀ c' ∈ ι.1, ι.2.1 c = ι.2.1 c' → c = c') ∧ ι.1.Nodup ∧ cx_inv ad ι σ
/-- what ArrayList's growing asks of the tables -/
def jm_S (U : State) : Prop := va_AO "java/lang/Object" U ∧ (∃ mi, va_Mi "[Ljava/lang/Object;" mi U) ∧ va_Dc U
theorem jm_S.moved {u U : State} (hvm : u.vm.Alike U.vm) (h : jm_S u) : jm_S U := ⟨h.1.moved hvm, h.2.1.elim fun mi q => ⟨mi, q.moved hvm⟩, h.2.2.moved hvm⟩
/-- words that don't ride in the lists -/
def cx_N (U : State) : Prop := va_Nw (.fieldLinkNest "FormulaVoice" 168 "FormulaVoice$Words" "at" "[B" "FormulaVoice") U ∧ va_Nw (.fieldLinkNest "FormulaVoice" 167 "FormulaVoice$Words" "size" "I" "FormulaVoice") U ∧ va_Nw (.declares ⟨"FormulaVoice$Node", "tells", "(LFormulaVoice$Words;LFormulaVoice$Manner;I)V"⟩) U ∧
  (∀ C ∈ ["FormulaVoice$Letter", "FormulaVoice$Digits", "FormulaVoice$Two", "FormulaVoice$Script", "FormulaVoice$Root", "FormulaVoice$Fenced", "FormulaVoice$Call"], va_Nw (.castable C "FormulaVoice$Node") U ∧ va_Nw (.castable C "java/lang/Object") U) ∧ jm_S U
theorem cx_N.warm {s U : State} (hW : s.WarmedH U.vm) (h : cx_N s) : cx_N U := ⟨h.1.warmF hW, h.2.1.warmF hW, h.2.2.1.warmD hW, fun C hC => ⟨(h.2.2.2.1 C hC).1.warmC hW, (h.2.2.2.1 C hC).2.warmC hW⟩, h.2.2.2.2.moved hW.alike⟩
/-- what an empty list refers to -/
def cx_Z (ad : Nat → Nat) (A : Nat → Prop) (U : State) (H : Heap) : Prop := va_Z "java/util/ArrayList" "DEFAULTCAPACITY_EMPTY_ELEMENTDATA" "[Ljava/lang/Object;" (.ref (ad 190)) A U H ∧ va_T (.object "java/lang/Object") (ad 190) 0 (fun _ => .null) A U H
/-- the tables -/
def cx_K (D : va_G) (cl : List vw_C) (ad : Nat → Nat) (d : Nat → ClassId) (A : Nat → Prop) (U : State) : Prop := va_K D cl (cx_ty d) U ∧ cx_N U ∧ cx_Z ad A U U.heap
def cx_G (D : va_G) (cl : List vw_C) (ad : Nat → Nat) (d : Nat → ClassId) (ι0 : cx_I) (σ0 : cs_S) (H0 : Heap) : cs_S → cx_I → Heap → List Loc → Nat → Nat → Prop := fun σ ι H locs cells slots =>
  cx_W D cl ad d ι σ H ∧ cx_le ι0 ι ∧ (∀ c ∈ ι.1, cx_A ι0 H0.size (ι.2.1 c)) ∧ va_S (cx_A ι0 H0.size) H0 H locs ∧ cells + cs_n1 σ0 = cs_n1 σ ∧ slots + cs_n2 σ0 = cs_n2 σ
/-- an end: an answer, or what was thrown -/
def cx_ro (ad : Nat → Nat) (ι : cx_I) (o : am_O) (o' : Outcome) : Prop := match o with
  | .inl r => ∃ rv, o' = .returned rv ∧ am_ro (cx_TR ad ι) ad r rv
  | .inr x => cx_X x ∧ o' = .threw (ad x)
/-- a contract of the component's machine -/
def cx_Met (l : Launch) (D : va_G) (cl : List vw_C) (ad : Nat → Nat) (d : Nat → ClassId) (f : Nat) (y : MethodName) (ws : List Cond) (args : List am_V) (σ : cs_S) (o : am_O) (σ' : cs_S) : Prop :=
  ∀ (ι : cx_I) (sz : Nat) (rargs : List Value), am_S2 (am_vr (cx_TR ad ι) ad) args rargs →
    xm_Met l y ws { frames := f, cells := cs_n1 σ' - cs_n1 σ, slots := cs_n2 σ' - cs_n2 σ, locals := 40 * f }
      (fun a U => a = rargs.toArray ∧ U.heap.size = sz ∧ cx_W D cl ad d ι σ U.heap ∧ cx_K D cl ad d (cx_A ι sz) U)
      (fun _ st o' t => ∃ ι', cx_ro ad ι' o o' ∧ cx_le ι ι' ∧ cx_W D cl ad d ι' σ' t.heap ∧ (∀ c ∈ ι'.1, cx_A ι sz (ι'.2.1 c)) ∧ va_F (cx_A ι sz) st t)
      (cs_n1 σ' - cs_n1 σ) (cs_n2 σ' - cs_n2 σ) (cx_A ι sz)
