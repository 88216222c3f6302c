/-! THE MODEL's MACHINE: its state is (int fields, int and boolean arrays, long arrays), by the fields' numbers. -/
/-- the words of a stack -/
def am_wt : List am_V → Nat
  | [] => 0
  | v :: vs => am_cat v + am_wt vs
section
variable {S α : Type}
/-- so many off the stack, the last argument on top -/
def am_tk : Nat → List am_V → List am_V → (List am_V → List am_V → Option α) → Option α
  | 0, st, acc, k => k acc st
  | n + 1, v :: st, acc, k => am_tk n st (v :: acc) k
  | _ + 1, [], _, _ => none
/-- behind a call, by what it answers -/
def am_cr (rk : Nat) (r : am_R S) (kx : Nat → S → am_R S) (k : List am_V → S → am_R S) (st : List am_V) : am_R S := match rk with
  | 0 => am_cv r kx fun s => k st s
  | 1 => am_ci r kx fun x s => k (.inl (.int x) :: st) s
  | 2 => am_cl r kx fun x s => k (.inl (.long x) :: st) s
  | _ => am_ct r kx fun x s => k (.inr x :: st) s
def am_inv (call : Nat → List am_V → S → am_R S) (mt n rk : Nat) (st : List am_V) (s : S) (kx : Nat → S → am_R S) (k : List am_V → S → am_R S) : am_R S :=
  am_tk n st [] fun as r => bif Nat.ble (am_wt r) 8 then am_cr rk (call mt as s) kx k r else none
end
abbrev mm_S : Type := (Nat → Int32) × (Nat → Nat → Int32) × (Nat → Nat → Int64)
abbrev mm_bt : Type := Nat → am_L → List am_V → mm_S → am_R mm_S
abbrev mm_ct : Type := Nat → List am_V → mm_S → am_R mm_S
def mm_p (s : mm_S) (j : Nat) (v : Int32) : mm_S := (va_up s.1 j v, s.2)
def mm_pa (s : mm_S) (c i : Nat) (v : Int32) : mm_S := (s.1, va_up s.2.1 c (upd (s.2.1 c) i v), s.2.2)
def mm_pl (s : mm_S) (c i : Nat) (v : Int64) : mm_S := (s.1, s.2.1, va_up s.2.2 c (vp_updL (s.2.2 c) i v))
def mm_hop (call : Nat → List am_V → mm_S → am_R mm_S) (i : Instr) (st : List am_V) (s : mm_S) (kx : Nat → mm_S → am_R mm_S) (k : List am_V → mm_S → am_R mm_S) : am_R mm_S := match i with
  | .getfield idx => (match st with
    | .inl (.ref 0) :: r => (match am_lk mm_F idx with
      | some j => (match am_lk mm_A j with
        | some _ => k (.inl (.ref j) :: r) s
        | none => k (.inl (.int (s.1 j)) :: r) s)
      | none => none)
    | _ => none)
  | .putfield idx => (match st with
    | .inl (.int v) :: .inl (.ref 0) :: r => (match am_lk mm_F idx with
      | some j => (match am_lk mm_A j with
        | some _ => none
        | none => bif Nat.beq j 30 then (if v = 0 ∨ v = 1 then k r (mm_p s j v) else none) else k r (mm_p s j v))
      | none => none)
    | _ => none)
  | .iaload => (match st with
    | .inl (.int i) :: .inl (.ref c) :: r => (match am_lk mm_A c with
      | some (n, 0) => am_ix i n fun j => k (.inl (.int (s.2.1 c j)) :: r) s
      | _ => none)
    | _ => none)
  | .baload => (match st with
    | .inl (.int i) :: .inl (.ref c) :: r => (match am_lk mm_A c with
      | some (n, 1) => am_ix i n fun j => k (.inl (.int (s.2.1 c j)) :: r) s
      | _ => none)
    | _ => none)
  | .laload => (match st with
    | .inl (.int i) :: .inl (.ref c) :: r => (match am_lk mm_A c with
      | some (n, 2) => am_ix i n fun j => k (.inl (.long (s.2.2 c j)) :: r) s
      | _ => none)
    | _ => none)
  | .iastore => (match st with
    | .inl (.int v) :: .inl (.int i) :: .inl (.ref c) :: r => (match am_lk mm_A c with
      | some (n, 0) => am_ix i n fun j => k r (mm_pa s c j v)
      | _ => none)
    | _ => none)
  | .bastore => (match st with
    | .inl (.int v) :: .inl (.int i) :: .inl (.ref c) :: r => (match am_lk mm_A c with
      | some (n, 1) => am_ix i n fun j => k r (mm_pa s c j (v &&& 1))
      | _ => none)
    | _ => none)
  | .lastore => (match st with
    | .inl (.long v) :: .inl (.int i) :: .inl (.ref c) :: r => (match am_lk mm_A c with
      | some (n, 2) => am_ix i n fun j => k r (mm_pl s c j v)
      | _ => none)
    | _ => none)
  | .ldc2_w idx => (match am_lk mm_K idx with
    | some v => k (.inl (.long v) :: st) s
    | none => none)
  | .invokevirtual idx => (match am_lk mm_I idx with
    | some (mt, false, n, rk) => am_tk n st [] fun as r => (match as with
      | .inl (.ref 0) :: _ => bif Nat.ble (am_wt r) 8 then am_cr rk (call mt as s) kx k r else none
      | _ => none)
    | _ => none)
  | .invokestatic idx => (match am_lk mm_I idx with
    | some (mt, true, n, rk) => am_inv call mt n rk st s kx k
    | _ => none)
  | _ => none
/-- the model's methods: N jumps back in each, calls f deep -/
def mm_call (N : Nat) : Nat → Nat → List am_V → mm_S → am_R mm_S
  | 0, _, _, _ => none
  | f + 1, mt, args, s => match am_lk mm_T mt with
    | some (nL, rt, code, _) => bif Nat.ble (am_lay args).length nL then
        am_rs (mm_hop (mm_call N f)) am_no rt (am_bk (mm_hop (mm_call N f)) am_no rt code N) code 0 (am_ent args nL) [] s
      else none
    | none => none
/-! ITS WORLD -/
def mm_ids : List Nat := [0, 1, 2, 3, 4, 5, 6, 7, 8, 9, 11, 12, 13, 14, 15, 17, 22, 24, 25, 26, 27, 31, 32]
def mm_fs (ad : Nat → Nat) (s : mm_S) : List Value := (List.range 35).map fun j => match am_lk mm_A j with
  | some _ => .ref (ad j)
  | none => .int (s.1 j)
def mm_E (ad : Nat → Nat) (d : Nat → ClassId) (ci : Nat) (s : mm_S) (c : Nat) : va_E := match am_lk mm_A c with
  | some (n, 0) => .inl (d 0, n, .inl (s.2.1 c))
  | some (n, 1) => .inl (d 1, n, .inl (s.2.1 c))
  | some (n, _) => .inl (d 2, n, .inr (.inl (s.2.2 c)))
  | none => .inr (ci, mm_fs ad s)
def mm_ws (ad : Nat → Nat) (d : Nat → ClassId) (ci : Nat) (s : mm_S) : va_W := mm_ids.map fun c => (ad c, mm_E ad d ci s c)
def mm_ty (d : Nat → ClassId) : List (ClassId × FieldType) := [(d 0, .int), (d 1, .boolean), (d 2, .long)]
theorem mm_A_ids : ∀ q ∈ mm_A, q.1 ∈ mm_ids ∧ q.1 ≠ 0 ∧ (q.2.2 = 0 ∨ q.2.2 = 1 ∨ q.2.2 = 2) := by decide
theorem mm_ids_inj : ∀ i, i < mm_ids.length → ∀ j, j < mm_ids.length → mm_ids[i]? = mm_ids[j]? → i = j := by decide
theorem mm_ids_at {c : Nat} (h : c ∈ mm_ids) : ∃ q0 : Nat, mm_ids[q0]? = some c := List.getElem?_of_mem h
theorem mm_ws_at {ad : Nat → Nat} {d : Nat → ClassId} {ci : Nat} {s : mm_S} {c q0 : Nat} (h : mm_ids[q0]? = some c) : (mm_ws ad d ci s)[q0]? = some (ad c, mm_E ad d ci s c) := by
  simp only [mm_ws, List.getElem?_map, h, Option.map_some]
theorem mm_ws_set {ad : Nat → Nat} {d : Nat → ClassId} {ci : Nat} {s s' : mm_S} {c q0 : Nat} (h : mm_ids[q0]? = some c) (hne : ∀ c' : Nat, c' ≠ c → c' ∈ mm_ids → mm_E ad d ci s' c' = mm_E ad d ci s c') {e : va_E} (he : e = mm_E ad d ci s' c) : (mm_ws ad d ci s).set q0 (ad c, e) = mm_ws ad d ci s' := by
  have hl := (List.getElem?_eq_some_iff.mp h).1
  subst he
  apply List.ext_getElem?
  intro i
  by_cases hi : q0 = i
  · subst hi
    rw [List.getElem?_set_self (by simpa [mm_ws] using hl), mm_ws_at h]
  · rw [List.getElem?_set_ne hi]
    simp only [mm_ws, List.getElem?_map]
    cases hc : mm_ids[i]? with
    | none => rfl
    | some c' =>
      have : c' ≠ c := fun q => hi (mm_ids_inj q0 hl i ((List.getElem?_eq_some_iff.mp hc).1) (by rw [h, hc, q]))
      simp only [Option.map_some, hne c' this (List.mem_of_getElem? hc)]
theorem mm_E_p {ad : Nat → Nat} {d : Nat → ClassId} {ci : Nat} {s : mm_S} {j : Nat} {v : Int32} : ∀ c' : Nat, c' ≠ 0 → c' ∈ mm_ids → mm_E ad d ci (mm_p s j v) c' = mm_E ad d ci s c' := by
  intro c' h0 hc
  have : ∃ n, am_lk mm_A c' = some n := by
    have h9 : ∀ c ∈ mm_ids, c ≠ 0 → (am_lk mm_A c).isSome = true := by decide
    exact Option.isSome_iff_exists.mp (h9 c' hc h0)
  obtain ⟨⟨n, t⟩, hn⟩ := this
  simp only [mm_E, hn, mm_p]
  rcases t with _ | _ | t <;> rfl
/-- a value of the model's machine is the machine's -/
def mm_TR (_ : Heap) : Tr → Value → Prop := fun t v => t = .leaf ∧ v = .null
theorem mm_TRok (H : Heap) : am_TRok (mm_TR H) := ⟨⟨rfl, rfl⟩, fun t rv h => by obtain ⟨rfl, rfl⟩ := h; exact .inl ⟨rfl, rfl⟩⟩
/-- an answer -/
def am_ro (TR : Tr → Value → Prop) (ad : Nat → Nat) (r : Option am_V) (rv : Option Value) : Prop := match r, rv with
  | none, none => True
  | some v, some w => am_vr TR ad v w
  | _, _ => False
/-- the cells that the model's methods may write -/
def mm_free (ad : Nat → Nat) : Nat → Prop := fun q => ∃ c ∈ mm_ids, q = ad c
/-- a model's method's contract -/
def mm_Met (l : Launch) (D : va_G) (cl : List vw_C) (ad : Nat → Nat) (d : Nat → ClassId) (ci f : Nat) (M : am_M) (args : List am_V) (s : mm_S) (r : Option am_V) (s' : mm_S) : Prop :=
  ∀ rargs, am_S2 (am_vr (mm_TR #[]) ad) args rargs → Met l M.2.2.2.1 (ws_ M.2.2.2.1 M.2.2.2.2 M.1 M.2.1) { frames := f, cells := 0, slots := 0, locals := 40 * f }
    (fun a U => a = rargs.toArray ∧ va_P D cl (mm_ws ad d ci s) U.heap ∧ va_K D cl (mm_ty d) U ∧ va_D (fun _ => True) (mm_ws ad d ci s))
    (fun _ st o t => (∃ rv, o = .returned rv ∧ am_ro (mm_TR #[]) ad r rv) ∧ va_P D cl (mm_ws ad d ci s') t.heap ∧ va_F (mm_free ad) st t) 0 0 (mm_free ad)
