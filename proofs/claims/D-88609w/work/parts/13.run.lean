/-! THE ABSTRACT MACHINE IS SOUND: a whole method, over any hop that is sound. -/
def am_no : Nat → Option Nat := fun _ => none
/-- an exception is being thrown at pc: the machine comes to a state with Q -/
def am_WX (p : Program) (l : Launch) (e : Env) (R : Room) (s : State) (m : MethodId) (args : Array Value) (below : List Frame) (meth : Method) (c : Code) (H : Heap) (locs : List Loc) (cells slots : Nat) (Q : State → Prop) (pc : Nat) (ls : Array Slot) (a : Addr) : Prop :=
  ∀ (st : List Value) (T : State), T.heap = H → Stand p l e R s m args below meth c T locs cells slots → ∃ t, Steps p.tables e below ((T.setTop (F0 m pc ls st)).pushFrame (.throwing a)) t ∧ Q t
section
variable {p : Program} {l : Launch} {e : Env} {R : Room} {s : State} {m : MethodId} {args : Array Value} {below : List Frame} {meth : Method} {c : Code} {Q : State → Prop}
variable {cc : ByteArray} {S : Type} {res : am_O × S} {TR : Heap → Tr → Value → Prop} {ad : Nat → Nat} {G : S → Heap → List Loc → Nat → Nat → Prop}
/-- what is asked of a hop: it comes to where its continuation goes on -/
def am_hopOk (p : Program) (l : Launch) (e : Env) (R : Room) (s : State) (m : MethodId) (args : Array Value) (below : List Frame) (meth : Method) (c : Code) (Q : State → Prop) (cc : ByteArray) (res : am_O × S) (TR : Heap → Tr → Value → Prop) (ad : Nat → Nat) (G : S → Heap → List Loc → Nat → Nat → Prop) (nL : Nat) (hd : Nat → Option Nat)
    (hop : Instr → List am_V → S → (Nat → S → am_R S) → (List am_V → S → am_R S) → am_R S) : Prop :=
  ∀ (pc len : Nat) (i : Instr) (tg : List Nat), am_cok cc (pc, i, len, tg) → ∀ (st : List am_V) (σ : S) (H : Heap) (locs : List Loc) (cells slots : Nat) (rls : Array Slot) (rst : List Value) (kx : Nat → S → am_R S) (k : List am_V → S → am_R S),
    G σ H locs cells slots → rls.size = nL → am_S2 (am_vr (TR H) ad) st rst → ((∀ q, hd q = none) → kx = am_tx) → hop i st σ kx k = some res →
    (∀ x σ' H' locs' cells' slots', kx x σ' = some res → G σ' H' locs' cells' slots' → (∀ v rv, am_vr (TR H) ad v rv → am_vr (TR H') ad v rv) → am_WX p l e R s m args below meth c H' locs' cells' slots' Q pc rls (ad x)) →
    (∀ st' σ' H' locs' cells' slots' rst', k st' σ' = some res → G σ' H' locs' cells' slots' → (∀ v rv, am_vr (TR H) ad v rv → am_vr (TR H') ad v rv) → am_S2 (am_vr (TR H') ad) st' rst' → W p l e R s m args below meth c H' locs' cells' slots' Q (F0 m (pc + len) rls rst')) →
    W p l e R s m args below meth c H locs cells slots Q (F0 m pc rls rst)
/-- what is asked of a method's ends -/
def am_endOk (p : Program) (l : Launch) (e : Env) (R : Room) (s : State) (m : MethodId) (args : Array Value) (below : List Frame) (meth : Method) (c : Code) (Q : State → Prop) (cc : ByteArray) (rt : Option FieldType) (res : am_O × S) (TR : Heap → Tr → Value → Prop) (ad : Nat → Nat) (G : S → Heap → List Loc → Nat → Nat → Prop) : Prop :=
  (∀ pc x y σ H locs cells slots rls, decode cc pc = .ok (.ireturn, 1) → ((rt = some .int ∧ y = x) ∨ (rt = some .boolean ∧ y = x &&& 1)) → res = (.inl (some (.inl (.int y))), σ) → G σ H locs cells slots → W p l e R s m args below meth c H locs cells slots Q (F0 m pc rls [.int x])) ∧
  (∀ pc x σ H locs cells slots rls, decode cc pc = .ok (.lreturn, 1) → rt = some .long → res = (.inl (some (.inl (.long x))), σ) → G σ H locs cells slots → W p l e R s m args below meth c H locs cells slots Q (F0 m pc rls [.long x])) ∧
  (∀ pc v rv σ H locs cells slots rls, decode cc pc = .ok (.areturn, 1) → (∃ n, rt = some (.object n)) → ((∃ x, v = .inl (.ref x)) ∨ ∃ t, v = .inr t) → am_vr (TR H) ad v rv → res = (.inl (some v), σ) → G σ H locs cells slots → W p l e R s m args below meth c H locs cells slots Q (F0 m pc rls [rv])) ∧
  (∀ pc σ H locs cells slots rls, decode cc pc = .ok (.return_, 1) → rt = none → res = (.inl none, σ) → G σ H locs cells slots → W p l e R s m args below meth c H locs cells slots Q (F0 m pc rls [])) ∧
  (∀ pc x σ H locs cells slots rls, res = (.inr x, σ) → G σ H locs cells slots → am_WX p l e R s m args below meth c H locs cells slots Q pc rls (ad x))
def am_catchOk (p : Program) (l : Launch) (e : Env) (R : Room) (s : State) (m : MethodId) (args : Array Value) (below : List Frame) (meth : Method) (c : Code) (Q : State → Prop) (ad : Nat → Nat) (G : S → Heap → List Loc → Nat → Nat → Prop) (hd : Nat → Option Nat) : Prop :=
  ∀ pc q, hd pc = some q → ∀ x σ H locs cells slots rls, G σ H locs cells slots → W p l e R s m args below meth c H locs cells slots Q (F0 m q rls [.ref (ad x)]) → am_WX p l e R s m args below meth c H locs cells slots Q pc rls (ad x)
variable {hop : Instr → List am_V → S → (Nat → S → am_R S) → (List am_V → S → am_R S) → am_R S} {hd : Nat → Option Nat} {rt : Option FieldType} {nL : Nat}
theorem am_rs_ok (hx : p.tables.exec = Jvm.exec) (hb : c.code = cc) (hT : ∀ H, am_TRok (TR H)) (hhop : am_hopOk p l e R s m args below meth c Q cc res TR ad G nL hd hop) (hend : am_endOk p l e R s m args below meth c Q cc rt res TR ad G) (hcat : am_catchOk p l e R s m args below meth c Q ad G hd)
    {back : Nat → am_L → List am_V → S → am_R S}
    (hback : ∀ q ls st σ H locs cells slots rls rst, back q ls st σ = some res → G σ H locs cells slots → ls.length = nL → am_Lr (am_vr (TR H) ad) nL ls rls → am_S2 (am_vr (TR H) ad) st rst → W p l e R s m args below meth c H locs cells slots Q (F0 m q rls rst)) :
    ∀ (is : am_C), (∀ q ∈ is, am_cok cc q) → ∀ pc ls st σ H locs cells slots rls rst, am_rs hop hd rt back is pc ls st σ = some res → G σ H locs cells slots → ls.length = nL → am_Lr (am_vr (TR H) ad) nL ls rls → am_S2 (am_vr (TR H) ad) st rst → W p l e R s m args below meth c H locs cells slots Q (F0 m pc rls rst)
  | [], _, pc, ls, st, σ, H, locs, cells, slots, rls, rst, he, _, _, _, _ => by cases he
  | (a, i, len, tg) :: is, hok, pc, ls, st, σ, H, locs, cells, slots, rls, rst, he, hG, hlen, hl, hst => by
    have ih := am_rs_ok hx hb hT hhop hend hcat hback is (fun q h => hok q (List.mem_cons_of_mem _ h))
    unfold am_rs at he
    cases hpc : Nat.beq a pc with
    | false =>
      rw [hpc, cond_false] at he
      exact ih _ _ _ _ _ _ _ _ _ _ he hG hlen hl hst
    | true =>
      rw [hpc, cond_true] at he
      have e1 := Nat.eq_of_beq_eq_true hpc
      subst e1
      have hq := hok _ List.mem_cons_self
      have hq1 : decode cc a = .ok (i, len) := hq.1
      have hq2 : am_lnok i len = true := hq.2.1
      have hq3 : am_tgok i a tg = true := hq.2.2
      have hrs : rls.size = nL := by obtain ⟨rl, h1, -⟩ := hl; exact h1.1
      refine am_core_ok hx hb (hT H) hq1 hq2 hq3 hl hst hlen he ?_ ?_ ?_ ?_ ?_ ?_
      · intro q ls' st' rls' rst' hk hlen' hl' hst'
        cases hbk : Nat.ble q a with
        | false =>
          rw [hbk, cond_false] at hk
          exact ih _ _ _ _ _ _ _ _ _ _ hk hG hlen' hl' hst'
        | true =>
          rw [hbk, cond_true] at hk
          exact hback _ _ _ _ _ _ _ _ _ _ hk hG hlen' hl' hst'
      · intro x y h1 h2 hy h3
        subst h1; subst h2
        exact hend.1 _ _ _ _ _ _ _ _ _ hq1 hy (Option.some.inj h3).symm hG
      · intro x h1 h2 hy h3
        subst h1; subst h2
        exact hend.2.1 _ _ _ _ _ _ _ _ hq1 hy (Option.some.inj h3).symm hG
      · intro v rv h1 h2 hy hv hr h3
        subst h1; subst h2
        exact hend.2.2.1 _ _ _ _ _ _ _ _ _ hq1 hy hv hr (Option.some.inj h3).symm hG
      · intro h1 h2 hy h3
        subst h1; subst h2
        exact hend.2.2.2.1 _ _ _ _ _ _ _ hq1 hy (Option.some.inj h3).symm hG
      · intro hh
        refine hhop a len i tg hq st σ H locs cells slots rls rst _ _ hG hrs hst (fun h0 => by funext x s; rw [h0]) hh ?_ ?_
        · intro x σ' H' locs' cells' slots' hk hG' hmono
          cases hhd : hd a with
          | none =>
            rw [hhd] at hk
            exact hend.2.2.2.2 _ _ _ _ _ _ _ _ (Option.some.inj hk).symm hG'
          | some q =>
            rw [hhd] at hk
            exact hcat a q hhd x σ' H' locs' cells' slots' rls hG' (ih _ _ _ _ _ _ _ _ _ _ hk hG' hlen (hl.mono hmono) ⟨rfl, trivial⟩)
        · intro st' σ' H' locs' cells' slots' rst' hk hG' hmono hst'
          exact ih _ _ _ _ _ _ _ _ _ _ hk hG' hlen (hl.mono hmono) hst'
theorem am_bk_ok (hx : p.tables.exec = Jvm.exec) (hb : c.code = cc) (hT : ∀ H, am_TRok (TR H)) (hhop : am_hopOk p l e R s m args below meth c Q cc res TR ad G nL hd hop) (hend : am_endOk p l e R s m args below meth c Q cc rt res TR ad G) (hcat : am_catchOk p l e R s m args below meth c Q ad G hd) {code : am_C} (hcode : ∀ q ∈ code, am_cok cc q) :
    ∀ (n : Nat) q ls st σ H locs cells slots rls rst, am_bk hop hd rt code n q ls st σ = some res → G σ H locs cells slots → ls.length = nL → am_Lr (am_vr (TR H) ad) nL ls rls → am_S2 (am_vr (TR H) ad) st rst → W p l e R s m args below meth c H locs cells slots Q (F0 m q rls rst) := by
  intro n
  induction n with
  | zero => intro q ls st σ H locs cells slots rls rst he; cases he
  | succ n ih =>
    intro q ls st σ H locs cells slots rls rst he hG hlen hl hst
    exact am_rs_ok hx hb hT hhop hend hcat ih code hcode _ _ _ _ _ _ _ _ _ _ he hG hlen hl hst
end
theorem am_sl_c (r : Value) (rr : List Value) : lg_sl (r :: rr) = (if r.category = 2 then [.val r, .second] else [.val r]) ++ lg_sl rr := by
  simp only [lg_sl, List.flatMap_cons]
/-- the locals at the entry -/
theorem am_lay_args {TR : Tr → Value → Prop} {ad : Nat → Nat} (hT : am_TRok TR) : ∀ (vs : List am_V) (rvs : List Value), am_S2 (am_vr TR ad) vs rvs → (am_lay vs).length = (lg_sl rvs).length ∧ ∀ (b i : Nat) (v : am_V), (am_lay vs)[i]? = some (some v) → ∃ rv, (b + i, rv) ∈ lv_args b rvs ∧ am_vr TR ad v rv
  | [], rvs, h => by
    obtain rfl := am_S2_n h
    exact ⟨rfl, fun b i v hv => by simp [am_lay] at hv⟩
  | v :: vs, rvs, h => by
    obtain ⟨r, rr, rfl, h1, h2⟩ := am_S2_c h
    obtain ⟨h3, h4⟩ := am_lay_args hT vs rr h2
    have hcat := am_vr_cat hT h1
    by_cases hlong : ∃ x, v = .inl (.long x)
    · obtain ⟨x, rfl⟩ := hlong
      obtain rfl : r = .long x := h1
      refine ⟨by rw [am_sl_c]; simp only [am_lay, List.length_cons, List.length_append, h3, Value.category, if_true, List.length_nil]; omega, fun b i u hu => ?_⟩
      match i, hu with
      | 0, hu =>
        simp only [am_lay, List.getElem?_cons_zero, Option.some.injEq] at hu
        subst hu
        exact ⟨.long x, by simp [lv_args], rfl⟩
      | 1, hu => simp [am_lay] at hu
      | i + 2, hu =>
        simp only [am_lay, List.getElem?_cons_succ] at hu
        obtain ⟨ru, a1, a2⟩ := h4 (b + 2) i u hu
        refine ⟨ru, ?_, a2⟩
        simp only [lv_args, Value.category, List.mem_cons]
        right
        have e : b + (i + 2) = b + 2 + i := by omega
        rw [e]
        exact a1
    · have ev : am_lay (v :: vs) = some v :: am_lay vs := by
        rcases v with (x | x | x | x | _ | x | x) | t <;> first | rfl | exact absurd ⟨x, rfl⟩ hlong
      have ec : am_cat v = 1 := by
        rcases v with (x | x | x | x | _ | x | x) | t <;> first | rfl | exact absurd ⟨x, rfl⟩ hlong
      rw [ec] at hcat
      refine ⟨by rw [ev, am_sl_c, if_neg (by omega)]; simp only [List.length_cons, List.length_append, h3, List.length_nil]; omega, fun b i u hu => ?_⟩
      rw [ev] at hu
      match i, hu with
      | 0, hu =>
        simp only [List.getElem?_cons_zero, Option.some.injEq] at hu
        subst hu
        exact ⟨r, by simp [lv_args], h1⟩
      | i + 1, hu =>
        simp only [List.getElem?_cons_succ] at hu
        obtain ⟨ru, a1, a2⟩ := h4 (b + 1) i u hu
        refine ⟨ru, ?_, a2⟩
        simp only [lv_args, hcat, List.mem_cons]
        right
        have e : b + (i + 1) = b + 1 + i := by omega
        rw [e]
        exact a1
theorem am_ent_len {vs : List am_V} {n : Nat} (h : (am_lay vs).length ≤ n) : (am_ent vs n).length = n := by
  simp only [am_ent, List.length_append, List.length_replicate]; omega
theorem am_ent_ok {TR : Tr → Value → Prop} {ad : Nat → Nat} (hT : am_TRok TR) {vs : List am_V} {rvs : List Value} (h : am_S2 (am_vr TR ad) vs rvs) {n : Nat} (hn : (am_lay vs).length ≤ n) : am_Lr (am_vr TR ad) n (am_ent vs n) ((lg_sl rvs ++ List.replicate (n - (lg_sl rvs).length) Slot.unset).toArray) := by
  obtain ⟨h1, h2⟩ := am_lay_args hT vs rvs h
  refine ⟨lv_args 0 rvs, lv_entry rvs (by omega), by rw [am_ent_len hn]; exact Nat.le_refl _, fun i v hv => ?_⟩
  have hv' : (am_lay vs)[i]? = some (some v) := by
    simp only [am_ent] at hv
    rw [List.getElem?_append] at hv
    split at hv
    · exact hv
    · rw [List.getElem?_replicate] at hv
      split at hv <;> cases hv
  obtain ⟨rv, a, b⟩ := h2 0 i v hv'
  rw [Nat.zero_add] at a
  exact ⟨rv, a, b⟩
