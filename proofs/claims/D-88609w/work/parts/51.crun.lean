/-! THE MACHINE IS SOUND, with an index: what of the heap the trees stand for may grow on the way. -/
section
variable {p : Program} {l : Launch} {e : Env} {R : Room} {s : State} {m : MethodId} {args : Array Value} {below : List Frame} {meth : Method} {c : Code} {Q : State → Prop}
variable {cc : ByteArray} {S I : Type} {res : am_O × S} {TR : I → Tr → Value → Prop} {ad : Nat → Nat} {G : S → I → Heap → List Loc → Nat → Nat → Prop}
/-- what may be thrown -/
def cx_X (x : Nat) : Prop := x = 143 ∨ x = 144
/-- what stands stays -/
def cr_le (TR : I → Tr → Value → Prop) (ι ι' : I) : Prop := ∀ t rv, TR ι t rv → TR ι' t rv
theorem cr_le.vr {ι ι' : I} (h : cr_le TR ι ι') : ∀ v rv, am_vr (TR ι) ad v rv → am_vr (TR ι') ad v rv := by
  intro v rv q
  rcases v with (x | x | x | x | _ | x | x) | t <;> first | exact q | exact h _ _ q
/-- what is asked of a hop: it comes to where its continuation goes on -/
def cr_hopOk (p : Program) (l : Launch) (e : Env) (R : Room) (s : State) (m : MethodId) (args : Array Value) (below : List Frame) (meth : Method) (c : Code) (Q : State → Prop) (cc : ByteArray) (res : am_O × S) (TR : I → Tr → Value → Prop) (ad : Nat → Nat) (G : S → I → Heap → List Loc → Nat → Nat → Prop) (nL : Nat)
    (Mn : S → Prop) (hop : Instr → List am_V → S → (Nat → S → am_R S) → (List am_V → S → am_R S) → am_R S) : Prop :=
  ∀ (pc len : Nat) (i : Instr) (tg : List Nat), am_cok cc (pc, i, len, tg) → ∀ (st : List am_V) (σ : S) (ι : I) (H : Heap) (locs : List Loc) (cells slots : Nat) (rls : Array Slot) (rst : List Value) (kx : Nat → S → am_R S) (k : List am_V → S → am_R S),
    G σ ι H locs cells slots → rls.size = nL → am_S2 (am_vr (TR ι) ad) st rst → hop i st σ kx k = some res → (∀ x σ', kx x σ' = some res → Mn σ') → (∀ st' σ', k st' σ' = some res → Mn σ') →
    (∀ x σ' ι' H' locs' cells' slots', cx_X x → kx x σ' = some res → G σ' ι' H' locs' cells' slots' → cr_le TR ι ι' → am_WX p l e R s m args below meth c H' locs' cells' slots' Q pc rls (ad x)) →
    (∀ st' σ' ι' H' locs' cells' slots' rst', k st' σ' = some res → G σ' ι' H' locs' cells' slots' → cr_le TR ι ι' → am_S2 (am_vr (TR ι') ad) st' rst' → W p l e R s m args below meth c H' locs' cells' slots' Q (F0 m (pc + len) rls rst')) →
    W p l e R s m args below meth c H locs cells slots Q (F0 m pc rls rst)
/-- what is asked of a method's ends -/
def cr_endOk (p : Program) (l : Launch) (e : Env) (R : Room) (s : State) (m : MethodId) (args : Array Value) (below : List Frame) (meth : Method) (c : Code) (Q : State → Prop) (cc : ByteArray) (rt : Option FieldType) (res : am_O × S) (TR : I → Tr → Value → Prop) (ad : Nat → Nat) (G : S → I → Heap → List Loc → Nat → Nat → Prop) (hd : Nat → Option Nat) : Prop :=
  (∀ pc x y σ ι H locs cells slots rls, decode cc pc = .ok (.ireturn, 1) → ((rt = some .int ∧ y = x) ∨ (rt = some .boolean ∧ y = x &&& 1)) → res = (.inl (some (.inl (.int y))), σ) → G σ ι H locs cells slots → W p l e R s m args below meth c H locs cells slots Q (F0 m pc rls [.int x])) ∧
  (∀ pc x σ ι H locs cells slots rls, decode cc pc = .ok (.lreturn, 1) → rt = some .long → res = (.inl (some (.inl (.long x))), σ) → G σ ι H locs cells slots → W p l e R s m args below meth c H locs cells slots Q (F0 m pc rls [.long x])) ∧
  (∀ pc v rv σ ι H locs cells slots rls, decode cc pc = .ok (.areturn, 1) → (∃ n, rt = some (.object n)) → ((∃ x, v = .inl (.ref x)) ∨ ∃ t, v = .inr t) → am_vr (TR ι) ad v rv → res = (.inl (some v), σ) → G σ ι H locs cells slots → W p l e R s m args below meth c H locs cells slots Q (F0 m pc rls [rv])) ∧
  (∀ pc σ ι H locs cells slots rls, decode cc pc = .ok (.return_, 1) → rt = none → res = (.inl none, σ) → G σ ι H locs cells slots → W p l e R s m args below meth c H locs cells slots Q (F0 m pc rls [])) ∧
  (∀ pc x σ ι H locs cells slots rls, hd pc = none → cx_X x → res = (.inr x, σ) → G σ ι H locs cells slots → am_WX p l e R s m args below meth c H locs cells slots Q pc rls (ad x))
def cr_catchOk (p : Program) (l : Launch) (e : Env) (R : Room) (s : State) (m : MethodId) (args : Array Value) (below : List Frame) (meth : Method) (c : Code) (Q : State → Prop) (ad : Nat → Nat) (G : S → I → Heap → List Loc → Nat → Nat → Prop) (hd : Nat → Option Nat) : Prop :=
  ∀ pc q, hd pc = some q → ∀ x σ ι H locs cells slots rls, cx_X x → G σ ι H locs cells slots → W p l e R s m args below meth c H locs cells slots Q (F0 m q rls [.ref (ad x)]) → am_WX p l e R s m args below meth c H locs cells slots Q pc rls (ad x)
variable {hop : Instr → List am_V → S → (Nat → S → am_R S) → (List am_V → S → am_R S) → am_R S} {hd : Nat → Option Nat} {rt : Option FieldType} {nL : Nat} {Mn : S → Prop}
theorem cr_rs_ok (hx : p.tables.exec = Jvm.exec) (hb : c.code = cc) (hT : ∀ ι, am_TRok (TR ι)) (hhop : cr_hopOk p l e R s m args below meth c Q cc res TR ad G nL Mn hop) (hend : cr_endOk p l e R s m args below meth c Q cc rt res TR ad G hd) (hcat : cr_catchOk p l e R s m args below meth c Q ad G hd)
    (hmr : Mn res.2) {back : Nat → am_L → List am_V → S → am_R S} (hmb : ∀ q ls st s, back q ls st s = some res → Mn s) (hmh : ∀ i st s kx k, hop i st s kx k = some res → (∀ x s', kx x s' = some res → Mn s') → (∀ st' s', k st' s' = some res → Mn s') → Mn s)
    (hback : ∀ q ls st σ ι H locs cells slots rls rst, back q ls st σ = some res → G σ ι H locs cells slots → ls.length = nL → am_Lr (am_vr (TR ι) ad) nL ls rls → am_S2 (am_vr (TR ι) ad) st rst → W p l e R s m args below meth c H locs cells slots Q (F0 m q rls rst)) :
    ∀ (is : am_C), (∀ q ∈ is, am_cok cc q) → ∀ pc ls st σ ι H locs cells slots rls rst, am_rs hop hd rt back is pc ls st σ = some res → G σ ι H locs cells slots → ls.length = nL → am_Lr (am_vr (TR ι) ad) nL ls rls → am_S2 (am_vr (TR ι) ad) st rst → W p l e R s m args below meth c H locs cells slots Q (F0 m pc rls rst)
  | [], _, pc, ls, st, σ, ι, H, locs, cells, slots, rls, rst, he, _, _, _, _ => by cases he
  | (a, i, len, tg) :: is, hok, pc, ls, st, σ, ι, H, locs, cells, slots, rls, rst, he, hG, hlen, hl, hst => by
    have ih := cr_rs_ok hx hb hT hhop hend hcat hmr hmb hmh hback is (fun q h => hok q (List.mem_cons_of_mem _ h))
    unfold am_rs at he
    cases hpc : Nat.beq a pc with
    | false =>
      rw [hpc, cond_false] at he
      exact ih _ _ _ _ _ _ _ _ _ _ _ he hG hlen hl hst
    | true =>
      rw [hpc, cond_true] at he
      have e1 := Nat.eq_of_beq_eq_true hpc
      subst e1
      have hq := hok _ List.mem_cons_self
      have hq1 : decode cc a = .ok (i, len) := hq.1
      have hq2 : am_lnok i len = true := hq.2.1
      have hq3 : am_tgok i a tg = true := hq.2.2
      have hrs : rls.size = nL := by obtain ⟨rl, h1, -⟩ := hl; exact h1.1
      refine am_core_ok hx hb (hT ι) hq1 hq2 hq3 hl hst hlen he ?_ ?_ ?_ ?_ ?_ ?_
      · intro q ls' st' rls' rst' hk hlen' hl' hst'
        cases hbk : Nat.ble q a with
        | false =>
          rw [hbk, cond_false] at hk
          exact ih _ _ _ _ _ _ _ _ _ _ _ hk hG hlen' hl' hst'
        | true =>
          rw [hbk, cond_true] at hk
          exact hback _ _ _ _ _ _ _ _ _ _ _ hk hG hlen' hl' hst'
      · intro x y h1 h2 hy h3
        subst h1; subst h2
        exact hend.1 _ _ _ _ _ _ _ _ _ _ hq1 hy (Option.some.inj h3).symm hG
      · intro x h1 h2 hy h3
        subst h1; subst h2
        exact hend.2.1 _ _ _ _ _ _ _ _ _ hq1 hy (Option.some.inj h3).symm hG
      · intro v rv h1 h2 hy hv hr h3
        subst h1; subst h2
        exact hend.2.2.1 _ _ _ _ _ _ _ _ _ _ hq1 hy hv hr (Option.some.inj h3).symm hG
      · intro h1 h2 hy h3
        subst h1; subst h2
        exact hend.2.2.2.1 _ _ _ _ _ _ _ _ hq1 hy (Option.some.inj h3).symm hG
      · intro hh
        refine hhop a len i tg hq st σ ι H locs cells slots rls rst _ _ hG hrs hst hh (fun x σ' h => ?_) (fun st' σ' h => am_rs_el hmh hmr hmb is _ _ _ _ h) ?_ ?_
        · cases e : hd a with
          | none =>
            rw [e] at h
            have e2 : res = (.inr x, σ') := (Option.some.inj h).symm
            rw [e2] at hmr
            exact hmr
          | some q =>
            rw [e] at h
            exact am_rs_el hmh hmr hmb is _ _ _ _ h
        · intro x σ' ι' H' locs' cells' slots' hX hk hG' hmono
          cases hhd : hd a with
          | none =>
            rw [hhd] at hk
            exact hend.2.2.2.2 _ _ _ _ _ _ _ _ _ hhd hX (Option.some.inj hk).symm hG'
          | some q =>
            rw [hhd] at hk
            exact hcat a q hhd x σ' ι' H' locs' cells' slots' rls hX hG' (ih _ _ _ _ _ _ _ _ _ _ _ hk hG' hlen (hl.mono hmono.vr) ⟨rfl, trivial⟩)
        · intro st' σ' ι' H' locs' cells' slots' rst' hk hG' hmono hst'
          exact ih _ _ _ _ _ _ _ _ _ _ _ hk hG' hlen (hl.mono hmono.vr) hst'
theorem cr_bk_ok (hx : p.tables.exec = Jvm.exec) (hb : c.code = cc) (hT : ∀ ι, am_TRok (TR ι)) (hhop : cr_hopOk p l e R s m args below meth c Q cc res TR ad G nL Mn hop) (hend : cr_endOk p l e R s m args below meth c Q cc rt res TR ad G hd) (hcat : cr_catchOk p l e R s m args below meth c Q ad G hd) (hmr : Mn res.2) (hmh : ∀ i st s kx k, hop i st s kx k = some res → (∀ x s', kx x s' = some res → Mn s') → (∀ st' s', k st' s' = some res → Mn s') → Mn s) {code : am_C} (hcode : ∀ q ∈ code, am_cok cc q) :
    ∀ (n : Nat) q ls st σ ι H locs cells slots rls rst, am_bk hop hd rt code n q ls st σ = some res → G σ ι H locs cells slots → ls.length = nL → am_Lr (am_vr (TR ι) ad) nL ls rls → am_S2 (am_vr (TR ι) ad) st rst → W p l e R s m args below meth c H locs cells slots Q (F0 m q rls rst) := by
  intro n
  induction n with
  | zero => intro q ls st σ ι H locs cells slots rls rst he; cases he
  | succ n ih =>
    intro q ls st σ ι H locs cells slots rls rst he hG hlen hl hst
    exact cr_rs_ok hx hb hT hhop hend hcat hmr (am_bk_el hmh hmr code n) hmh ih code hcode _ _ _ _ _ _ _ _ _ _ _ he hG hlen hl hst
end
