set_option maxRecDepth 100000
/-! STEPS OF WALKS BY HAND in methods of FormulaVoice. -/
section
variable {p : Program} {l : Launch} {e : Env} {R : Room} {s : State} {m : MethodId} {args : Array Value} {below : List Frame} {meth : Method} {c : Code} {Q : State → Prop} {D : va_G} {cl : List vw_C} {ad : Nat → Nat} {d : Nat → ClassId} {nL pc : Nat} {cc : ByteArray} {A0 : Nat → Prop}
/-- what the steps rest on -/
def sx_C (p : Program) (R : Room) (s : State) (m : MethodId) (args : Array Value) (c : Code) (D : va_G) (cl : List vw_C) (ad : Nat → Nat) (d : Nat → ClassId) (nL : Nat) (cc : ByteArray) (A0 : Nat → Prop) : Prop :=
  p.tables.exec = Jvm.exec ∧ c.code = cc ∧ c.maxLocals = nL ∧ s.vm.findClass RX1 = some m.cls ∧ (∀ w ∈ lw_all, w.before args s = true) ∧ cx_clok cl ∧ cx_K D cl ad d A0 s ∧ (∀ q, s.heap.size ≤ q → A0 q) ∧ 12 ≤ R.frames ∧ 480 ≤ R.locals
variable {ι0 ι : cx_I} {κ : sx_I} {SH : Nat → sh_T} {σ : cs_S} {H : Heap} {locs : List Loc} {cells slots : Nat} {rls : Array Slot} {rr : List Value}
/-- what comes behind a step that changes nothing but the index -/
def sx_K1 (p : Program) (l : Launch) (e : Env) (R : Room) (s : State) (m : MethodId) (args : Array Value) (below : List Frame) (meth : Method) (c : Code) (Q : State → Prop) (D : va_G) (cl : List vw_C) (ad : Nat → Nat) (d : Nat → ClassId) (pc : Nat) (A0 : Nat → Prop) (ι0 ι : cx_I) (κ : sx_I) (SH : Nat → sh_T) (σ : cs_S) (cells slots : Nat) (rls : Array Slot) (st : List Value) : Prop :=
  ∀ (ι' : cx_I) (H' : Heap) (locs' : List Loc), sx_G D cl ad d ι0 A0 s.heap σ SH ι' κ H' locs' → cr_le (cx_TR ad) ι ι' → W p l e R s m args below meth c H' locs' cells slots Q (F0 m pc rls st)
theorem sx_K1.aft {v : Int32} (hA2 : ∀ q, s.heap.size ≤ q → A0 q) (hG : sx_G D cl ad d ι0 A0 s.heap σ SH ι κ H locs) (h : sx_K1 p l e R s m args below meth c Q D cl ad d (pc + 3) A0 ι0 ι κ SH σ cells slots rls (.int v :: rr)) : sx_aft p l e R s m args below meth c Q D cl ad d pc A0 σ σ (some (.inl (.int v))) ι H cells slots rls rr := by
  refine sx_aft.pure fun ι' H' locs' rv h1 h2 h3 h4 h5 h6 h7 => ?_
  obtain ⟨w, rfl, hw⟩ := h7.s
  obtain rfl : w = .int v := hw
  exact h ι' H' locs' (hG.call hA2 h1 h2 h3 h4 h5 h6) h1.cr
theorem sx_met {N f mt : Nat} {q : MethodName × List Cond × Nat} (hcl : cx_clok cl) (hq : am_lk cx_MT mt = some q) {as : List am_V} {σ σ1 : cs_S} {o : am_O} (h : cs_call N f mt as σ = some (o, σ1)) : cx_Met l D cl ad d f q.1 q.2.1 as σ o σ1 := (cx_all hcl N f mt q hq as σ o σ1 h).1
/-- isShelf -/
theorem sx_isShelf (hC : sx_C p R s m args c D cl ad d nL cc A0) (hG : sx_G D cl ad d ι0 A0 s.heap σ SH ι κ H locs) (hdg : decode cc pc = .ok (.invokestatic 361, 3)) (hsz : rls.size = nL) (h8 : (rr.map fun v => v.category).sum ≤ 8) (hc : cells ≤ R.cells ∧ slots ≤ R.slots) {x : Int32} (kk : sx_K1 p l e R s m args below meth c Q D cl ad d (pc + 3) A0 ι0 ι κ SH σ cells slots rls (.int (b2 (inR 0 7 x)) :: rr)) : W p l e R s m args below meth c H locs cells slots Q (F0 m pc rls (.int x :: rr)) := by
  obtain ⟨hx, hb, hml, hown, hts, hcl, hK, hA2, hR1, hR2⟩ := hC
  have hMet := sx_met (l := l) (D := D) (ad := ad) (d := d) hcl (mt := 60) rfl (cs_isShelf (N := 0) (f := 0) x σ)
  exact sx_stat (f := 2) (n := 1) hx hb hml hown hts hK cb_60 ⟨by omega, by omega⟩ q956 q957 (by decide +kernel) hdg hMet hG.1 hG.2.2.2.1 hA2 hG.2.2.2.2.2 [.int x] rr ⟨rfl, trivial⟩ rfl hsz rfl h8 (by rw [Nat.sub_self, Nat.sub_self]; exact hc) (kk.aft hA2 hG)
/-- isIn -/
theorem sx_isIn (hC : sx_C p R s m args c D cl ad d nL cc A0) (hG : sx_G D cl ad d ι0 A0 s.heap σ SH ι κ H locs) (hdg : decode cc pc = .ok (.invokestatic 45, 3)) (hsz : rls.size = nL) (h8 : (rr.map fun v => v.category).sum ≤ 8) (hc : cells ≤ R.cells ∧ slots ≤ R.slots) {x : Int32} (lo hi : Nat) {a b : Int64} (ha : a = (nI lo).toInt64) (hb' : b = (nI hi).toInt64) (kk : sx_K1 p l e R s m args below meth c Q D cl ad d (pc + 3) A0 ι0 ι κ SH σ cells slots rls (.int (b2 (inR lo hi x)) :: rr)) : W p l e R s m args below meth c H locs cells slots Q (F0 m pc rls (.long b :: .long a :: .long x.toInt64 :: rr)) := by
  obtain ⟨hx, hb, hml, hown, hts, hcl, hK, hA2, hR1, hR2⟩ := hC
  have hMet := sx_met (l := l) (D := D) (ad := ad) (d := d) hcl (mt := 2) rfl (cs_inR (N := 0) (f := 0) lo hi x σ ha hb')
  exact sx_stat (f := 1) (n := 3) hx hb hml hown hts hK cb_2 ⟨by omega, by omega⟩ q104 q105 (by decide +kernel) hdg hMet hG.1 hG.2.2.2.1 hA2 hG.2.2.2.2.2 [.long x.toInt64, .long a, .long b] rr ⟨rfl, rfl, rfl, trivial⟩ rfl hsz rfl h8 (by rw [Nat.sub_self, Nat.sub_self]; exact hc) (kk.aft hA2 hG)
/-- this stands -/
theorem sx_this (hC : sx_C p R s m args c D cl ad d nL cc A0) (hW : cx_W D cl ad d ι σ H) : ∃ cell : Cell, H[ad 0]? = some cell ∧ cell.vm.isStatics = false ∧ s.vm.findClass RX1 = some cell.cls := by
  obtain ⟨q0, -, hat⟩ := cx_at (d := d) hW (c := 0) (by decide)
  exact va_recv hC.2.2.2.2.2.2.1.1 (cw_P hW.1) (hC.2.2.2.2.2.1 0 _ rfl) hat
/-- isNode -/
theorem sx_isNode (hC : sx_C p R s m args c D cl ad d nL cc A0) (hG : sx_G D cl ad d ι0 A0 s.heap σ SH ι κ H locs) (hdg : decode cc pc = .ok (.invokevirtual 69, 3)) (hsz : rls.size = nL) (h8 : (rr.map fun v => v.category).sum ≤ 8) (hc : cells ≤ R.cells ∧ slots ≤ R.slots) {x : Int32} (kk : sx_K1 p l e R s m args below meth c Q D cl ad d (pc + 3) A0 ι0 ι κ SH σ cells slots rls (.int (b2 (isN (cs_t σ 100).length x)) :: rr)) : W p l e R s m args below meth c H locs cells slots Q (F0 m pc rls (.int x :: .ref (ad 0) :: rr)) := by
  have hrecv := sx_this hC hG.1
  obtain ⟨hx, hb, hml, hown, hts, hcl, hK, hA2, hR1, hR2⟩ := hC
  have hMet := sx_met (l := l) (D := D) (ad := ad) (d := d) hcl (mt := 5) rfl (cs_isNode (N := 0) (f := 0) (s := σ) x)
  exact sx_virt (f := 11) (n := 1) hx hb hml hown hts hK cb_5 ⟨by omega, by omega⟩ q320 q322 qs4 (by decide +kernel) hdg hMet hG.1 hG.2.2.2.1 hA2 hG.2.2.2.2.2 hrecv [.int x] rr ⟨rfl, rfl, trivial⟩ rfl hsz rfl h8 (by rw [Nat.sub_self, Nat.sub_self]; exact hc) (kk.aft hA2 hG)
/-- a node of the page -/
theorem sx_get (hC : sx_C p R s m args c D cl ad d nL cc A0) (hG : sx_G D cl ad d ι0 A0 s.heap σ SH ι κ H locs) (hdg : decode cc pc = .ok (.invokevirtual 73, 3)) (hsz : rls.size = nL) (h8 : (rr.map fun v => v.category).sum ≤ 8) (hc : cells ≤ R.cells ∧ slots ≤ R.slots) {j : Nat} (hj : j < (cs_t σ 100).length) (hl : (cs_t σ 100).length ≤ 120)
    (kk : ∀ (ι' : cx_I) (H' : Heap) (locs' : List Loc) (rv : Value), sx_G D cl ad d ι0 A0 s.heap σ SH ι' κ H' locs' → cr_le (cx_TR ad) ι ι' → (∀ c ∈ ι'.1, cx_A ι H.size (ι'.2.1 c)) → H.size ≤ H'.size → (∀ q, q < H.size → ¬ cx_A ι H.size q → H'[q]? = H[q]?) → cx_TR ad ι' ((cs_t σ 100).getD j .leaf) rv → W p l e R s m args below meth c H' locs' cells slots Q (F0 m (pc + 3) rls (rv :: rr))) : W p l e R s m args below meth c H locs cells slots Q (F0 m pc rls (.int (nI j) :: .ref (ad 100) :: rr)) := by
  obtain ⟨hx, hb, hml, hown, hts, hcl, hK, hA2, hR1, hR2⟩ := hC
  have hMet := sx_met (l := l) (D := D) (ad := ad) (d := d) hcl (mt := 201) rfl (cs_c201 (N := 0) (f := 0) (c := 100) (j := j) (s := σ) rfl hj (by omega))
  obtain ⟨q0, -, hat⟩ := cx_at (d := d) hG.1 (c := 100) (by decide)
  have hrecv : ∃ cell : Cell, H[ad 100]? = some cell ∧ cell.vm.isStatics = false ∧ s.vm.findClass RJ2 = some cell.cls := va_recv hK.1 (cw_P hG.1.1) (hcl 10 _ rfl) hat
  refine sx_virt (f := 10) (n := 1) hx hb hml hown hts hK cb_201 ⟨by omega, by omega⟩ q324 q325 q326 (by decide +kernel) hdg hMet hG.1 hG.2.2.2.1 hA2 hG.2.2.2.2.2 hrecv [.int (nI j)] rr ⟨rfl, rfl, trivial⟩ rfl hsz rfl h8 (by rw [Nat.sub_self, Nat.sub_self]; exact hc) (sx_aft.pure fun ι' H' locs' rv h1 h2 h3 h4 h5 h6 h7 => ?_)
  obtain ⟨w, rfl, hw⟩ := h7.s
  exact kk ι' H' locs' w (hG.call hA2 h1 h2 h3 h4 h5 h6) h1.cr h3 h4 h5 hw
/-- a field of this -/
theorem sx_fld (hC : sx_C p R s m args c D cl ad d nL cc A0) (hW : cx_W D cl ad d ι σ H) {idx : Nat} (j : Nat) (hj : j < 19) (hl : Cond.fieldLink RX1 idx (TX1 j).1 (TX1 j).2.1 (TX1 j).2.2.1 ∈ lw_all) {v : Value} (hv : (cx_fs ad σ)[j]? = some v) (hdg : decode cc pc = .ok (.getfield idx, 3)) (kk : W p l e R s m args below meth c H locs cells slots Q (F0 m (pc + 3) rls (v :: rr))) : W p l e R s m args below meth c H locs cells slots Q (F0 m pc rls (.ref (ad 0) :: rr)) := by
  obtain ⟨hx, hb, hml, hown, hts, hcl, hK, hA2, hR1, hR2⟩ := hC
  obtain ⟨q0, -, hat⟩ := cx_at (d := d) hW (c := 0) (by decide)
  have hT : (TX1 j).1 = "FormulaVoice" := by unfold TX1; split <;> rfl
  exact va_get hx hb hts in_X1 hown hK.1 (cw_P hW.1) q0 (ci := 0) (fs := cx_fs ad σ) hat (hcl 0 _ rfl) j hj (hts _ hl) (fun _ h => h) hv hdg kk
/-- the shelves' array, a shelf, what it holds -/
theorem sx_shelves (hC : sx_C p R s m args c D cl ad d nL cc A0) (hG : sx_G D cl ad d ι0 A0 s.heap σ SH ι κ H locs) (hdg : decode cc pc = .ok (.getfield 352, 3)) (kk : W p l e R s m args below meth c H locs cells slots Q (F0 m (pc + 3) rls (.ref (κ.1 0) :: rr))) : W p l e R s m args below meth c H locs cells slots Q (F0 m pc rls (.ref (ad 0) :: rr)) := by
  refine sx_fld hC hG.1 18 (by decide) q912 (v := .ref (κ.1 0)) ?_ hdg kk
  rw [hG.2.1.1]
  rfl
theorem sx_shelf (hC : sx_C p R s m args c D cl ad d nL cc A0) (hG : sx_G D cl ad d ι0 A0 s.heap σ SH ι κ H locs) (hdg : decode cc pc = .ok (.aaload, 1)) {i : Nat} (hi : i < 8) (kk : W p l e R s m args below meth c H locs cells slots Q (F0 m (pc + 1) rls (.ref (κ.1 (1 + i)) :: rr))) : W p l e R s m args below meth c H locs cells slots Q (F0 m pc rls (.int (nI i) :: .ref (κ.1 0) :: rr)) := by
  obtain ⟨hx, hb, hml, hown, hts, hcl, hK, hA2, hR1, hR2⟩ := hC
  have h := va_aldq (m := m) (args := args) (cells := cells) (slots := slots) (locs := locs) (rest := rr) (ls := rls) (l := l) (e := e) (below := below) (meth := meth) (Q := Q) (R := R) hx hb hK.1 (va_P1 hG.2.1.2.2.2.2.1) 0 7 rfl rfl (i := nI i) (nI_in (by omega) (by omega)) hdg
  rw [nI_clamp (by omega), if_pos hi] at h
  exact h kk
theorem sx_held (hC : sx_C p R s m args c D cl ad d nL cc A0) (hG : sx_G D cl ad d ι0 A0 s.heap σ SH ι κ H locs) (hdg : decode cc pc = .ok (.getfield 368, 3)) {i : Nat} (hi : i < 8) (kk : W p l e R s m args below meth c H locs cells slots Q (F0 m (pc + 3) rls (κ.2 i :: rr))) : W p l e R s m args below meth c H locs cells slots Q (F0 m pc rls (.ref (κ.1 (1 + i)) :: rr)) := by
  obtain ⟨hx, hb, hml, hown, hts, hcl, hK, hA2, hR1, hR2⟩ := hC
  exact va_get hx hb hts in_X5 hown hK.1 (va_P1 (hG.2.1.2.2.2.2.2 i hi).1) 0 rfl (hcl 13 _ rfl) 0 (by decide) (hts _ q888) (fun _ h => h) (v := κ.2 i) rfl hdg kk
/-- a node may be cast to Node -/
theorem sx_castN (hC : sx_C p R s m args c D cl ad d nL cc A0) (hW : cx_W D cl ad d ι σ H) (hdg : decode cc pc = .ok (.checkcast 77, 3)) {t : Tr} {b : Nat} (ht : tr_nd t = true) (hT : cx_TR ad ι t (.ref b)) (kk : W p l e R s m args below meth c H locs cells slots Q (F0 m (pc + 3) rls (.ref b :: rr))) : W p l e R s m args below meth c H locs cells slots Q (F0 m pc rls (.ref b :: rr)) := by
  obtain ⟨hx, hb, hml, hown, hts, hcl, hK, hA2, hR1, hR2⟩ := hC
  obtain ⟨a', q0, rx, ry, he, hk9, hat, -, -⟩ := cx_nat (d := d) hW ht hT
  cases he
  obtain ⟨-, hq9⟩ := cx_q_in _ hk9
  exact va_castY hx hb hown (hts _ q338) (cx_cast hK.2.1 _ hk9).1 (va_recv hK.1 (cw_P hW.1) (hcl _ _ hq9) hat) hdg kk
end
