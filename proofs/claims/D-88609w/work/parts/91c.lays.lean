set_option maxRecDepth 100000
/-! A NODE's KINDS ARE LAID INTO A ROW (lays). -/
section
variable {p : Program} {l : Launch} {e : Env} {R : Room} {s : State} {m : MethodId} {args : Array Value} {below : List Frame} {meth : Method} {c : Code} {Q : State → Prop} {D : va_G} {cl : List vw_C} {ad : Nat → Nat} {d : Nat → ClassId} {nL pc : Nat} {cc : ByteArray}
theorem sx_aft.pure {A0 : Nat → Prop} {σ : cs_S} {r0 : Option am_V} {ι : cx_I} {H : Heap} {cells slots : Nat} {rls : Array Slot} {rr : List Value}
    (h : ∀ (ι' : cx_I) (H' : Heap) (locs' : List Loc) (rv : Option Value), cx_le ι ι' → cx_W D cl ad d ι' σ H' → (∀ c ∈ ι'.1, cx_A ι H.size (ι'.2.1 c)) → H.size ≤ H'.size → (∀ q, q < H.size → ¬ cx_A ι H.size q → H'[q]? = H[q]?) → va_S A0 s.heap H' locs' → am_ro (cx_TR ad ι') ad r0 rv → W p l e R s m args below meth c H' locs' cells slots Q (F0 m (pc + 3) rls (rv.toList ++ rr))) : sx_aft p l e R s m args below meth c Q D cl ad d pc A0 σ σ r0 ι H cells slots rls rr := by
  unfold sx_aft
  rw [Nat.sub_self, Nat.sub_self, Nat.add_zero, Nat.add_zero]
  exact h
/-- a node's field -/
theorem sx_nf (hx : p.tables.exec = Jvm.exec) (hb : c.code = cc) (hts : ∀ w ∈ lw_all, w.before args s = true) (hown : s.vm.findClass RX1 = some m.cls) {tys : List (ClassId × FieldType)} (hK : va_K D cl tys s) (hcl : cx_clok cl) {ι : cx_I} {σ : cs_S} {H : Heap} (hW : cx_W D cl ad d ι σ H) {t : Tr} {a i idx : Nat} (ht : tr_nd t = true) (h0 : cx_TR ad ι t (.ref a)) {name : String} {v : Int32} (hi : (i = 1 ∧ name = "kind" ∧ v = nI (tr_k t)) ∨ (i = 2 ∧ name = "size" ∧ v = nI (tr_sz t)))
    (hl : Cond.fieldLink RX1 idx "FormulaVoice$Node" name "I" ∈ lw_all) {locs : List Loc} {cells slots : Nat} {rls : Array Slot} {rest : List Value} (hdg : decode cc pc = .ok (.getfield idx, 3)) (kk : W p l e R s m args below meth c H locs cells slots Q (F0 m (pc + 3) rls (.int v :: rest))) : W p l e R s m args below meth c H locs cells slots Q (F0 m pc rls (.ref a :: rest)) := by
  obtain ⟨a', q0, rx, ry, he, hk9, hat, -, -⟩ := cx_nat (d := d) hW ht h0
  cases he
  obtain ⟨hin, hq⟩ := cx_q_in _ hk9
  have hT : ∀ k, k ≤ 9 → i < (cx_q k).2.2 ∧ ((cx_q k).2.1 i).2.1 = name ∧ ((cx_q k).2.1 i).2.2.1 = "I" ∧ ((cx_q k).2.1 i).1 = "FormulaVoice$Node" := by
    rcases hi with ⟨rfl, rfl, -⟩ | ⟨rfl, rfl, -⟩
    · exact le9 ⟨by decide, rfl, rfl, rfl⟩ ⟨by decide, rfl, rfl, rfl⟩ ⟨by decide, rfl, rfl, rfl⟩ ⟨by decide, rfl, rfl, rfl⟩ ⟨by decide, rfl, rfl, rfl⟩ ⟨by decide, rfl, rfl, rfl⟩ ⟨by decide, rfl, rfl, rfl⟩ ⟨by decide, rfl, rfl, rfl⟩ ⟨by decide, rfl, rfl, rfl⟩ ⟨by decide, rfl, rfl, rfl⟩
    · exact le9 ⟨by decide, rfl, rfl, rfl⟩ ⟨by decide, rfl, rfl, rfl⟩ ⟨by decide, rfl, rfl, rfl⟩ ⟨by decide, rfl, rfl, rfl⟩ ⟨by decide, rfl, rfl, rfl⟩ ⟨by decide, rfl, rfl, rfl⟩ ⟨by decide, rfl, rfl, rfl⟩ ⟨by decide, rfl, rfl, rfl⟩ ⟨by decide, rfl, rfl, rfl⟩ ⟨by decide, rfl, rfl, rfl⟩
  obtain ⟨t1, t2, t3, t4⟩ := hT _ hk9
  refine va_get (C := (cx_q (tr_k t)).1) (T := (cx_q (tr_k t)).2.1) (N := (cx_q (tr_k t)).2.2) (ref := "FormulaVoice$Node") hx hb hts hin hown hK (cw_P hW.1) q0 hat (hcl _ _ hq) i t1 (by rw [t2, t3]; exact hts _ hl) (by rw [t4]; exact fun _ h => h) (v := .int v) ?_ hdg kk
  rcases hi with ⟨rfl, -, rfl⟩ | ⟨rfl, -, rfl⟩ <;> rfl
/-- a char is stored -/
theorem sx_cast {tys : List (ClassId × FieldType)} {H : Heap} {a : Nat} {locs : List Loc} {cells slots : Nat} {ls : Array Slot} {rest : List Value} (hexec : p.tables.exec = Jvm.exec) (hb : c.code = cc) (hK : va_K D cl tys s) {cA : ClassId} {n : Nat} {f : Nat → Int32} (hP : va_at D cl (a, .inl (cA, n, .inl f)) H) (t0 : Nat) (ht : tys[t0]? = some (cA, .char)) {i : Int32} {x : Int32} (hin : vp_in i n) (hdg : decode cc pc = .ok (.castore, 1))
    (kk : ∀ (H1 : Heap) (z : Nat), va_at D cl (a, .inl (cA, n, .inl (upd f i.toNatClampNeg (vp_nar .char x)))) H1 → H1.size = H.size → (∀ q : Nat, q ≠ a → H1[q]? = H[q]?) → W p l e R s m args below meth c H1 (locs ++ [⟨a, z⟩]) cells slots Q (F0 m (pc + 1) ls rest)) : W p l e R s m args below meth c H locs cells slots Q (F0 m pc ls (.int x :: .int i :: .ref a :: rest)) := by
  refine W.cast hexec hb hP ((hK.2 t0 _ ht).1 n (fun j => .int (f j))) (fun q => by cases q) (by show ¬ (i < 0 ∨ (arrV _ _ _).slots.size ≤ _); rw [arrV_size]; exact hin) rfl rfl hdg fun H1 e z oq => ?_
  refine kk H1 _ ?_ z oq
  show H1[a]? = some (vp_cell _ _)
  rw [e]
  rw [vp_cell_i, vp_cell_i, arrV_store]
  congr 2
  funext q
  by_cases hq : q = i.toNatClampNeg
  · subst hq
    simp [updV, upd, vp_nar]
    try rfl
  · simp [updV, upd, hq]
def cy_x (k : Nat) : MethodName × List Cond × Nat := [(yX7_x, ws_ yX7_x cX7_x 1 (some (.object "FormulaVoice$Node")), 1), (yX7_x, ws_ yX7_x cX7_x 1 (some (.object "FormulaVoice$Node")), 1), (yX10_x, ws_ yX10_x cX10_x 1 (some (.object "FormulaVoice$Node")), 1), (yX10_x, ws_ yX10_x cX10_x 1 (some (.object "FormulaVoice$Node")), 1), (yX10_x, ws_ yX10_x cX10_x 1 (some (.object "FormulaVoice$Node")), 1), (yX10_x, ws_ yX10_x cX10_x 1 (some (.object "FormulaVoice$Node")), 1), (yX10_x, ws_ yX10_x cX10_x 1 (some (.object "FormulaVoice$Node")), 1), (yX12_x, ws_ yX12_x cX12_x 1 (some (.object "FormulaVoice$Node")), 1), (yX12_x, ws_ yX12_x cX12_x 1 (some (.object "FormulaVoice$Node")), 1), (yX12_x, ws_ yX12_x cX12_x 1 (some (.object "FormulaVoice$Node")), 1)].getD k (yX7_x, ws_ yX7_x cX7_x 1 (some (.object "FormulaVoice$Node")), 1)
def cy_y (k : Nat) : MethodName × List Cond × Nat := [(yX7_y, ws_ yX7_y cX7_y 1 (some (.object "FormulaVoice$Node")), 1), (yX7_y, ws_ yX7_y cX7_y 1 (some (.object "FormulaVoice$Node")), 1), (yX10_y, ws_ yX10_y cX10_y 1 (some (.object "FormulaVoice$Node")), 1), (yX10_y, ws_ yX10_y cX10_y 1 (some (.object "FormulaVoice$Node")), 1), (yX10_y, ws_ yX10_y cX10_y 1 (some (.object "FormulaVoice$Node")), 1), (yX10_y, ws_ yX10_y cX10_y 1 (some (.object "FormulaVoice$Node")), 1), (yX10_y, ws_ yX10_y cX10_y 1 (some (.object "FormulaVoice$Node")), 1), (yX7_y, ws_ yX7_y cX7_y 1 (some (.object "FormulaVoice$Node")), 1), (yX7_y, ws_ yX7_y cX7_y 1 (some (.object "FormulaVoice$Node")), 1), (yX7_y, ws_ yX7_y cX7_y 1 (some (.object "FormulaVoice$Node")), 1)].getD k (yX7_y, ws_ yX7_y cX7_y 1 (some (.object "FormulaVoice$Node")), 1)
theorem cy_x_ok : ∀ k, k ≤ 9 → am_lk cx_MT (cs_sel [68, 68, 80, 80, 80, 80, 80, 83, 83, 83] k) = some (cy_x k) ∧ cx_cb (cy_x k).1 (cy_x k).2.1 (cy_x k).2.2 ∧ Cond.selects (cx_q k).1 yX7_x (cy_x k).1 ∈ lw_all ∧ Cond.instanceMethod (cy_x k).1 ∈ lw_all :=
  le9 ⟨rfl, cb_68, q383, q376⟩ ⟨rfl, cb_68, q381, q376⟩ ⟨rfl, cb_80, q388, q386⟩ ⟨rfl, cb_80, q388, q386⟩ ⟨rfl, cb_80, q388, q386⟩ ⟨rfl, cb_80, q385, q386⟩ ⟨rfl, cb_80, q385, q386⟩ ⟨rfl, cb_83, q384, q379⟩ ⟨rfl, cb_83, q382, q379⟩ ⟨rfl, cb_83, q378, q379⟩
theorem cy_y_ok : ∀ k, k ≤ 9 → am_lk cx_MT (cs_sel [69, 69, 81, 81, 81, 81, 81, 69, 69, 69] k) = some (cy_y k) ∧ cx_cb (cy_y k).1 (cy_y k).2.1 (cy_y k).2.2 ∧ Cond.selects (cx_q k).1 yX7_y (cy_y k).1 ∈ lw_all ∧ Cond.instanceMethod (cy_y k).1 ∈ lw_all :=
  le9 ⟨rfl, cb_69, q396, q391⟩ ⟨rfl, cb_69, q394, q391⟩ ⟨rfl, cb_81, q401, q399⟩ ⟨rfl, cb_81, q401, q399⟩ ⟨rfl, cb_81, q401, q399⟩ ⟨rfl, cb_81, q398, q399⟩ ⟨rfl, cb_81, q398, q399⟩ ⟨rfl, cb_69, q397, q391⟩ ⟨rfl, cb_69, q395, q391⟩ ⟨rfl, cb_69, q393, q391⟩
/-- a node's first part, its second part -/
theorem sx_part (z : Bool) (hx : p.tables.exec = Jvm.exec) (hb : c.code = cc) (hml : c.maxLocals = nL) (hown : s.vm.findClass RX1 = some m.cls) (hts : ∀ w ∈ lw_all, w.before args s = true) (hcl : cx_clok cl) {A0 : Nat → Prop} (hK : cx_K D cl ad d A0 s) (hR : 2 ≤ R.frames ∧ 80 ≤ R.locals) (hdg : decode cc pc = .ok (.invokevirtual (if z then 108 else 104), 3)) {t : Tr} (hwf : tr_wf t) (hn : tr_lf t = false) {σ : cs_S} {ι : cx_I} {H : Heap} {locs : List Loc} {cells slots : Nat} {rls : Array Slot} (hW : cx_W D cl ad d ι σ H) (hA : ∀ c ∈ ι.1, A0 (ι.2.1 c)) (hA2 : ∀ q, s.heap.size ≤ q → A0 q) (hS : va_S A0 s.heap H locs) {b : Nat} (hT : cx_TR ad ι t (.ref b)) {rr : List Value} (hsz : rls.size = nL) (h8 : (rr.map fun v => v.category).sum ≤ 8) (hc : cells ≤ R.cells ∧ slots ≤ R.slots)
    (kk : ∀ (ι' : cx_I) (H' : Heap) (locs' : List Loc) (rv : Value), cx_le ι ι' → cx_W D cl ad d ι' σ H' → (∀ c ∈ ι'.1, cx_A ι H.size (ι'.2.1 c)) → H.size ≤ H'.size → (∀ q, q < H.size → ¬ cx_A ι H.size q → H'[q]? = H[q]?) → va_S A0 s.heap H' locs' → cx_TR ad ι' (if z then tr_y t else tr_x t) rv → W p l e R s m args below meth c H' locs' cells slots Q (F0 m (pc + 3) rls (rv :: rr))) : W p l e R s m args below meth c H locs cells slots Q (F0 m pc rls (.ref b :: rr)) := by
  have ht : tr_nd t = true := by
    cases t with
    | leaf => cases hn
    | inner n k v x y => exact Nat.ble_eq_true_of_le (tr_wf_v hwf).1
  obtain ⟨a', q0, rx, ry, he, hk9, hat, -, -⟩ := cx_nat (d := d) hW ht hT
  cases he
  obtain ⟨-, hq⟩ := cx_q_in _ hk9
  have hrecv := va_recv hK.1 (cw_P hW.1) (hcl _ _ hq) hat
  have hbk : ∀ r0, r0 = some (.inr (if z then tr_y t else tr_x t)) → sx_aft p l e R s m args below meth c Q D cl ad d pc A0 σ σ r0 ι H cells slots rls rr := by
    rintro r0 rfl
    refine sx_aft.pure fun ι' H' locs' rv h1 h2 h3 h4 h5 h6 h7 => ?_
    obtain ⟨w, rfl, hw⟩ := h7.s
    exact kk ι' H' locs' w h1 h2 h3 h4 h5 h6 hw
  cases z with
  | false =>
    obtain ⟨m1, m2, m3, m4⟩ := cy_x_ok _ hk9
    have hMet := (cx_all (l := l) (D := D) (ad := ad) (d := d) hcl 0 1 _ _ m1 _ _ _ _ (cs_vx (f := 0) (N := 0) hwf hn σ)).1
    exact sx_up (f := 1) (x := yX7_x) (owner := "FormulaVoice$Node") (n := 0) hx hb hml hown hts hK m2 hR q375 q377 (va_Decl.of (hts _ q376) (hts _ q389)) ⟨by decide, by decide⟩ m3 m4 (by decide +kernel) hdg hMet hW hA hA2 hS hrecv [] rr ⟨hT, trivial⟩ rfl hsz rfl h8 (by rw [Nat.sub_self, Nat.sub_self]; exact hc) (hbk _ rfl)
  | true =>
    obtain ⟨m1, m2, m3, m4⟩ := cy_y_ok _ hk9
    have hMet := (cx_all (l := l) (D := D) (ad := ad) (d := d) hcl 0 1 _ _ m1 _ _ _ _ (cs_vy (f := 0) (N := 0) hwf hn σ)).1
    exact sx_up (f := 1) (x := yX7_y) (owner := "FormulaVoice$Node") (n := 0) hx hb hml hown hts hK m2 hR q390 q392 (va_Decl.of (hts _ q391) (hts _ q402)) ⟨by decide, by decide⟩ m3 m4 (by decide +kernel) hdg hMet hW hA hA2 hS hrecv [] rr ⟨hT, trivial⟩ rfl hsz rfl h8 (by rw [Nat.sub_self, Nat.sub_self]; exact hc) (hbk _ rfl)
end
/-- a row into which kinds are laid -/
def ly (g : Nat → Int32) (a : Nat) (l : List Nat) : Nat → Int32 := fun j => if a ≤ j ∧ j < a + l.length then nI (l.getD (j - a) 0) else g j
theorem ly_cons (g : Nat → Int32) (a x : Nat) (l : List Nat) : ly (upd g a (nI x)) (a + 1) l = ly g a (x :: l) := by
  funext j
  unfold ly upd
  simp only [List.length_cons]
  by_cases h : a + 1 ≤ j ∧ j < a + 1 + l.length
  · rw [if_pos h, if_pos (by omega), show j - a = (j - (a + 1)) + 1 by omega, List.getD_cons_succ]
  · rw [if_neg h]
    by_cases e : j = a
    · subst e
      rw [if_pos rfl, if_pos (by omega), Nat.sub_self]
      rfl
    · rw [if_neg e, if_neg (by omega)]
theorem ly_app (g : Nat → Int32) (a : Nat) (l l' : List Nat) : ly (ly g a l) (a + l.length) l' = ly g a (l ++ l') := by
  funext j
  unfold ly
  simp only [List.length_append]
  by_cases h : a + l.length ≤ j ∧ j < a + l.length + l'.length
  · rw [if_pos h, if_pos (by omega), List.getD_eq_getElem?_getD, List.getD_eq_getElem?_getD, List.getElem?_append_right (by omega), show j - a - l.length = j - (a + l.length) by omega]
  · rw [if_neg h]
    by_cases h2 : a ≤ j ∧ j < a + l.length
    · rw [if_pos h2, if_pos (by omega), List.getD_eq_getElem?_getD, List.getD_eq_getElem?_getD, List.getElem?_append_left (by omega)]
    · rw [if_neg h2, if_neg (by omega)]
theorem ly_nil (g : Nat → Int32) (a : Nat) : ly g a [] = g := by
  funext j
  unfold ly
  rw [if_neg (by simp only [List.length_nil]; omega)]
theorem nar_k : ∀ k, k ≤ 9 → vp_nar .char ((nI k).toUInt32 % 65536).toInt32 = nI k := le9 (by decide +kernel) (by decide +kernel) (by decide +kernel) (by decide +kernel) (by decide +kernel) (by decide +kernel) (by decide +kernel) (by decide +kernel) (by decide +kernel) (by decide +kernel)
def ly_A (ι : cx_I) (sz r : Nat) : Nat → Prop := fun q => cx_A ι sz q ∨ q = r
theorem cb_lays : cx_cb yX1_lays (ws_ yX1_lays cX1_lays 4 (some .int)) 4 := cx_cb.of q965 q65 ⟨by decide, by decide⟩ (by decide)
def ly_Pc (D : va_G) (cl : List vw_C) (ad : Nat → Nat) (d : Nat → ClassId) (ι : cx_I) (σ : cs_S) (sz r n a : Nat) (g : Nat → Int32) (rv : Value) : Array Value → State → Prop := fun v U => v = [rv, .ref r, .int (nI a)].toArray ∧ U.heap.size = sz ∧ cx_W D cl ad d ι σ U.heap ∧ va_at D cl (r, .inl (d 4, n, .inl g)) U.heap ∧ cx_K D cl ad d (ly_A ι sz r) U
def ly_Qc (D : va_G) (cl : List vw_C) (ad : Nat → Nat) (d : Nat → ClassId) (ι : cx_I) (σ : cs_S) (sz r n a : Nat) (g : Nat → Int32) (t0 : Tr) : Array Value → State → Outcome → State → Prop := fun _ st o t => o = .returned (some (.int (nI (a + tr_sz t0)))) ∧ ∃ ι', cx_le ι ι' ∧ cx_W D cl ad d ι' σ t.heap ∧ (∀ c ∈ ι'.1, cx_A ι sz (ι'.2.1 c)) ∧ va_at D cl (r, .inl (d 4, n, .inl (ly g a (tr_kl t0)))) t.heap ∧ va_F (ly_A ι sz r) st t
theorem ly_blind {D : va_G} {cl : List vw_C} {ad : Nat → Nat} {d : Nat → ClassId} {ι : cx_I} {σ : cs_S} {sz r n a : Nat} {g : Nat → Int32} {rv : Value} : FrameBlind (ly_Pc D cl ad d ι σ sz r n a g rv) := by
  intro v U gg mk q
  obtain ⟨q0, q1, q2, q3, q4, q5, q6⟩ := q
  exact ⟨q0, q1, q2, q3, va_K.moved (u := U) (U := U.calling gg mk v) (Vm.Alike.refl U.vm) q4, cx_N.warm (s := U) (U := U.calling gg mk v) (State.WarmedH.refl U) q5, cx_Z.moved (u := U) (U := U.calling gg mk v) (Vm.Alike.refl U.vm) q6⟩
theorem ly_wf {n k v : Nat} {x y : Tr} (h : tr_wf (.inner n k v x y)) (z : Bool) : tr_wf (if z then y else x) := by
  obtain ⟨hx, hy, -⟩ := h
  cases z
  · exact hx
  · exact hy
section
variable {p : Program} {l : Launch} {e : Env} {R : Room} {s : State} {m : MethodId} {args : Array Value} {below : List Frame} {meth : Method} {c : Code} {Q : State → Prop} {D : va_G} {cl : List vw_C} {ad : Nat → Nat} {d : Nat → ClassId}
/-- one part is laid -/
theorem ly_ph (z : Bool) (pc0 : Nat) (d0 : decode cX1_lays pc0 = .ok (.aload_n 0, 1)) (d1 : decode cX1_lays (pc0 + 1) = .ok (.invokevirtual (if z then 108 else 104), 3)) (d2 : decode cX1_lays (pc0 + 4) = .ok (.ifnull 13, 3)) (d3 : decode cX1_lays (pc0 + 7) = .ok (.aload_n 0, 1)) (d4 : decode cX1_lays (pc0 + 8) = .ok (.invokevirtual (if z then 108 else 104), 3)) (d5 : decode cX1_lays (pc0 + 11) = .ok (.aload_n 1, 1)) (d6 : decode cX1_lays (pc0 + 12) = .ok (.iload_n 3, 1)) (d7 : decode cX1_lays (pc0 + 13) = .ok (.invokestatic 357, 3)) (d8 : decode cX1_lays (pc0 + 16) = .ok (.istore_n 3, 1))
    (hx : p.tables.exec = Jvm.exec) (hb : c.code = cX1_lays) (hml : c.maxLocals = 4) (hown : s.vm.findClass RX1 = some m.cls) (hts : ∀ w ∈ lw_all, w.before args s = true) (hcl : cx_clok cl) {A0 : Nat → Prop} (hK : cx_K D cl ad d A0 s) {t u : Tr} (hwf : tr_wf t) (hlf : tr_lf t = false) (hu : u = if z then tr_y t else tr_x t) (hR : tr_dp u + 2 ≤ R.frames ∧ 40 * (tr_dp u + 2) ≤ R.locals ∧ 2 ≤ R.frames ∧ 80 ≤ R.locals)
    {σ : cs_S} {r n a b a0 : Nat} (hn60 : n ≤ 60) (han : a + tr_sz u ≤ n)
    (ih : tr_lf u = false → ∀ (ι : cx_I) (sz : Nat) (g : Nat → Int32) (rv : Value), cx_TR ad ι u rv → (∀ c ∈ ι.1, ι.2.1 c ≠ r) → xm_Met l yX1_lays (ws_ yX1_lays cX1_lays 4 (some .int)) { frames := tr_dp u + 1, cells := 0, slots := 0, locals := 40 * (tr_dp u + 1) } (ly_Pc D cl ad d ι σ sz r n a g rv) (ly_Qc D cl ad d ι σ sz r n a g u) 0 0 (ly_A ι sz r))
    {ι : cx_I} {H : Heap} {locs : List Loc} {g : Nat → Int32} {ls : Array Slot} (hA2 : ∀ q, s.heap.size ≤ q → A0 q) (hAr : A0 r) (hTR : cx_TR ad ι t (.ref b)) (hl : lv_has ls 4 [(3, .int (nI a)), (0, .ref b), (1, .ref r), (2, .int (nI a0))]) (hW : cx_W D cl ad d ι σ H) (hA : ∀ c ∈ ι.1, A0 (ι.2.1 c)) (hr : ∀ c ∈ ι.1, ι.2.1 c ≠ r) (hrow : va_at D cl (r, .inl (d 4, n, .inl g)) H) (hS : va_S A0 s.heap H locs)
    (kk : ∀ (ι' : cx_I) (H' : Heap) (locs' : List Loc) (ls' : Array Slot), cx_le ι ι' → cx_W D cl ad d ι' σ H' → (∀ c ∈ ι'.1, cx_A ι H.size (ι'.2.1 c)) → (∀ c ∈ ι'.1, A0 (ι'.2.1 c)) → (∀ c ∈ ι'.1, ι'.2.1 c ≠ r) → va_at D cl (r, .inl (d 4, n, .inl (ly g a (tr_kl u)))) H' → va_S A0 s.heap H' locs' → lv_has ls' 4 [(3, .int (nI (a + tr_sz u))), (0, .ref b), (1, .ref r), (2, .int (nI a0))] → W p l e R s m args below meth c H' locs' 0 0 Q (F0 m (pc0 + 17) ls' [])) : W p l e R s m args below meth c H locs 0 0 Q (F0 m pc0 ls []) := by
  have hstep : ∀ {ι ι' : cx_I} {H H' : Heap}, (∀ c ∈ ι.1, A0 (ι.2.1 c)) → (∀ c ∈ ι.1, ι.2.1 c ≠ r) → r < H.size → s.heap.size ≤ H.size → (∀ c ∈ ι'.1, cx_A ι H.size (ι'.2.1 c)) → (∀ c ∈ ι'.1, A0 (ι'.2.1 c)) ∧ ∀ c ∈ ι'.1, ι'.2.1 c ≠ r := by
    intro ι ι' H H' h1 h2 h3 h4 h5
    refine ⟨fun c hc => ?_, fun c hc => ?_⟩
    · rcases h5 c hc with ⟨c', q1, q2⟩ | q
      · rw [q2]; exact h1 c' q1
      · exact hA2 _ (Nat.le_trans h4 q)
    · rcases h5 c hc with ⟨c', q1, q2⟩ | q
      · rw [q2]; exact h2 c' q1
      · omega
  have hnotA : ∀ {ι : cx_I} {H : Heap}, (∀ c ∈ ι.1, ι.2.1 c ≠ r) → r < H.size → ¬ cx_A ι H.size r := by
    rintro ι H h1 h2 (⟨c, hc, e⟩ | h)
    · exact h1 c hc e.symm
    · omega
  have hrl : r < H.size := va_at.lt hrow
  refine lv_aload_n hx hb d0 rfl (lv_at hl 1 rfl) ?_
  refine sx_part z hx hb hml hown hts hcl hK ⟨hR.2.2.1, hR.2.2.2⟩ d1 hwf hlf hW hA hA2 hS hTR hl.1 (Nat.zero_le _) ⟨Nat.zero_le _, Nat.zero_le _⟩ (fun ι1 H1 locs1 rv h1 h2 h3 h4 h5 h6 h7 => ?_)
  rw [← hu] at h7
  obtain ⟨a1, r1⟩ := hstep (H' := H1) hA hr hrl hS.1 h3
  have hrow1 : va_at D cl (r, .inl (d 4, n, .inl g)) H1 := va_at.kept hrow (h5 r hrl (hnotA hr hrl))
  cases hq : tr_lf u with
  | true =>
    have hul : u = .leaf := by cases u with
      | leaf => rfl
      | inner _ _ _ _ _ => cases hq
    rw [hul] at h7 kk
    obtain rfl : rv = .null := h7
    refine lv_ifnullN (tgt := pc0 + 17) hx hb d2 (by omega) ?_
    exact kk ι1 H1 locs1 ls h1 h2 h3 a1 r1 (by rw [show tr_kl .leaf = [] from rfl, ly_nil]; exact hrow1) h6 hl
  | false =>
    have hnd : tr_nd u = true := by
      have : tr_wf u := by
        subst hu
        cases t with
        | leaf => cases hlf
        | inner n0 k v x y => exact ly_wf hwf z
      cases u with
      | leaf => cases hq
      | inner _ _ _ _ _ => exact Nat.ble_eq_true_of_le (tr_wf_v this).1
    obtain ⟨c1, -, -, rfl⟩ := cx_nid hnd h7
    refine lv_ifnull hx hb d2 ?_
    refine lv_aload_n hx hb d3 rfl (lv_at hl 1 rfl) ?_
    refine sx_part z hx hb hml hown hts hcl hK ⟨hR.2.2.1, hR.2.2.2⟩ d4 hwf hlf h2 a1 hA2 h6 (h1.cr _ _ hTR) hl.1 (Nat.zero_le _) ⟨Nat.zero_le _, Nat.zero_le _⟩ (fun ι2 H2 locs2 rv2 i1 i2 i3 i4 i5 i6 i7 => ?_)
    rw [← hu] at i7
    have hrl1 : r < H1.size := Nat.lt_of_lt_of_le hrl h4
    obtain ⟨a2, r2⟩ := hstep (H' := H2) a1 r1 hrl1 h6.1 i3
    have hrow2 : va_at D cl (r, .inl (d 4, n, .inl g)) H2 := va_at.kept hrow1 (i5 r hrl1 (hnotA r1 hrl1))
    have hrl2 : r < H2.size := Nat.lt_of_lt_of_le hrl1 i4
    obtain ⟨c2, -, -, rfl⟩ := cx_nid hnd i7
    refine lv_aload_n hx hb d5 rfl (lv_at hl 2 rfl) ?_
    refine lv_iload_n hx hb d6 rfl (lv_at hl 0 rfl) ?_
    obtain ⟨mk, hnamed⟩ := Cond.code_named (hts _ q965)
    have hsub : ∀ q, ly_A ι2 H2.size r q → A0 q := by
      rintro q ((⟨c, hc, rfl⟩ | h) | rfl)
      · exact a2 c hc
      · exact hA2 _ (Nat.le_trans i6.1 h)
      · exact hAr
    refine xm_callR (xm_runS (own := RX1) (n := 3) (Ts := lw_all) (As := [.ref (ι2.2.1 c2), .ref r, .int (nI a)]) (rest := []) ⟨hx, hb, hml, hown, hts⟩ (ih hq ι2 H2.size g (.ref (ι2.2.1 c2)) i7 r2) (cx_B hts cb_lays ⟨hR.1, hR.2.1⟩) (hts _ q963) (hts _ q964) hnamed ⟨by decide, by decide⟩ (by decide +kernel) ⟨ly_blind, fun U hU hWm => ?_⟩ rfl hl.1 rfl (by decide) d7 ⟨Nat.zero_le _, Nat.zero_le _⟩) (fun v st₀ t1 L h0 hWm hq1 hL => ?_) (fun x st₀ t1 L h0 hWm hq1 hL => ?_)
    · refine ⟨rfl, by rw [hU], by rw [hU]; exact i2, by rw [hU]; exact hrow2, va_K.moved hWm.alike hK.1, hK.2.1.warm hWm, ?_⟩
      rw [hU]
      exact ((hK.2.2.moved hWm.alike).kept (fun q g1 g2 => i6.2.1 q g1 g2)).narrow hsub
    · obtain ⟨hv, ι3, j1, j2, j3, j4, j5, j6⟩ := hq1
      cases hv
      rw [h0] at j5 j6
      have hS3 : va_S A0 s.heap t1.heap (locs2 ++ L) := ⟨Nat.le_trans i6.1 j5, fun q g1 g2 => by rw [j6 q (Nat.lt_of_lt_of_le g1 i6.1) (fun z => g2 (hsub q z))]; exact i6.2.1 q g1 g2, fun q g1 => by
        rcases List.mem_append.mp g1 with g | g
        · exact i6.2.2 q g
        · exact hsub _ (hL q g)⟩
      obtain ⟨a3, r3⟩ := hstep (H' := t1.heap) a2 r2 hrl2 i6.1 j3
      refine lv_istore_n hx hb d8 rfl hl (by decide) rfl (fun ls' hl' => ?_)
      refine kk ι3 t1.heap (locs2 ++ L) ls' ((h1.tr i1).tr j1) j2 (fun c hc => ?_) a3 r3 j4 hS3 hl'
      rcases j3 c hc with ⟨c', g1, g2⟩ | g
      · rw [g2]
        rcases i3 c' g1 with ⟨c'', g3, g4⟩ | g
        · rw [g4]
          exact h3 c'' g3
        · exact .inr (Nat.le_trans h4 g)
      · exact .inr (Nat.le_trans h4 (Nat.le_trans i4 g))
    · obtain ⟨hv, -⟩ := hq1
      cases hv
end
section
variable {l : Launch} {D : va_G} {cl : List vw_C} {ad : Nat → Nat} {d : Nat → ClassId}
theorem sx_lays (hcl : cx_clok cl) : ∀ (t0 : Tr), tr_wf t0 → tr_lf t0 = false → ∀ (ι : cx_I) (σ : cs_S) (sz r n a : Nat) (g : Nat → Int32) (rv : Value), cx_TR ad ι t0 rv → (∀ c ∈ ι.1, ι.2.1 c ≠ r) → a + tr_sz t0 ≤ n → n ≤ 60 →
    xm_Met l yX1_lays (ws_ yX1_lays cX1_lays 4 (some .int)) { frames := tr_dp t0 + 1, cells := 0, slots := 0, locals := 40 * (tr_dp t0 + 1) } (ly_Pc D cl ad d ι σ sz r n a g rv) (ly_Qc D cl ad d ι σ sz r n a g t0) 0 0 (ly_A ι sz r)
  | .leaf, _, hlf => by cases hlf
  | .inner n0 k v x y, hwf, hlf => by
    have ihx := sx_lays hcl x
    have ihy := sx_lays hcl y
    intro ι σ sz r n a g rv hTR hr han hn60
    refine sx_ofW (cc := cX1_lays) (maxL := 4) (ret := some .int) (hh := []) (by decide) (.inl ⟨rfl, rfl⟩) ?_
    intro p e s m args below meth c hadm hx hb hml hret hlocks hnm hts hown hex hP
    obtain ⟨rfl, rfl, hW, hrow, hK⟩ := hP
    have hk9 := (tr_wf_v hwf).1
    have hnd : tr_nd (.inner n0 k v x y) = true := Nat.ble_eq_true_of_le hk9
    obtain ⟨cb, hcb10, hcbm, hrv⟩ := cx_nid hnd hTR
    subst hrv
    have hA2 : ∀ q, s.heap.size ≤ q → ly_A ι s.heap.size r q := fun q h => .inl (.inr h)
    have hsz1 : tr_sz (.inner n0 k v x y) = 1 + tr_sz x + tr_sz y := rfl
    have hdp1 : tr_dp (.inner n0 k v x y) = 1 + max (tr_dp x) (tr_dp y) := rfl
    have hl := lv_entry ([.ref (ι.2.1 cb), .ref r, .int (nI a)]) (n := 4) (Nat.le_of_ble_eq_true rfl)
    rw [lg_entry_eq]
    generalize (lg_sl ([.ref (ι.2.1 cb), .ref r, .int (nI a)]) ++ List.replicate (4 - (lg_sl ([.ref (ι.2.1 cb), .ref r, .int (nI a)])).length) Slot.unset).toArray = ls at hl ⊢
    have hl : lv_has ls 4 [(0, .ref (ι.2.1 cb)), (1, .ref r), (2, .int (nI a))] := hl
    refine lv_aload_n hx hb dX1_lays_0 rfl (lv_at hl 1 rfl) ?_
    refine lv_iload_n hx hb dX1_lays_1 rfl (lv_at hl 2 rfl) ?_
    refine lv_aload_n hx hb dX1_lays_2 rfl (lv_at hl 0 rfl) ?_
    -- 3: .getfield 98
    refine sx_nf hx hb hts hown hK.1 hcl hW hnd hTR (i := 1) (.inl ⟨rfl, rfl, rfl⟩) q135 dX1_lays_3 ?_
    refine lv_i2c hx hb dX1_lays_6 rfl ?_
    -- 7: .castore
    refine sx_cast hx hb hK.1 hrow 4 rfl (nI_in (by omega) (by omega)) dX1_lays_7 (fun H1 z hrow1 hz1 hk1 => ?_)
    rw [nI_clamp (by omega), show tr_k (.inner n0 k v x y) = k from rfl, nar_k k hk9] at hrow1
    have hW1 : cx_W D cl ad d ι σ H1 := hW.kept fun c hc => hk1 _ (hr c hc)
    have hS1 : va_S (ly_A ι s.heap.size r) s.heap H1 ([] ++ [⟨r, z⟩]) := va_S.rf.put hz1 hk1 (.inr rfl)
    generalize ([] ++ [(⟨r, z⟩ : Loc)]) = locs1 at hS1 ⊢
    refine lv_iload_n hx hb dX1_lays_8 rfl (lv_at hl 2 rfl) ?_
    refine lv_iconst hx hb dX1_lays_9 rfl ?_
    refine lv_iadd hx hb dX1_lays_10 ?_
    refine lv_istore_n hx hb dX1_lays_11 rfl hl (by decide) rfl (fun ls hl => ?_)
    -- 12: .aload_n 0
    have hl : lv_has ls 4 [(3, .int (nI (a + 1))), (0, .ref (ι.2.1 cb)), (1, .ref r), (2, .int (nI a))] := by rw [← nI_1]; exact hl
    have hA : ∀ c ∈ ι.1, ly_A ι s.heap.size r (ι.2.1 c) := fun c hc => .inl (.inl ⟨c, hc, rfl⟩)
    have hR2 : 2 ≤ tr_dp (.inner n0 k v x y) + 1 ∧ 80 ≤ 40 * (tr_dp (.inner n0 k v x y) + 1) := by omega
    have hdx : tr_dp x ≤ max (tr_dp x) (tr_dp y) := Nat.le_max_left _ _
    have hdy : tr_dp y ≤ max (tr_dp x) (tr_dp y) := Nat.le_max_right _ _
    refine ly_ph false 12 dX1_lays_12 dX1_lays_13 dX1_lays_16 dX1_lays_19 dX1_lays_20 dX1_lays_23 dX1_lays_24 dX1_lays_25 dX1_lays_28 hx hb hml hown hts hcl hK hwf hlf (u := x) rfl ⟨by show tr_dp x + 2 ≤ tr_dp _ + 1; omega, by show 40 * (tr_dp x + 2) ≤ 40 * (tr_dp _ + 1); omega, hR2.1, hR2.2⟩ hn60 (a := a + 1) (by omega) (fun q ι' sz' g' rv' w1 w2 => ihx (ly_wf hwf false) q ι' σ sz' r n (a + 1) g' rv' w1 w2 (by omega) hn60) hA2 (.inr rfl) hTR hl hW1 hA hr hrow1 hS1 (fun ι2 H2 locs2 ls2 w1 w2 w3 w4 w5 w6 w7 hl2 => ?_)
    refine ly_ph true 29 dX1_lays_29 dX1_lays_30 dX1_lays_33 dX1_lays_36 dX1_lays_37 dX1_lays_40 dX1_lays_41 dX1_lays_42 dX1_lays_45 hx hb hml hown hts hcl hK hwf hlf (u := y) rfl ⟨by show tr_dp y + 2 ≤ tr_dp _ + 1; omega, by show 40 * (tr_dp y + 2) ≤ 40 * (tr_dp _ + 1); omega, hR2.1, hR2.2⟩ hn60 (a := a + 1 + tr_sz x) (by omega) (fun q ι' sz' g' rv' v1 v2 => ihy (ly_wf hwf true) q ι' σ sz' r n (a + 1 + tr_sz x) g' rv' v1 v2 (by omega) hn60) hA2 (.inr rfl) (w1.cr _ _ hTR) hl2 w2 w4 w5 w6 w7 (fun ι3 H3 locs3 ls3 v1 v2 v3 v4 v5 v6 v7 hl3 => ?_)
    refine lv_iload_n hx hb dX1_lays_46 rfl (lv_at hl3 0 rfl) ?_
    refine xm_W (W.iret hx hb hret (fun t1 ht hWm => ?_) v7.2.2 dX1_lays_47 hlocks) (fun t => xm_MQ.of)
    refine ⟨by rw [hsz1, show a + 1 + tr_sz x + tr_sz y = a + (1 + tr_sz x + tr_sz y) by omega], ι3, w1.tr v1, by rw [ht]; exact v2, fun c hc => ?_, ?_, v7.F ht⟩
    · rcases v4 c hc with h | h
      · exact h
      · exact absurd h (v5 c hc)
    · rw [ht, show tr_kl (.inner n0 k v x y) = k :: (tr_kl x ++ tr_kl y) from rfl, ← ly_cons, ← ly_app, tr_kl_len]
      exact v6
end
