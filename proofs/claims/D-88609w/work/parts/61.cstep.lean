/-! THE COMPONENT's HOPS ARE SOUND: fields. -/
theorem nb_f {a b : Nat} (h : a ≠ b) : Nat.beq a b = false := by
  cases e : Nat.beq a b with
  | false => rfl
  | true => exact absurd (Nat.eq_of_beq_eq_true e) h
theorem nl_f {a b : Nat} (h : b < a) : Nat.ble a b = false := by
  cases e : Nat.ble a b with
  | false => rfl
  | true => exact absurd (Nat.le_of_ble_eq_true e) (by omega)
theorem nl_t {a b : Nat} (h : a ≤ b) : Nat.ble a b = true := Nat.ble_eq_true_of_le h
theorem cs_isW_e {w : Nat} (h : cs_isW w = true) : w = 103 ∨ w = 104 := by
  unfold cs_isW at h
  rcases (Bool.or_eq_true _ _).mp h with h | h
  · exact .inl (Nat.eq_of_beq_eq_true h)
  · exact .inr (Nat.eq_of_beq_eq_true h)
theorem cs_isL_e {w : Nat} (h : cs_isL w = true) : w = 100 ∨ w = 106 := by
  unfold cs_isL at h
  rcases (Bool.or_eq_true _ _).mp h with h | h
  · exact .inl (Nat.eq_of_beq_eq_true h)
  · exact .inr (Nat.eq_of_beq_eq_true h)
theorem cs_isI_e {j : Nat} (h : cs_isI j = true) : j = 1 ∨ j = 9 ∨ j = 11 ∨ j = 12 ∨ j = 13 ∨ j = 17 := by
  unfold cs_isI at h
  simp only [Bool.or_eq_true] at h
  rcases h with ((((h | h) | h) | h) | h) | h <;> have := Nat.eq_of_beq_eq_true h <;> omega
theorem bif_e {α : Type} {b : Bool} {x : Option α} {r : α} (h : (bif b then x else none) = some r) : b = true ∧ x = some r := by
  cases b with
  | true => exact ⟨rfl, h⟩
  | false => cases h
/-- a node's cell -/
theorem cx_E_nd {ad : Nat → Nat} {d : Nat → ClassId} {ι : cx_I} {σ : cs_S} {c : Nat} (h : 10000 ≤ c) : cx_E ad d ι σ c = .inr (ι.2.2.1 c) := by
  have hA : am_lk cs_A c = none := by
    simp only [cs_A, am_lk, nb_f (show 102 ≠ c by omega), nb_f (show 107 ≠ c by omega), nb_f (show 108 ≠ c by omega), nb_f (show 114 ≠ c by omega), nb_f (show 116 ≠ c by omega), nb_f (show 123 ≠ c by omega), nb_f (show 124 ≠ c by omega), cond_false]
  simp only [cx_E, cs_isW, cs_isL, nb_f (show c ≠ 0 by omega), nb_f (show c ≠ 103 by omega), nb_f (show c ≠ 104 by omega), nb_f (show c ≠ 105 by omega), nb_f (show c ≠ 110 by omega), nb_f (show c ≠ 115 by omega), nb_f (show c ≠ 100 by omega), nb_f (show c ≠ 106 by omega), nl_f (show 220 < c by omega), nl_f (show 999 < c by omega), nl_f (show 1999 < c by omega), Bool.and_false, Bool.or_false, cond_false, hA]
/-- which cell holds an int -/
def cx_ow (j : Nat) : Nat := if j < 19 then 0 else if j = 125 then 105 else j
theorem cx_E_pi {ad : Nat → Nat} {d : Nat → ClassId} {ι : cx_I} {σ : cs_S} {j c : Nat} {v : Int32} (h : c ≠ cx_ow j) : cx_E ad d ι (cs_pi σ j v) c = cx_E ad d ι σ c := by
  have h1 : ∀ i, i ≠ j → cs_i (cs_pi σ j v) i = cs_i σ i := fun i hi => va_up_ne _ _ hi
  have e0 : Nat.beq c 0 = true → cx_fs ad (cs_pi σ j v) = cx_fs ad σ := by
    intro q
    have q := Nat.eq_of_beq_eq_true q
    apply List.map_congr_left
    intro i hi
    have hi := List.mem_range.mp hi
    rw [h1 i (fun z => h (by rw [q, cx_ow, if_pos (by omega)]))]
  have e1 : cs_isW c = true → cs_i (cs_pi σ j v) c = cs_i σ c := by
    intro q
    refine h1 c fun z => h ?_
    rcases cs_isW_e q with q | q <;> subst q <;> subst z <;> decide
  have e2 : Nat.beq c 105 = true → cs_i (cs_pi σ j v) 105 = cs_i σ 105 ∧ cs_i (cs_pi σ j v) 125 = cs_i σ 125 := by
    intro q
    have q := Nat.eq_of_beq_eq_true q
    subst q
    exact ⟨h1 _ fun z => h (by subst z; decide), h1 _ fun z => h (by subst z; decide)⟩
  unfold cx_E
  cases f0 : Nat.beq c 0 with
  | true => rw [cond_true, cond_true, e0 f0]
  | false =>
    rw [cond_false, cond_false]
    cases f1 : cs_isW c with
    | true => rw [cond_true, cond_true, e1 f1]
    | false =>
      rw [cond_false, cond_false]
      cases f2 : Nat.beq c 105 with
      | true => rw [cond_true, cond_true, (e2 f2).1, (e2 f2).2]
      | false => rfl
/-- one step of the machine -/
def cx_step (p : Program) (l : Launch) (e : Env) (R : Room) (s : State) (m : MethodId) (args : Array Value) (below : List Frame) (meth : Method) (c : Code) (Q : State → Prop) (res : am_O × cs_S) (D : va_G) (cl : List vw_C) (ad : Nat → Nat) (d : Nat → ClassId) (ι0 : cx_I) (σ0 : cs_S) (nL pc len : Nat) (F : cs_ft) : Prop :=
  ∀ (st : List am_V) (σ : cs_S) (ι : cx_I) (H : Heap) (locs : List Loc) (cells slots : Nat) (rls : Array Slot) (rst : List Value) (kx : Nat → cs_S → am_R cs_S) (k : List am_V → cs_S → am_R cs_S),
    cx_G D cl ad d ι0 σ0 s.heap σ ι H locs cells slots → rls.size = nL → am_S2 (am_vr (cx_TR ad ι) ad) st rst → F st σ kx k = some res →
    (∀ x σ', kx x σ' = some res → cs_n1 σ' ≤ cs_n1 res.2 ∧ cs_n2 σ' ≤ cs_n2 res.2) → (∀ st' σ', k st' σ' = some res → cs_n1 σ' ≤ cs_n1 res.2 ∧ cs_n2 σ' ≤ cs_n2 res.2) →
    (∀ x σ' ι' H' locs' cells' slots', cx_X x → kx x σ' = some res → cx_G D cl ad d ι0 σ0 s.heap σ' ι' H' locs' cells' slots' → cr_le (cx_TR ad) ι ι' → am_WX p l e R s m args below meth c H' locs' cells' slots' Q pc rls (ad x)) →
    (∀ st' σ' ι' H' locs' cells' slots' rst', k st' σ' = some res → cx_G D cl ad d ι0 σ0 s.heap σ' ι' H' locs' cells' slots' → cr_le (cx_TR ad) ι ι' → am_S2 (am_vr (cx_TR ad ι') ad) st' rst' → W p l e R s m args below meth c H' locs' cells' slots' Q (F0 m (pc + len) rls rst')) →
    W p l e R s m args below meth c H locs cells slots Q (F0 m pc rls rst)
/-- what a step rests on -/
def cx_ctx (p : Program) (R : Room) (s : State) (m : MethodId) (args : Array Value) (c : Code) (res : am_O × cs_S) (D : va_G) (cl : List vw_C) (ad : Nat → Nat) (d : Nat → ClassId) (ι0 : cx_I) (σ0 : cs_S) (nL : Nat) (cc : ByteArray) (own : String) (f : Nat) : Prop :=
  p.tables.exec = Jvm.exec ∧ c.code = cc ∧ (∀ w ∈ lw_all, w.before args s = true) ∧ s.vm.findClass own = some m.cls ∧ cx_K D cl ad d (cx_A ι0 s.heap.size) s ∧ cx_clok cl ∧ c.maxLocals = nL ∧ (f + 1 ≤ R.frames ∧ 40 * (f + 1) ≤ R.locals ∧ cs_n1 res.2 ≤ R.cells + cs_n1 σ0 ∧ cs_n2 res.2 ≤ R.slots + cs_n2 σ0)
/-- a fixed cell in the world -/
theorem cx_at {D : va_G} {cl : List vw_C} {ad : Nat → Nat} {d : Nat → ClassId} {ι : cx_I} {σ : cs_S} {H : Heap} (hW : cx_W D cl ad d ι σ H) {c : Nat} (hc : c ∈ cx_fix) : ∃ q0 : Nat, ι.1[q0]? = some c ∧ (cw ι.1 ι.2.1 (cx_E ad d ι σ))[q0]? = some (ad c, cx_E ad d ι σ c) := by
  obtain ⟨h1, h2⟩ := hW.2.2.2.1 c hc
  obtain ⟨q0, hq⟩ := List.getElem?_of_mem h1
  refine ⟨q0, hq, ?_⟩
  rw [cw_get hq, h2]
/-- a node in the world -/
theorem cx_nat {D : va_G} {cl : List vw_C} {ad : Nat → Nat} {d : Nat → ClassId} {ι : cx_I} {σ : cs_S} {H : Heap} (hW : cx_W D cl ad d ι σ H) {t : Tr} {rv : Value} (ht : tr_nd t = true) (h : cx_TR ad ι t rv) : ∃ (a q0 : Nat) (rx ry : Value), rv = .ref a ∧ tr_k t ≤ 9 ∧ (cw ι.1 ι.2.1 (cx_E ad d ι σ))[q0]? = some (a, .inr (cx_ci (tr_k t), cx_nfs (tr_n t) (tr_k t) (tr_v t) (tr_sz t) (tr_dp t) rx ry)) ∧ cx_TR ad ι (tr_x t) rx ∧ cx_TR ad ι (tr_y t) ry := by
  cases t with
  | leaf => cases ht
  | inner n k v x y =>
    have hk : k ≤ 9 := Nat.le_of_ble_eq_true ht
    rcases h with ⟨-, c, rx, ry, h1, h2, h3, h4, h5, h6⟩ | ⟨h, -⟩ | ⟨h, -⟩
    · obtain ⟨q0, hq⟩ := List.getElem?_of_mem h2
      refine ⟨_, q0, rx, ry, h3, hk, ?_, h5, h6⟩
      rw [cw_get hq, cx_E_nd h1, h4]
      rfl
    · omega
    · omega
def cx_q (k : Nat) : vw_C := cx_cl.getD (cx_ci k) (RX1, TX1, 19)
theorem cx_q_in : ∀ k, k ≤ 9 → (∀ w ∈ u_ws (cx_q k).1 (cx_q k).2.1 (cx_q k).2.2, w ∈ lw_all) ∧ cx_cl[cx_ci k]? = some (cx_q k)
  | 0, _ => ⟨in_X8, rfl⟩
  | 1, _ => ⟨in_X9, rfl⟩
  | 2, _ => ⟨in_X10, rfl⟩
  | 3, _ => ⟨in_X10, rfl⟩
  | 4, _ => ⟨in_X10, rfl⟩
  | 5, _ => ⟨in_X11, rfl⟩
  | 6, _ => ⟨in_X11, rfl⟩
  | 7, _ => ⟨in_X12, rfl⟩
  | 8, _ => ⟨in_X13, rfl⟩
  | 9, _ => ⟨in_X14, rfl⟩
  | n + 10, h => by omega
section
variable {p : Program} {l : Launch} {e : Env} {R : Room} {s : State} {m : MethodId} {args : Array Value} {below : List Frame} {meth : Method} {c : Code} {Q : State → Prop} {res : am_O × cs_S} {D : va_G} {cl : List vw_C} {ad : Nat → Nat} {d : Nat → ClassId} {ι0 : cx_I} {σ0 : cs_S} {nL pc : Nat} {cc : ByteArray} {own ref : String} {idx f : Nat}
theorem cx_s_gi (hC : cx_ctx p R s m args c res D cl ad d ι0 σ0 nL cc own f) {j : Nat} (hj : j < 19) (hI : cs_isI j = true) (hl : Cond.fieldLink own idx (TX1 j).1 (TX1 j).2.1 (TX1 j).2.2.1 ∈ lw_all) (hdg : decode cc pc = .ok (.getfield idx, 3)) : cx_step p l e R s m args below meth c Q res D cl ad d ι0 σ0 nL pc 3 (cs_g_i j) := by
  obtain ⟨hx, hb, hts, hown, hK, hcl, hml, hR⟩ := hC
  intro st σ ι H locs cells slots rls rst kx k hG hsz hst he hm1 hm2 hkx hk
  unfold cs_g_i at he
  split at he
  · obtain ⟨r0, rr, rfl, h0, hs9⟩ := am_S2_c hst
    obtain rfl : r0 = .ref (ad 0) := h0
    obtain ⟨q0, -, hat⟩ := cx_at (d := d) hG.1 (c := 0) (by decide)
    refine va_get hx hb hts in_X1 hown hK.1 (cw_P hG.1.1) q0 (ci := 0) (fs := cx_fs ad σ) hat (hcl 0 _ rfl) j hj (hts _ hl) (fun _ h => h) (v := .int (cs_i σ j)) ?_ hdg (hk _ _ ι _ _ _ _ _ he hG (cx_le.rf ι).cr ⟨rfl, hs9⟩)
    simp only [cx_fs, List.getElem?_map, List.getElem?_range hj, Option.map_some, hI, cond_true]
  · cases he
theorem cx_s_gr (hC : cx_ctx p R s m args c res D cl ad d ι0 σ0 nL cc own f) {j : Nat} (hj : j < 19) (hI : cs_isI j = false) (hl : Cond.fieldLink own idx (TX1 j).1 (TX1 j).2.1 (TX1 j).2.2.1 ∈ lw_all) (hdg : decode cc pc = .ok (.getfield idx, 3)) : cx_step p l e R s m args below meth c Q res D cl ad d ι0 σ0 nL pc 3 (cs_g_r j) := by
  obtain ⟨hx, hb, hts, hown, hK, hcl, hml, hR⟩ := hC
  intro st σ ι H locs cells slots rls rst kx k hG hsz hst he hm1 hm2 hkx hk
  unfold cs_g_r at he
  split at he
  · obtain ⟨r0, rr, rfl, h0, hs9⟩ := am_S2_c hst
    obtain rfl : r0 = .ref (ad 0) := h0
    obtain ⟨q0, -, hat⟩ := cx_at (d := d) hG.1 (c := 0) (by decide)
    refine va_get hx hb hts in_X1 hown hK.1 (cw_P hG.1.1) q0 (ci := 0) (fs := cx_fs ad σ) hat (hcl 0 _ rfl) j hj (hts _ hl) (fun _ h => h) (v := .ref (ad (100 + j))) ?_ hdg (hk _ _ ι _ _ _ _ _ he hG (cx_le.rf ι).cr ⟨rfl, hs9⟩)
    simp only [cx_fs, List.getElem?_map, List.getElem?_range hj, Option.map_some, hI, cond_false]
  · cases he
/-- a Words' cell -/
theorem cx_wat {D : va_G} {cl : List vw_C} {ad : Nat → Nat} {d : Nat → ClassId} {ι : cx_I} {σ : cs_S} {H : Heap} (hW : cx_W D cl ad d ι σ H) {w : Nat} (hw : cs_isW w = true) : ∃ q0 : Nat, ι.1[q0]? = some w ∧ (cw ι.1 ι.2.1 (cx_E ad d ι σ))[q0]? = some (ad w, .inr (1, [.ref (ad (w + 20)), .int (cs_i σ w), .ref (ad (w + 40))])) := by
  rcases cs_isW_e hw with rfl | rfl
  · exact cx_at hW (by decide)
  · exact cx_at hW (by decide)
/-- a field of Words: its own class, or the nest's -/
theorem cx_s_gw (hC : cx_ctx p R s m args c res D cl ad d ι0 σ0 nL cc own f) {i : Nat} {F : cs_ft} (hi : i < 3) (hF : ∀ st σ kx k, F st σ kx k = some res → ∃ w r, st = .inl (.ref w) :: r ∧ cs_isW w = true ∧ k (([.inl (.ref (w + 20)), .inl (.int (cs_i σ w)), .inl (.ref (w + 40))] : List am_V).getD i (.inr .leaf) :: r) σ = some res)
    (hl : Cond.fieldLink own idx "FormulaVoice$Words" (TX2 i).2.1 (TX2 i).2.2.1 ∈ lw_all ∨ va_Nw (.fieldLinkNest own idx "FormulaVoice$Words" (TX2 i).2.1 (TX2 i).2.2.1 "FormulaVoice") s) (hdg : decode cc pc = .ok (.getfield idx, 3)) : cx_step p l e R s m args below meth c Q res D cl ad d ι0 σ0 nL pc 3 F := by
  obtain ⟨hx, hb, hts, hown, hK, hcl, hml, hR⟩ := hC
  intro st σ ι H locs cells slots rls rst kx k hG hsz hst he hm1 hm2 hkx hk
  obtain ⟨w, r, rfl, hw, he⟩ := hF _ _ _ _ he
  obtain ⟨r0, rr, rfl, h0, hs9⟩ := am_S2_c hst
  obtain rfl : r0 = .ref (ad w) := h0
  obtain ⟨q0, -, hat⟩ := cx_wat (d := d) hG.1 hw
  have hT : (TX2 i).1 = "FormulaVoice$Words" := by unfold TX2; split <;> rfl
  have key : ∀ v : Value, ([.ref (ad (w + 20)), .int (cs_i σ w), .ref (ad (w + 40))] : List Value)[i]? = some v → am_vr (cx_TR ad ι) ad (([.inl (.ref (w + 20)), .inl (.int (cs_i σ w)), .inl (.ref (w + 40))] : List am_V).getD i (.inr .leaf)) v → W p l e R s m args below meth c H locs cells slots Q (F0 m pc rls (.ref (ad w) :: rr)) := by
    intro v hv hr
    have kk := hk _ _ ι _ _ _ _ (v :: rr) he hG (cx_le.rf ι).cr ⟨hr, hs9⟩
    rcases hl with hl | hl
    · exact va_get hx hb hts in_X2 hown hK.1 (cw_P hG.1.1) q0 hat (hcl 1 _ rfl) i hi (hts _ hl) (fun _ h => by rw [hT] at h; exact h) hv hdg kk
    · exact va_getN hx hb hts in_X2 hown hK.1 (cw_P hG.1.1) q0 hat (hcl 1 _ rfl) i hi (hl.use rfl) (fun _ h => by rw [hT] at h; exact h) hv hdg kk
  match i, hi with
  | 0, _ => exact key _ rfl rfl
  | 1, _ => exact key _ rfl rfl
  | 2, _ => exact key _ rfl rfl
theorem cs_g_at_e {res : am_O × cs_S} : ∀ st σ kx k, cs_g_at st σ kx k = some res → ∃ w r, st = .inl (.ref w) :: r ∧ cs_isW w = true ∧ k (([.inl (.ref (w + 20)), .inl (.int (cs_i σ w)), .inl (.ref (w + 40))] : List am_V).getD 0 (.inr .leaf) :: r) σ = some res := by
  intro st σ kx k he
  unfold cs_g_at at he
  split at he
  · exact ⟨_, _, rfl, bif_e he⟩
  · cases he
theorem cs_g_sz_e {res : am_O × cs_S} : ∀ st σ kx k, cs_g_sz st σ kx k = some res → ∃ w r, st = .inl (.ref w) :: r ∧ cs_isW w = true ∧ k (([.inl (.ref (w + 20)), .inl (.int (cs_i σ w)), .inl (.ref (w + 40))] : List am_V).getD 1 (.inr .leaf) :: r) σ = some res := by
  intro st σ kx k he
  unfold cs_g_sz at he
  split at he
  · exact ⟨_, _, rfl, bif_e he⟩
  · cases he
theorem cs_g_en_e {res : am_O × cs_S} : ∀ st σ kx k, cs_g_en st σ kx k = some res → ∃ w r, st = .inl (.ref w) :: r ∧ cs_isW w = true ∧ k (([.inl (.ref (w + 20)), .inl (.int (cs_i σ w)), .inl (.ref (w + 40))] : List am_V).getD 2 (.inr .leaf) :: r) σ = some res := by
  intro st σ kx k he
  unfold cs_g_en at he
  split at he
  · exact ⟨_, _, rfl, bif_e he⟩
  · cases he
theorem cx_s_gm (hC : cx_ctx p R s m args c res D cl ad d ι0 σ0 nL cc own f) {i j : Nat} (hi : i = 0 ∧ j = 105 ∨ i = 1 ∧ j = 125) (hl : Cond.fieldLink own idx "FormulaVoice$Manner" (TX4 i).2.1 (TX4 i).2.2.1 ∈ lw_all) (hdg : decode cc pc = .ok (.getfield idx, 3)) : cx_step p l e R s m args below meth c Q res D cl ad d ι0 σ0 nL pc 3 (cs_g_m j) := by
  obtain ⟨hx, hb, hts, hown, hK, hcl, hml, hR⟩ := hC
  intro st σ ι H locs cells slots rls rst kx k hG hsz hst he hm1 hm2 hkx hk
  unfold cs_g_m at he
  split at he
  · rename_i w r
    obtain ⟨hw, he⟩ := bif_e he
    obtain rfl := Nat.eq_of_beq_eq_true hw
    obtain ⟨r0, rr, rfl, h0, hs9⟩ := am_S2_c hst
    obtain rfl : r0 = .ref (ad 105) := h0
    obtain ⟨q0, -, hat⟩ := cx_at (d := d) hG.1 (c := 105) (by decide)
    have hT : (TX4 i).1 = "FormulaVoice$Manner" := by unfold TX4; split <;> rfl
    refine va_get hx hb hts in_X4 hown hK.1 (cw_P hG.1.1) q0 (ci := 2) (fs := [.int (cs_i σ 105), .int (cs_i σ 125)]) hat (hcl 2 _ rfl) i (by omega) (hts _ hl) (fun _ h => by rw [hT] at h; exact h) (v := .int (cs_i σ j)) ?_ hdg (hk _ _ ι _ _ _ _ _ he hG (cx_le.rf ι).cr ⟨rfl, hs9⟩)
    rcases hi with ⟨rfl, rfl⟩ | ⟨rfl, rfl⟩ <;> rfl
  · cases he
/-- a node's field: i its number, v what it holds -/
theorem cx_s_gn (hC : cx_ctx p R s m args c res D cl ad d ι0 σ0 nL cc own f) {i lo hi : Nat} {F : cs_ft} {g : Tr → am_V} (hF : ∀ st σ kx k, F st σ kx k = some res → ∃ t r, st = .inr t :: r ∧ tr_nd t = true ∧ lo ≤ tr_k t ∧ tr_k t ≤ hi ∧ k (g t :: r) σ = some res)
    (hg : ∀ (ι : cx_I) (t : Tr) (rx ry : Value), lo ≤ tr_k t → tr_k t ≤ hi → cx_TR ad ι (tr_x t) rx → cx_TR ad ι (tr_y t) ry → ∃ v, (cx_nfs (tr_n t) (tr_k t) (tr_v t) (tr_sz t) (tr_dp t) rx ry)[i]? = some v ∧ am_vr (cx_TR ad ι) ad (g t) v)
    {name desc : String} (hT : ∀ k, lo ≤ k → k ≤ hi → k ≤ 9 → i < (cx_q k).2.2 ∧ ((cx_q k).2.1 i).2.1 = name ∧ ((cx_q k).2.1 i).2.2.1 = desc ∧ ∀ x, s.fieldFound? ((cx_q k).2.1 i).1 name desc = some x → s.fieldFound? ref name desc = some x)
    (hl : Cond.fieldLink own idx ref name desc ∈ lw_all) (hdg : decode cc pc = .ok (.getfield idx, 3)) : cx_step p l e R s m args below meth c Q res D cl ad d ι0 σ0 nL pc 3 F := by
  obtain ⟨hx, hb, hts, hown, hK, hcl, hml, hR⟩ := hC
  intro st σ ι H locs cells slots rls rst kx k hG hsz hst he hm1 hm2 hkx hk
  obtain ⟨t, r, rfl, ht, h1, h2, he⟩ := hF _ _ _ _ he
  obtain ⟨r0, rr, rfl, h0, hs9⟩ := am_S2_c hst
  obtain ⟨a, q0, rx, ry, rfl, hk9, hat, hx1, hy1⟩ := cx_nat hG.1 ht h0
  obtain ⟨hin, hq⟩ := cx_q_in _ hk9
  obtain ⟨t1, t2, t3, t4⟩ := hT _ h1 h2 hk9
  obtain ⟨v, hv, hvr⟩ := hg ι t rx ry h1 h2 hx1 hy1
  exact va_get (C := (cx_q (tr_k t)).1) (T := (cx_q (tr_k t)).2.1) (N := (cx_q (tr_k t)).2.2) (ref := ref) hx hb hts hin hown hK.1 (cw_P hG.1.1) q0 hat (hcl _ _ hq) i t1 (by rw [t2, t3]; exact hts _ hl) (by rw [t2, t3]; exact t4) hv hdg (hk _ _ ι _ _ _ _ _ he hG (cx_le.rf ι).cr ⟨hvr, hs9⟩)
theorem cs_g_n_e {res : am_O × cs_S} {f : Tr → Nat} : ∀ st σ kx k, cs_g_n f st σ kx k = some res → ∃ t r, st = .inr t :: r ∧ tr_nd t = true ∧ 0 ≤ tr_k t ∧ tr_k t ≤ 9 ∧ k ((fun t => .inl (.int (nI (f t)))) t :: r) σ = some res := by
  intro st σ kx k he
  unfold cs_g_n at he
  split at he
  · rename_i t r
    obtain ⟨h1, h2⟩ := bif_e he
    refine ⟨_, _, rfl, h1, Nat.zero_le _, ?_, h2⟩
    cases t with
    | leaf => cases h1
    | inner n k v x y => exact Nat.le_of_ble_eq_true h1
  · cases he
theorem tr_in_e {lo hi : Nat} {t : Tr} (h : tr_in lo hi t = true) (h9 : hi ≤ 9) : tr_nd t = true ∧ lo ≤ tr_k t ∧ tr_k t ≤ hi := by
  cases t with
  | leaf => cases h
  | inner n k v x y =>
    obtain ⟨h1, h2⟩ := (Bool.and_eq_true _ _).mp h
    have h1 := Nat.le_of_ble_eq_true h1
    have h2 := Nat.le_of_ble_eq_true h2
    exact ⟨nl_t (by omega), h1, h2⟩
theorem cs_g_v_e {res : am_O × cs_S} {lo hi : Nat} (h9 : hi ≤ 9) : ∀ st σ kx k, cs_g_v lo hi st σ kx k = some res → ∃ t r, st = .inr t :: r ∧ tr_nd t = true ∧ lo ≤ tr_k t ∧ tr_k t ≤ hi ∧ k ((fun t => .inl (.int (nI (tr_v t)))) t :: r) σ = some res := by
  intro st σ kx k he
  unfold cs_g_v at he
  split at he
  · obtain ⟨h1, h2⟩ := bif_e he
    obtain ⟨a, b, c⟩ := tr_in_e h1 h9
    exact ⟨_, _, rfl, a, b, c, h2⟩
  · cases he
theorem cs_g_t_e {res : am_O × cs_S} {lo hi : Nat} {f : Tr → Tr} (h9 : hi ≤ 9) : ∀ st σ kx k, cs_g_t lo hi f st σ kx k = some res → ∃ t r, st = .inr t :: r ∧ tr_nd t = true ∧ lo ≤ tr_k t ∧ tr_k t ≤ hi ∧ k ((fun t => .inr (f t)) t :: r) σ = some res := by
  intro st σ kx k he
  unfold cs_g_t at he
  split at he
  · obtain ⟨h1, h2⟩ := bif_e he
    obtain ⟨a, b, c⟩ := tr_in_e h1 h9
    exact ⟨_, _, rfl, a, b, c, h2⟩
  · cases he
/-! ints are written -/
theorem cx_G_pi {σ : cs_S} {ι : cx_I} {H H1 : Heap} {locs locs1 : List Loc} {cells slots j q0 : Nat} {v : Int32} {e' : va_E} (hG : cx_G D cl ad d ι0 σ0 s.heap σ ι H locs cells slots) (hq : ι.1[q0]? = some (cx_ow j)) (ha : ι.2.1 (cx_ow j) = ad (cx_ow j)) (hP : va_P D cl ((cw ι.1 ι.2.1 (cx_E ad d ι σ)).set q0 (ad (cx_ow j), e')) H1) (hS : va_S (cx_A ι0 s.heap.size) s.heap H1 locs1) (he : cx_E ad d ι (cs_pi σ j v) (cx_ow j) = e') : cx_G D cl ad d ι0 σ0 s.heap (cs_pi σ j v) ι H1 locs1 cells slots := by
  obtain ⟨hW, h2, h3, -, h5, h6⟩ := hG
  rw [← ha] at hP
  exact ⟨⟨cw_set hq hP (fun c _ hne => cx_E_pi hne) he, hW.2.1, hW.2.2.1, hW.2.2.2⟩, h2, h3, hS, h5, h6⟩
theorem cx_s_si (hC : cx_ctx p R s m args c res D cl ad d ι0 σ0 nL cc own f) {j : Nat} (hj : j < 19) (hI : cs_isI j = true) (hl : Cond.fieldLink own idx (TX1 j).1 (TX1 j).2.1 (TX1 j).2.2.1 ∈ lw_all) (hdg : decode cc pc = .ok (.putfield idx, 3)) : cx_step p l e R s m args below meth c Q res D cl ad d ι0 σ0 nL pc 3 (cs_s_i j) := by
  obtain ⟨hx, hb, hts, hown, hK, hcl, hml, hR⟩ := hC
  intro st σ ι H locs cells slots rls rst kx k hG hsz hst he hm1 hm2 hkx hk
  unfold cs_s_i at he
  split at he
  · rename_i v r
    obtain ⟨rr1, rfl, hs8⟩ := am_S2_i hst
    obtain ⟨r0, rr, rfl, h0, hs9⟩ := am_S2_c hs8
    obtain rfl : r0 = .ref (ad 0) := h0
    obtain ⟨q0, hq, hat⟩ := cx_at (d := d) hG.1 (c := 0) (by decide)
    have how : cx_ow j = 0 := if_pos hj
    have hty : (TX1 j).2.2.2 = false ∧ tyX1 j = .int := by rcases cs_isI_e hI with rfl | rfl | rfl | rfl | rfl | rfl <;> exact ⟨rfl, rfl⟩
    refine va_put hx hb hts in_X1 tyX1 tyX1_ok nmX1 hown hK.1 (cw_P hG.1.1) (cw_D hG.1.2.2.1 hG.1.2.1 hG.2.2.1) hG.2.2.2.1 q0 (ci := 0) (fs := cx_fs ad σ) hat (hcl 0 _ rfl) j hj (hts _ hl) (fun _ h => h) hty.1 (ty := .int) (v := .int v) (by rw [tyX1_ok j hj, hty.2]) rfl rfl (by simpa [cx_fs] using hj) hdg fun H1 locs1 hP1 hD1 hS1 => ?_
    refine hk _ _ ι _ _ _ _ _ he (cx_G_pi hG (q0 := q0) (by rw [how]; exact hq) (by rw [how]; exact (hG.1.2.2.2.1 0 (by decide)).2) (by rw [how]; exact hP1) hS1 ?_) (cx_le.rf ι).cr hs9
    rw [how]
    show Sum.inr (0, cx_fs ad (cs_pi σ j v)) = _
    refine congrArg (fun z => Sum.inr (0, z)) ?_
    apply List.ext_getElem?
    intro i
    by_cases hi : j = i
    · subst hi
      rw [List.getElem?_set_self (by simpa [cx_fs] using hj)]
      simp [cx_fs, List.getElem?_range hj, hI, cs_i, cs_pi, va_up]
    · rw [List.getElem?_set_ne hi]
      simp only [cx_fs, List.getElem?_map]
      cases hr : (List.range 19)[i]? with
      | none => rfl
      | some i' =>
        obtain ⟨h1, h2⟩ := List.getElem?_eq_some_iff.mp hr
        rw [List.getElem_range] at h2
        subst h2
        simp only [Option.map_some, cs_i, cs_pi, va_up_ne _ _ (Ne.symm hi)]
  · cases he
theorem cx_s_ss (hC : cx_ctx p R s m args c res D cl ad d ι0 σ0 nL cc own f) (hl : Cond.fieldLink own idx (TX2 1).1 (TX2 1).2.1 (TX2 1).2.2.1 ∈ lw_all) (hdg : decode cc pc = .ok (.putfield idx, 3)) : cx_step p l e R s m args below meth c Q res D cl ad d ι0 σ0 nL pc 3 cs_s_sz := by
  obtain ⟨hx, hb, hts, hown, hK, hcl, hml, hR⟩ := hC
  intro st σ ι H locs cells slots rls rst kx k hG hsz hst he hm1 hm2 hkx hk
  unfold cs_s_sz at he
  split at he
  · rename_i v w r
    obtain ⟨hw, he⟩ := bif_e he
    obtain ⟨rr1, rfl, hs8⟩ := am_S2_i hst
    obtain ⟨r0, rr, rfl, h0, hs9⟩ := am_S2_c hs8
    obtain rfl : r0 = .ref (ad w) := h0
    obtain ⟨q0, hq, hat⟩ := cx_wat (d := d) hG.1 hw
    have how : cx_ow w = w ∧ w ∈ cx_fix := by rcases cs_isW_e hw with rfl | rfl <;> decide
    refine va_put hx hb hts in_X2 tyX2 tyX2_ok nmX2 hown hK.1 (cw_P hG.1.1) (cw_D hG.1.2.2.1 hG.1.2.1 hG.2.2.1) hG.2.2.2.1 q0 hat (hcl 1 _ rfl) 1 (by decide) (hts _ hl) (fun _ h => h) rfl (ty := .int) (v := .int v) rfl rfl rfl (by simp) hdg fun H1 locs1 hP1 hD1 hS1 => ?_
    refine hk _ _ ι _ _ _ _ _ he (cx_G_pi hG (q0 := q0) (by rw [how.1]; exact hq) (by rw [how.1]; exact (hG.1.2.2.2.1 w how.2).2) (by rw [how.1]; exact hP1) hS1 ?_) (cx_le.rf ι).cr hs9
    rw [how.1]
    rcases cs_isW_e hw with rfl | rfl
    · show Sum.inr (1, [Value.ref (ad 123), .int (cs_i (cs_pi σ 103 v) 103), .ref (ad 143)]) = _
      simp [cs_i, cs_pi, va_up]
    · show Sum.inr (1, [Value.ref (ad 124), .int (cs_i (cs_pi σ 104 v) 104), .ref (ad 144)]) = _
      simp [cs_i, cs_pi, va_up]
  · cases he
theorem cx_s_sm (hC : cx_ctx p R s m args c res D cl ad d ι0 σ0 nL cc own f) {i j : Nat} (hi : i = 0 ∧ j = 105 ∨ i = 1 ∧ j = 125) (hl : Cond.fieldLink own idx (TX4 i).1 (TX4 i).2.1 (TX4 i).2.2.1 ∈ lw_all) (hdg : decode cc pc = .ok (.putfield idx, 3)) : cx_step p l e R s m args below meth c Q res D cl ad d ι0 σ0 nL pc 3 (cs_s_m j) := by
  obtain ⟨hx, hb, hts, hown, hK, hcl, hml, hR⟩ := hC
  intro st σ ι H locs cells slots rls rst kx k hG hsz hst he hm1 hm2 hkx hk
  unfold cs_s_m at he
  split at he
  · rename_i v w r
    obtain ⟨hw, he⟩ := bif_e he
    obtain rfl := Nat.eq_of_beq_eq_true hw
    obtain ⟨rr1, rfl, hs8⟩ := am_S2_i hst
    obtain ⟨r0, rr, rfl, h0, hs9⟩ := am_S2_c hs8
    obtain rfl : r0 = .ref (ad 105) := h0
    obtain ⟨q0, hq, hat⟩ := cx_at (d := d) hG.1 (c := 105) (by decide)
    have how : cx_ow j = 105 := by rcases hi with ⟨-, rfl⟩ | ⟨-, rfl⟩ <;> decide
    have hty : (TX4 i).2.2.2 = false ∧ parseFieldDescriptor (TX4 i).2.2.1 = some .int ∧ i < 2 := by rcases hi with ⟨rfl, -⟩ | ⟨rfl, -⟩ <;> exact ⟨rfl, rfl, by decide⟩
    refine va_put hx hb hts in_X4 tyX4 tyX4_ok nmX4 hown hK.1 (cw_P hG.1.1) (cw_D hG.1.2.2.1 hG.1.2.1 hG.2.2.1) hG.2.2.2.1 q0 (ci := 2) (fs := [.int (cs_i σ 105), .int (cs_i σ 125)]) hat (hcl 2 _ rfl) i hty.2.2 (hts _ hl) (fun _ h => h) hty.1 (ty := .int) (v := .int v) hty.2.1 rfl rfl (by simpa using hty.2.2) hdg fun H1 locs1 hP1 hD1 hS1 => ?_
    refine hk _ _ ι _ _ _ _ _ he (cx_G_pi hG (q0 := q0) (by rw [how]; exact hq) (by rw [how]; exact (hG.1.2.2.2.1 105 (by decide)).2) (by rw [how]; exact hP1) hS1 ?_) (cx_le.rf ι).cr hs9
    rw [how]
    show Sum.inr (2, [Value.int (cs_i (cs_pi σ j v) 105), .int (cs_i (cs_pi σ j v) 125)]) = _
    rcases hi with ⟨rfl, rfl⟩ | ⟨rfl, rfl⟩ <;> simp [cs_i, cs_pi, va_up]
  · cases he
end
