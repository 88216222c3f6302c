set_option maxRecDepth 100000
theorem W.up {p : Program} {l : Launch} {e : Env} {R : Room} {s : State} {m : MethodId} {args : Array Value} {below : List Frame} {meth : Method} {c : Code} {H : Heap} {locs : List Loc} {cells slots cells' slots' : Nat} {Q : State → Prop} {g : JFrame} (h : W p l e R s m args below meth c H locs cells' slots' Q g) (hc : cells ≤ cells') (hs : slots ≤ slots') : W p l e R s m args below meth c H locs cells slots Q g := by
  intro T hT X
  obtain ⟨a1, a2, a3, a4, a5, a6⟩ := X.same
  exact h T hT { X with same := ⟨a1, a2, Nat.le_trans a3 (Nat.add_le_add_left hc _), a4, Nat.le_trans a5 hs, a6⟩ }
theorem cs_mk_1 (σ : cs_S) (a b : Nat) : cs_n1 (cs_mk σ a b) - cs_n1 σ = a ∧ cs_n2 (cs_mk σ a b) - cs_n2 σ = b := ⟨Nat.add_sub_cancel_left .., Nat.add_sub_cancel_left ..⟩
theorem rw_q_len {σ : cs_S} (hpg : sx_pg σ) {w k : Nat} (hwk : w = 3 ∨ w = 4 ∧ k < (cs_t σ 100).length) : (rw_q σ w k).2.2.length ≤ 60 := by
  obtain ⟨hnd, h120, h, hh20, hheard, hear⟩ := hpg
  rcases hwk with rfl | ⟨rfl, hk⟩
  · show (sh_ear σ).length ≤ 60
    unfold sh_ear
    rw [List.length_map, List.length_range, hheard, nI_clamp (by omega)]
    omega
  · show (tr_kl _).length ≤ 60
    rw [tr_kl_len]
    have := (hnd k hk).2.2
    omega
theorem cb_rowOf : cx_cb yX1_rowOf (ws_ yX1_rowOf cX1_rowOf 5 (some (.object "java/lang/Object"))) 5 := cx_cb.of q962 q65 ⟨by decide, by decide⟩ (by decide)
theorem sx_G.mk {D : va_G} {cl : List vw_C} {ad : Nat → Nat} {d : Nat → ClassId} {ι0 ι : cx_I} {κ : sx_I} {A0 : Nat → Prop} {H0 H : Heap} {σ : cs_S} {SH : Nat → sh_T} {locs : List Loc} {a b : Nat} (h : sx_G D cl ad d ι0 A0 H0 σ SH ι κ H locs) : sx_G D cl ad d ι0 A0 H0 (cs_mk σ a b) SH ι κ H locs := h
theorem sx_G.ret {D : va_G} {cl : List vw_C} {ad : Nat → Nat} {d : Nat → ClassId} {ι0 ι : cx_I} {κ0 κ : sx_I} {SH0 SH : Nat → sh_T} {s t : State} {H : Heap} {σ : cs_S} {locs : List Loc} (hG : sx_G D cl ad d ι0 (sx_A ι0 κ0 SH0 s.heap.size) s.heap σ SH ι κ H locs) (ht : t.heap = H) (v : Int32) :
    ∃ ι' κ', sx_ro ad ι' (.inl (.inl (some (.inl (.int v))))) (.returned (some (.int v))) t ∧ cx_le ι0 ι' ∧ cx_W D cl ad d ι' (cs_mk σ 10 1000) t.heap ∧ sx_W D cl ad d ι' κ' SH t.heap ∧ (∀ c ∈ ι'.1, sx_A ι0 κ0 SH0 s.heap.size (ι'.2.1 c)) ∧ (∀ j, sx_has SH j → sx_A ι0 κ0 SH0 s.heap.size (κ'.1 j)) ∧ va_F (sx_A ι0 κ0 SH0 s.heap.size) s t :=
  (hG.mk (a := 10) (b := 1000)).fin (o := .inl (.inl (some (.inl (.int v))))) (o' := .returned (some (.int v))) ht ⟨_, rfl, rfl⟩
theorem sx_G.tr {D : va_G} {cl : List vw_C} {ad : Nat → Nat} {d : Nat → ClassId} {ι0 ι ι' : cx_I} {κ κ' : sx_I} {A0 : Nat → Prop} {H0 H H' : Heap} {σ σ' : cs_S} {SH SH' : Nat → sh_T} {locs locs' L : List Loc} (hG : sx_G D cl ad d ι0 A0 H0 σ SH ι κ H locs) (hA2 : ∀ q, H0.size ≤ q → A0 q) (hG' : sx_G D cl ad d ι (sx_A ι κ SH H.size) H σ' SH' ι' κ' H' locs') (hL : ∀ q ∈ L, sx_A ι κ SH H.size q.base) : sx_G D cl ad d ι0 A0 H0 σ' SH' ι' κ' H' (locs ++ L) := by
  obtain ⟨g1, g2, g3, g4, g5, g6⟩ := hG
  obtain ⟨k1, k2, k3, k4, k5, k6⟩ := hG'
  have hsub : ∀ q, sx_A ι κ SH H.size q → A0 q := by
    rintro q ((⟨c, hc, rfl⟩ | h) | ⟨j, hj, rfl⟩)
    · exact g4 c hc
    · exact hA2 _ (Nat.le_trans g6.1 h)
    · exact g5 j hj
  refine ⟨k1, k2, g3.tr k3, fun c hc => hsub _ (k4 c hc), fun j hj => hsub _ (k5 j hj), Nat.le_trans g6.1 k6.1, fun q h1 h2 => ?_, fun q hq => ?_⟩
  · rw [k6.2.1 q (Nat.lt_of_lt_of_le h1 g6.1) (fun z => h2 (hsub q z))]
    exact g6.2.1 q h1 h2
  · rcases List.mem_append.mp hq with h | h
    · exact g6.2.2 q h
    · exact hsub _ (hL q h)
theorem sx_G.sub {D : va_G} {cl : List vw_C} {ad : Nat → Nat} {d : Nat → ClassId} {ι0 ι : cx_I} {κ : sx_I} {A0 : Nat → Prop} {H0 H : Heap} {σ : cs_S} {SH : Nat → sh_T} {locs : List Loc} (hG : sx_G D cl ad d ι0 A0 H0 σ SH ι κ H locs) (hA2 : ∀ q, H0.size ≤ q → A0 q) : ∀ q, sx_A ι κ SH H.size q → A0 q := by
  rintro q ((⟨c, hc, rfl⟩ | h) | ⟨j, hj, rfl⟩)
  · exact hG.2.2.2.1 c hc
  · exact hA2 _ (Nat.le_trans hG.2.2.2.2.2.1 h)
  · exact hG.2.2.2.2.1 j hj
/-- rowOf is called -/
theorem kp_row {p : Program} {l : Launch} {e : Env} {R : Room} {s : State} {m : MethodId} {args : Array Value} {below : List Frame} {meth : Method} {c : Code} {Q : State → Prop} {D : va_G} {cl : List vw_C} {ad : Nat → Nat} {d : Nat → ClassId} {ι0 ι : cx_I} {κ : sx_I} {SH : Nat → sh_T} {σ : cs_S} {H : Heap} {locs : List Loc} {rls : Array Slot} {A0 : Nat → Prop} {w' kn : Nat} {k : Int32} {rr : List Value}
    (hC : sx_C p R s m args c D cl ad d 4 cX1_keep A0) (hG : sx_G D cl ad d ι0 A0 s.heap σ SH ι κ H locs) (hsz : rls.size = 4) (hpg : sx_pg σ) (hwk : w' = 3 ∨ w' = 4 ∧ kn < (cs_t σ 100).length) (hk : w' = 4 → k = nI kn) (hR : 61 ≤ R.frames ∧ 2440 ≤ R.locals ∧ 1 ≤ R.cells ∧ (rw_q σ w' kn).2.2.length ≤ R.slots) (h8 : (rr.map fun v => v.category).sum ≤ 8)
    (kk : ∀ (ι' : cx_I) (H' : Heap) (locs' : List Loc) (r : Nat), sx_G D cl ad d ι0 A0 s.heap σ SH ι' κ H' locs' → va_at D cl (r, sx_row d (rw_q σ w' kn)) H' → s.heap.size ≤ r → (∀ c ∈ ι'.1, ι'.2.1 c ≠ r) → (∀ j, sx_has SH j → κ.1 j ≠ r) → W p l e R s m args below meth c H' locs' 1 (rw_q σ w' kn).2.2.length Q (F0 m 80 rls (.ref r :: rr))) : W p l e R s m args below meth c H locs 0 0 Q (F0 m 77 rls (.int k :: .int (nI w') :: .ref (ad 0) :: rr)) := by
  have hrecv := sx_this hC hG.1
  obtain ⟨hx, hb, hml, hown, hts, hcl, hK, hA2, hR1, hR2⟩ := hC
  have hsub := hG.sub hA2
  refine xm_callR (xm_runV (own := RX1) (C := RX1) (n := 2) (Ts := lw_all) (b := ad 0) (As := [.int (nI w'), .int k]) (rest := rr) ⟨hx, hb, hml, hown, hts⟩ (sx_rowOf (D := D) (ad := ad) (d := d) hcl ι κ SH σ H.size w' kn hpg hwk k hk) (cx_B (f := 60) hts cb_rowOf ⟨hR.1, by omega⟩) (hts _ q959) (hts _ q961) (hts _ qs26) ⟨by decide, by decide⟩ (by decide +kernel) ⟨?_, hrecv, fun U hU hWm => ?_⟩ rfl hsz rfl h8 dX1_keep_77 ⟨by omega, by omega⟩) (fun v st₀ t1 L h0 hWm hq1 hL => ?_) (fun x st₀ t1 L h0 hWm hq1 hL => ?_)
  · intro v U gg mk q
    obtain ⟨q0, q1, q2, q3, q4, q5, q6⟩ := q
    exact ⟨q0, q1, q2, q3, va_K.moved (u := U) (U := U.calling gg mk v) (Vm.Alike.refl U.vm) q4, cx_N.warm (s := U) (U := U.calling gg mk v) (State.WarmedH.refl U) q5, cx_Z.moved (u := U) (U := U.calling gg mk v) (Vm.Alike.refl U.vm) q6⟩
  · refine ⟨rfl, by rw [hU], by rw [hU]; exact hG.1, by rw [hU]; exact hG.2.1, va_K.moved hWm.alike hK.1, hK.2.1.warm hWm, ?_⟩
    rw [hU]
    exact ((hK.2.2.moved hWm.alike).kept (fun q g1 g2 => hG.2.2.2.2.2.2.1 q g1 g2)).narrow hsub
  · obtain ⟨ι', r, hv, hG', hrow, hr, hrn⟩ := hq1
    cases hv
    rw [h0] at hG'
    rw [Nat.zero_add, Nat.zero_add]
    refine kk ι' t1.heap (locs ++ L) r (hG.tr hA2 hG' hL) hrow (Nat.le_trans hG.2.2.2.2.2.1 hr) hrn (fun j hj z => ?_)
    have := hG.2.1.2.2.2.1 j hj
    omega
  · obtain ⟨ι', r, hv, -⟩ := hq1
    cases hv
/-- what is left of keep: the shelf stands on the stack, and what it gets -/
theorem kp_end {p : Program} {l : Launch} {e : Env} {R : Room} {s : State} {m : MethodId} {args : Array Value} {below : List Frame} {meth : Method} {c : Code} {D : va_G} {cl : List vw_C} {ad : Nat → Nat} {d : Nat → ClassId} {nL pc : Nat} {cc : ByteArray} {ι0 ι : cx_I} {κ0 κ : sx_I} {SH SH0 SH' : Nat → sh_T} {σ : cs_S} {H : Heap} {locs : List Loc} {cells slots i : Nat} {rls : Array Slot} {v : Value} {q : sh_T} {r : Nat}
    (hC : sx_C p R s m args c D cl ad d nL cc (sx_A ι0 κ0 SH0 s.heap.size)) (hG : sx_G D cl ad d ι0 (sx_A ι0 κ0 SH0 s.heap.size) s.heap σ SH ι κ H locs) (hret : meth.sig.returnType = some .int) (hlocks : meth.locks = false) (hi : i < 8) (hvr : v = .null ∨ ∃ b, v = .ref b)
    (hq : (q.1 = 0 ∧ v = .null) ∨ (q.1 = 1 ∧ tr_nd q.2.1 = true ∧ cx_TR ad ι q.2.1 v) ∨ ((q.1 = 3 ∨ q.1 = 4) ∧ v = .ref r ∧ va_at D cl (r, sx_row d q) H ∧ s.heap.size ≤ r ∧ (∀ c ∈ ι.1, ι.2.1 c ≠ r) ∧ ∀ j, sx_has SH j → κ.1 j ≠ r)) (hSH : SH' = fun j => if j = i then q else SH j)
    (hcs : cells ≤ 10 ∧ slots ≤ 1000) (d1 : decode cc pc = .ok (.putfield 368, 3)) (d2 : decode cc (pc + 3) = .ok (.iconst 0, 1)) (d3 : decode cc (pc + 4) = .ok (.ireturn, 1)) :
    W p l e R s m args below meth c H locs cells slots (xm_MQ below (fun _ st o' t => ∃ ι' κ', sx_ro ad ι' (.inl (.inl (some (.inl (.int (ic 0)))))) o' t ∧ cx_le ι0 ι' ∧ cx_W D cl ad d ι' (cs_mk σ 10 1000) t.heap ∧ sx_W D cl ad d ι' κ' SH' t.heap ∧ (∀ c ∈ ι'.1, sx_A ι0 κ0 SH0 s.heap.size (ι'.2.1 c)) ∧ (∀ j, sx_has SH' j → sx_A ι0 κ0 SH0 s.heap.size (κ'.1 j)) ∧ va_F (sx_A ι0 κ0 SH0 s.heap.size) st t) args s 10 1000 (sx_A ι0 κ0 SH0 s.heap.size)) (F0 m pc rls (v :: .ref (κ.1 (1 + i)) :: [])) := by
  refine W.up (cells' := 10) (slots' := 1000) ?_ hcs.1 hcs.2
  obtain ⟨hx, hb, hml, hown, hts, hcl, hK, hA2, hR1, hR2⟩ := hC
  refine sx_put (v := v) (ty := .object "java/lang/Object") hx hb hts in_X5 tyX5 tyX5_ok nmX5 hown hK.1 (hG.2.1.2.2.2.2.2 i hi).1 (hcl 13 _ rfl) 0 (by decide) (hts _ q888) (fun _ h => h) rfl (by decide +kernel) (by rcases hvr with rfl | ⟨b, rfl⟩ <;> rfl) (by rcases hvr with rfl | ⟨b, rfl⟩ <;> rfl) (Nat.le_of_ble_eq_true rfl) d1 (fun H1 z h1 h2 h3 => ?_)
  have hG1 := hG.put hA2 (z := z) hi h1 h2 h3 hq
  refine lv_iconst hx hb d2 rfl ?_
  refine xm_W (W.iret hx hb hret (fun t ht hWm => ?_) hG1.2.2.2.2.2.2.2 d3 hlocks) (fun t => xm_MQ.of)
  rw [hSH]
  exact hG1.ret ht _
theorem sx_keep {l : Launch} {D : va_G} {cl : List vw_C} {ad : Nat → Nat} {d : Nat → ClassId} (hcl : cx_clok cl) (SH : Nat → sh_T) (σ : cs_S) (hpg : sx_pg σ) (x w k : Int32) :
    sx_Met l D cl ad d 62 3000 yX1_keep (ws_ yX1_keep cX1_keep 4 (some .int)) [.inl (.ref 0), .inl (.int x), .inl (.int w), .inl (.int k)] σ SH (.inl (.inl (some (.inl (.int (if sh_kg σ x w k = true then ic 0 else ic (-1))))))) (cs_mk σ 10 1000) (sh_kq SH σ x w k) := by
  intro ι κ sz rargs hra
  obtain ⟨r0, rr0, rfl, q0, hra0⟩ := am_S2_c hra
  obtain rfl : r0 = .ref (ad 0) := q0
  obtain ⟨rr1, rfl, hra1⟩ := am_S2_i hra0
  obtain ⟨rr2, rfl, hra2⟩ := am_S2_i hra1
  obtain ⟨rr3, rfl, hra3⟩ := am_S2_i hra2
  obtain rfl := am_S2_n hra3
  obtain ⟨em1, em2⟩ := cs_mk_1 σ 10 1000
  rw [em1, em2]
  refine sx_ofW (cc := cX1_keep) (maxL := 4) (ret := some .int) (hh := []) (by decide) (.inl ⟨rfl, rfl⟩) ?_
  intro p e s m args below meth c hadm hx hb hml hret hlocks hnm hts hown hex hP
  obtain ⟨rfl, rfl, hW, hV, hK, -, -⟩ := hP
  have hA2 : ∀ q, s.heap.size ≤ q → sx_A ι κ SH s.heap.size q := fun q h => .inl (.inr h)
  have hC : sx_C p { frames := 62, cells := 10, slots := 1000, locals := 3000 } s m [.ref (ad 0), .int x, .int w, .int k].toArray c D cl ad d 4 cX1_keep (sx_A ι κ SH s.heap.size) := ⟨hx, hb, hml, hown, hts, hcl, hK, hA2, by decide, by decide⟩
  have hG := sx_G.start hW hV
  have hl := lv_entry ([.ref (ad 0), .int x, .int w, .int k]) (n := 4) (Nat.le_of_ble_eq_true rfl)
  rw [lg_entry_eq]
  generalize (lg_sl ([.ref (ad 0), .int x, .int w, .int k]) ++ List.replicate (4 - (lg_sl ([.ref (ad 0), .int x, .int w, .int k])).length) Slot.unset).toArray = ls at hl ⊢
  have hl : lv_has ls 4 [(0, .ref (ad 0)), (1, .int x), (2, .int w), (3, .int k)] := hl
  have fail : sh_kg σ x w k = false → ∀ (ι1 : cx_I) (H1 : Heap) (locs1 : List Loc), sx_G D cl ad d ι (sx_A ι κ SH s.heap.size) s.heap σ SH ι1 κ H1 locs1 → W p l e { frames := 62, cells := 10, slots := 1000, locals := 3000 } s m [.ref (ad 0), .int x, .int w, .int k].toArray below meth c H1 locs1 0 0 (xm_MQ below (fun _ st o' t => ∃ ι' κ', sx_ro ad ι' (.inl (.inl (some (.inl (.int (if sh_kg σ x w k = true then ic 0 else ic (-1))))))) o' t ∧ cx_le ι ι' ∧ cx_W D cl ad d ι' (cs_mk σ 10 1000) t.heap ∧ sx_W D cl ad d ι' κ' (sh_kq SH σ x w k) t.heap ∧ (∀ c ∈ ι'.1, sx_A ι κ SH s.heap.size (ι'.2.1 c)) ∧ (∀ j, sx_has (sh_kq SH σ x w k) j → sx_A ι κ SH s.heap.size (κ'.1 j)) ∧ va_F (sx_A ι κ SH s.heap.size) st t) [.ref (ad 0), .int x, .int w, .int k].toArray s 10 1000 (sx_A ι κ SH s.heap.size)) (F0 m 42 ls []) := by
    intro hkg ι1 H1 locs1 hG1
    have e2 : sh_kq SH σ x w k = SH := by unfold sh_kq; rw [if_neg (by rw [hkg]; decide)]
    rw [e2, if_neg (by rw [hkg]; decide)]
    refine lv_iconst hx hb dX1_keep_42 rfl ?_
    -- 43: .ireturn
    refine W.up (cells' := 10) (slots' := 1000) ?_ (Nat.zero_le _) (Nat.zero_le _)
    exact xm_W (W.iret hx hb hret (fun t ht hWm => hG1.ret ht _) hG1.2.2.2.2.2.2.2 dX1_keep_43 hlocks) (fun t => xm_MQ.of)
  have hi0 : ∀ b : Bool, (if b = true then ic 0 else ic (-1)) = if b = true then ic 0 else ic (-1) := fun _ => rfl
  refine lv_iload_n hx hb dX1_keep_0 rfl (lv_at hl 1 rfl) ?_
  -- 1: .invokestatic 361
  refine sx_isShelf (rr := []) hC hG dX1_keep_1 hl.1 (by decide) ⟨Nat.zero_le _, Nat.zero_le _⟩ (fun ι1 H1 locs1 hG1 hle1 => ?_)
  cases h1 : inR 0 7 x with
  | false =>
    refine lv_if_eq hx hb dX1_keep_4 rfl (fun _ => ?_) (fun h => absurd b2f0 h)
    exact fail (by unfold sh_kg; rw [h1]; rfl) ι1 H1 locs1 hG1
  | true =>
    refine lv_if_eq hx hb dX1_keep_4 rfl (fun h => absurd h b2t0) (fun _ => ?_)
    obtain ⟨i, -, hi7, rfl⟩ := inR_t (by omega) (by omega) h1
    refine lv_iload_n hx hb dX1_keep_7 rfl (lv_at hl 2 rfl) ?_
    refine lv_i2l hx hb dX1_keep_8 rfl ?_
    refine lv_lconst hx hb dX1_keep_9 rfl ?_
    -- 10: .ldc2_w 185
    refine lv_ldc2 hx hb hown (hts _ q567) dX1_keep_10 ?_
    refine sx_isIn (rr := []) hC hG1 dX1_keep_13 hl.1 (by decide) ⟨Nat.zero_le _, Nat.zero_le _⟩ 0 4 (by decide) (by decide) (fun ι2 H2 locs2 hG2 hle2 => ?_)
    cases h2 : inR 0 4 w with
    | false =>
      refine lv_if_eq hx hb dX1_keep_16 rfl (fun _ => ?_) (fun h => absurd b2f0 h)
      refine fail ?_ ι2 H2 locs2 hG2
      unfold sh_kg
      have n0 : ¬ w = 0 := fun h => by rw [h] at h2; exact absurd h2 (by decide)
      have n3 : ¬ w = nI 3 := fun h => by rw [h] at h2; exact absurd h2 (by decide)
      have n1 : ¬ w = nI 1 := fun h => by rw [h] at h2; exact absurd h2 (by decide)
      have n4 : ¬ w = nI 4 := fun h => by rw [h] at h2; exact absurd h2 (by decide)
      rw [decide_eq_false n0, decide_eq_false n3, decide_eq_false n1, decide_eq_false n4]
      simp
    | true =>
      refine lv_if_eq hx hb dX1_keep_16 rfl (fun h => absurd h b2t0) (fun _ => ?_)
      obtain ⟨w', -, hw4, rfl⟩ := inR_t (by omega) (by omega) h2
      refine lv_iload_n hx hb dX1_keep_19 rfl (lv_at hl 2 rfl) ?_
      refine lv_iconst hx hb dX1_keep_20 rfl ?_
      -- 21: .if_icmp .eq 21
      refine lv_icmp_eq hx hb dX1_keep_21 rfl (fun h => ?_) (fun hn2 => ?_)
      · refine fail ?_ ι2 H2 locs2 hG2
        rw [h]
        unfold sh_kg
        simp [show ¬ (2 : Int32) = 0 by decide, show ¬ (2 : Int32) = nI 3 by decide, show ¬ (2 : Int32) = nI 1 by decide, show ¬ (2 : Int32) = nI 4 by decide]
      · have hw2 : w' ≠ 2 := fun h => hn2 (by rw [h]; rfl)
        -- from 44 on
        have good : ∀ (ι1 : cx_I) (H1 : Heap) (locs1 : List Loc), sx_G D cl ad d ι (sx_A ι κ SH s.heap.size) s.heap σ SH ι1 κ H1 locs1 → (w' = 0 ∨ w' = 3 ∨ (w' = 1 ∨ w' = 4) ∧ isN (cs_t σ 100).length k = true) → W p l e { frames := 62, cells := 10, slots := 1000, locals := 3000 } s m [.ref (ad 0), .int (nI i), .int (nI w'), .int k].toArray below meth c H1 locs1 0 0 (xm_MQ below (fun _ st o' t => ∃ ι' κ', sx_ro ad ι' (.inl (.inl (some (.inl (.int (if sh_kg σ (nI i) (nI w') k = true then ic 0 else ic (-1))))))) o' t ∧ cx_le ι ι' ∧ cx_W D cl ad d ι' (cs_mk σ 10 1000) t.heap ∧ sx_W D cl ad d ι' κ' (sh_kq SH σ (nI i) (nI w') k) t.heap ∧ (∀ c ∈ ι'.1, sx_A ι κ SH s.heap.size (ι'.2.1 c)) ∧ (∀ j, sx_has (sh_kq SH σ (nI i) (nI w') k) j → sx_A ι κ SH s.heap.size (κ'.1 j)) ∧ va_F (sx_A ι κ SH s.heap.size) st t) [.ref (ad 0), .int (nI i), .int (nI w'), .int k].toArray s 10 1000 (sx_A ι κ SH s.heap.size)) (F0 m 44 ls []) := by
          intro ι3 H3 locs3 hG3 hcase
          have hkg : sh_kg σ (nI i) (nI w') k = true := by
            unfold sh_kg
            rw [h1]
            rcases hcase with rfl | rfl | ⟨rfl | rfl, h⟩
            · rfl
            · rfl
            · rw [h]; rfl
            · rw [h]; rfl
          have hSH : ∀ q, q = sh_kv σ (nI w') k → sh_kq SH σ (nI i) (nI w') k = fun j => if j = i then q else SH j := by
            rintro q rfl
            unfold sh_kq
            rw [if_pos hkg, nI_clamp (by omega)]
          have hi8 : i < 8 := by omega
          rw [if_pos hkg]
          refine lv_aload_n hx hb dX1_keep_44 rfl (lv_at hl 0 rfl) ?_
          -- 45: .getfield 352
          refine sx_shelves hC hG3 dX1_keep_45 ?_
          refine lv_iload_n hx hb dX1_keep_48 rfl (lv_at hl 1 rfl) ?_
          -- 49: .aaload
          refine sx_shelf hC hG3 dX1_keep_49 hi8 ?_
          refine lv_iload_n hx hb dX1_keep_50 rfl (lv_at hl 2 rfl) ?_
          -- 51: .ifCond .ne 7
          rcases hcase with rfl | rfl | ⟨rfl | rfl, hk⟩
          · refine lv_if_ne hx hb dX1_keep_51 rfl (fun h => absurd rfl h) (fun _ => ?_)
            refine lv_null hx hb dX1_keep_54 ?_
            refine lv_goto hx hb dX1_keep_55 rfl ?_
            -- 80: .putfield 368
            exact kp_end hC hG3 hret hlocks hi8 (.inl rfl) (q := (0, .leaf, [])) (r := 0) (.inl ⟨rfl, rfl⟩) (hSH _ rfl) ⟨Nat.zero_le _, Nat.zero_le _⟩ dX1_keep_80 dX1_keep_83 dX1_keep_84
          · have hq60 : (rw_q σ 3 0).2.2.length ≤ 1000 := by have := rw_q_len hpg (w := 3) (k := 0) (.inl rfl); omega
            refine lv_if_ne hx hb dX1_keep_51 rfl (fun _ => ?_) (fun h => absurd h (by decide))
            refine lv_iload_n hx hb dX1_keep_58 rfl (lv_at hl 2 rfl) ?_
            refine lv_iconst hx hb dX1_keep_59 rfl ?_
            -- 60: .if_icmp .ne 14
            refine lv_icmp_ne hx hb dX1_keep_60 rfl (fun _ => ?_) (fun h => absurd h (by decide))
            refine lv_aload_n hx hb dX1_keep_74 rfl (lv_at hl 0 rfl) ?_
            refine lv_iload_n hx hb dX1_keep_75 rfl (lv_at hl 2 rfl) ?_
            refine lv_iload_n hx hb dX1_keep_76 rfl (lv_at hl 3 rfl) ?_
            -- 77: .invokevirtual 364
            refine kp_row (kn := 0) hC hG3 hl.1 hpg (.inl rfl) (fun h => absurd h (by decide)) ⟨by decide, by decide, by decide, hq60⟩ (Nat.le_of_ble_eq_true rfl) (fun ι4 H4 locs4 r hG4 hrow hr hrn hrk => ?_)
            exact kp_end hC hG4 hret hlocks hi8 (.inr ⟨_, rfl⟩) (q := rw_q σ 3 0) (r := r) (.inr (.inr ⟨.inl rfl, rfl, hrow, hr, hrn, hrk⟩)) (hSH _ rfl) ⟨by omega, hq60⟩ dX1_keep_80 dX1_keep_83 dX1_keep_84
          · obtain ⟨kn, hkn, rfl⟩ := isN_t (by have := hpg.2.1; omega) hk
            have hok := hpg.1 kn hkn
            refine lv_if_ne hx hb dX1_keep_51 rfl (fun _ => ?_) (fun h => absurd h (by decide))
            refine lv_iload_n hx hb dX1_keep_58 rfl (lv_at hl 2 rfl) ?_
            refine lv_iconst hx hb dX1_keep_59 rfl ?_
            -- 60: .if_icmp .ne 14
            refine lv_icmp_ne hx hb dX1_keep_60 rfl (fun h => absurd rfl h) (fun _ => ?_)
            refine lv_aload_n hx hb dX1_keep_63 rfl (lv_at hl 0 rfl) ?_
            -- 64: .getfield 35
            refine sx_fld hC hG3.1 0 (by decide) q894 (v := .ref (ad 100)) rfl dX1_keep_64 ?_
            refine lv_iload_n hx hb dX1_keep_67 rfl (lv_at hl 3 rfl) ?_
            -- 68: .invokevirtual 73
            refine sx_get (rr := [.ref (κ.1 (1 + i))]) hC hG3 dX1_keep_68 hl.1 (Nat.le_of_ble_eq_true rfl) ⟨Nat.zero_le _, Nat.zero_le _⟩ hkn hpg.2.1 (fun ι4 H4 locs4 rv hG4 hle4 _ _ _ hT4 => ?_)
            have hnode : tr_nd ((cs_t σ 100).getD kn .leaf) = true := tr_okn hok.2.1 hok.1
            obtain ⟨c4, -, -, rfl⟩ := cx_nid hnode hT4
            refine lv_goto hx hb dX1_keep_71 rfl ?_
            -- 80: .putfield 368
            exact kp_end hC hG4 hret hlocks hi8 (.inr ⟨_, rfl⟩) (q := (1, (cs_t σ 100).getD kn .leaf, [])) (r := 0) (.inr (.inl ⟨rfl, hnode, hT4⟩)) (hSH _ (by unfold sh_kv; rw [if_neg (by decide), if_pos rfl, nI_clamp (by have := hpg.2.1; omega)])) ⟨Nat.zero_le _, Nat.zero_le _⟩ dX1_keep_80 dX1_keep_83 dX1_keep_84
          · obtain ⟨kn, hkn, rfl⟩ := isN_t (by have := hpg.2.1; omega) hk
            have hq60 : (rw_q σ 4 kn).2.2.length ≤ 1000 := by have := rw_q_len hpg (w := 4) (k := kn) (.inr ⟨rfl, hkn⟩); omega
            have eq4 : rw_q σ 4 kn = sh_kv σ (nI 4) (nI kn) := by unfold sh_kv rw_q; rw [if_neg (by decide), if_neg (by decide), if_neg (by decide), if_neg (by decide), nI_clamp (by have := hpg.2.1; omega)]
            refine lv_if_ne hx hb dX1_keep_51 rfl (fun _ => ?_) (fun h => absurd h (by decide))
            refine lv_iload_n hx hb dX1_keep_58 rfl (lv_at hl 2 rfl) ?_
            refine lv_iconst hx hb dX1_keep_59 rfl ?_
            -- 60: .if_icmp .ne 14
            refine lv_icmp_ne hx hb dX1_keep_60 rfl (fun _ => ?_) (fun h => absurd h (by decide))
            refine lv_aload_n hx hb dX1_keep_74 rfl (lv_at hl 0 rfl) ?_
            refine lv_iload_n hx hb dX1_keep_75 rfl (lv_at hl 2 rfl) ?_
            refine lv_iload_n hx hb dX1_keep_76 rfl (lv_at hl 3 rfl) ?_
            -- 77: .invokevirtual 364
            refine kp_row (kn := kn) hC hG3 hl.1 hpg (.inr ⟨rfl, hkn⟩) (fun _ => rfl) ⟨by decide, by decide, by decide, hq60⟩ (Nat.le_of_ble_eq_true rfl) (fun ι4 H4 locs4 r hG4 hrow hr hrn hrk => ?_)
            exact kp_end hC hG4 hret hlocks hi8 (.inr ⟨_, rfl⟩) (q := rw_q σ 4 kn) (r := r) (.inr (.inr ⟨.inr rfl, rfl, hrow, hr, hrn, hrk⟩)) (hSH _ eq4) ⟨by omega, hq60⟩ dX1_keep_80 dX1_keep_83 dX1_keep_84
        have node : (w' = 1 ∨ w' = 4) → W p l e { frames := 62, cells := 10, slots := 1000, locals := 3000 } s m [.ref (ad 0), .int (nI i), .int (nI w'), .int k].toArray below meth c H2 locs2 0 0 (xm_MQ below (fun _ st o' t => ∃ ι' κ', sx_ro ad ι' (.inl (.inl (some (.inl (.int (if sh_kg σ (nI i) (nI w') k = true then ic 0 else ic (-1))))))) o' t ∧ cx_le ι ι' ∧ cx_W D cl ad d ι' (cs_mk σ 10 1000) t.heap ∧ sx_W D cl ad d ι' κ' (sh_kq SH σ (nI i) (nI w') k) t.heap ∧ (∀ c ∈ ι'.1, sx_A ι κ SH s.heap.size (ι'.2.1 c)) ∧ (∀ j, sx_has (sh_kq SH σ (nI i) (nI w') k) j → sx_A ι κ SH s.heap.size (κ'.1 j)) ∧ va_F (sx_A ι κ SH s.heap.size) st t) [.ref (ad 0), .int (nI i), .int (nI w'), .int k].toArray s 10 1000 (sx_A ι κ SH s.heap.size)) (F0 m 34 ls []) := by
          intro hw14
          refine lv_aload_n hx hb dX1_keep_34 rfl (lv_at hl 0 rfl) ?_
          refine lv_iload_n hx hb dX1_keep_35 rfl (lv_at hl 3 rfl) ?_
          -- 36: .invokevirtual 69
          refine sx_isNode (rr := []) hC hG2 dX1_keep_36 hl.1 (by decide) ⟨Nat.zero_le _, Nat.zero_le _⟩ (fun ι3 H3 locs3 hG3 hle3 => ?_)
          cases h3 : isN (cs_t σ 100).length k with
          | false =>
            refine lv_if_ne hx hb dX1_keep_39 rfl (fun h => absurd b2f0 h) (fun _ => ?_)
            refine fail ?_ ι3 H3 locs3 hG3
            unfold sh_kg
            rw [h3]
            rcases hw14 with rfl | rfl
            · simp [show ¬ nI 1 = 0 by decide, show ¬ nI 1 = nI 3 by decide]
            · simp [show ¬ nI 4 = 0 by decide, show ¬ nI 4 = nI 3 by decide]
          | true =>
            refine lv_if_ne hx hb dX1_keep_39 rfl (fun _ => ?_) (fun h => absurd h b2t0)
            exact good ι3 H3 locs3 hG3 (.inr (.inr ⟨hw14, h3⟩))
        refine lv_iload_n hx hb dX1_keep_24 rfl (lv_at hl 2 rfl) ?_
        refine lv_iconst hx hb dX1_keep_25 rfl ?_
        -- 26: .if_icmp .eq 8
        refine lv_icmp_eq hx hb dX1_keep_26 rfl (fun h => ?_) (fun hn1 => ?_)
        · exact node (.inl ((nI_eq (by omega) (by omega)).mp h))
        · have hw1 : w' ≠ 1 := fun h => hn1 (by rw [h]; rfl)
          refine lv_iload_n hx hb dX1_keep_29 rfl (lv_at hl 2 rfl) ?_
          refine lv_iconst hx hb dX1_keep_30 rfl ?_
          -- 31: .if_icmp .ne 13
          refine lv_icmp_ne hx hb dX1_keep_31 rfl (fun hn4 => ?_) (fun h => ?_)
          · have hw4' : w' ≠ 4 := fun h => hn4 (by rw [h]; rfl)
            exact good ι2 H2 locs2 hG2 (by omega)
          · exact node (.inr ((nI_eq (by omega) (by omega)).mp h))
