/-! THE COMPONENT's HOPS ARE SOUND: arrays. -/
theorem cs_A_e {c n t : Nat} (h : am_lk cs_A c = some (n, t)) : c ∈ cx_fix ∧ (t = 0 ∨ t = 1 ∨ t = 3) ∧ ∀ (ad : Nat → Nat) (d : Nat → ClassId) (ι : cx_I) (σ : cs_S), cx_E ad d ι σ c = .inl (d t, n, .inl (σ.2.1 c)) := by
  have h := am_lk_mem h
  simp only [cs_A, List.mem_cons, Prod.mk.injEq, List.not_mem_nil, or_false] at h
  rcases h with ⟨rfl, rfl, rfl⟩ | ⟨rfl, rfl, rfl⟩ | ⟨rfl, rfl, rfl⟩ | ⟨rfl, rfl, rfl⟩ | ⟨rfl, rfl, rfl⟩ | ⟨rfl, rfl, rfl⟩ | ⟨rfl, rfl, rfl⟩ <;> exact ⟨by decide, by decide, fun _ _ _ _ => rfl⟩
theorem cs_ix_e {c : Nat} {b : Bool} {i : Int32} {k : Nat → am_R cs_S} {res : am_O × cs_S} (h : cs_ix c b i k = some res) : ∃ n t, am_lk cs_A c = some (n, t) ∧ (b = false ∧ t = 0 ∨ b = true ∧ (t = 1 ∨ t = 3)) ∧ vp_in i n ∧ k i.toNatClampNeg = some res := by
  unfold cs_ix at h
  cases e : am_lk cs_A c with
  | none => rw [e] at h; cases h
  | some q =>
    obtain ⟨n, t⟩ := q
    obtain ⟨-, ht, -⟩ := cs_A_e e
    rw [e] at h
    rcases ht with rfl | rfl | rfl
    · cases b with
      | true => cases h
      | false => exact ⟨n, 0, rfl, .inl ⟨rfl, rfl⟩, am_ix_e h⟩
    · cases b with
      | false => cases h
      | true => exact ⟨n, 1, rfl, .inr ⟨rfl, .inl rfl⟩, am_ix_e h⟩
    · cases b with
      | false => cases h
      | true => exact ⟨n, 3, rfl, .inr ⟨rfl, .inr rfl⟩, am_ix_e h⟩
theorem cx_E_pf {ad : Nat → Nat} {d : Nat → ClassId} {ι : cx_I} {σ : cs_S} {c c0 : Nat} {f : Nat → Int32} (h : c ≠ c0) : cx_E ad d ι (cs_pf σ c0 f) c = cx_E ad d ι σ c := by
  have e : (cs_pf σ c0 f).2.1 c = σ.2.1 c := va_up_ne _ _ h
  unfold cx_E
  rw [e]
  rfl
theorem cx_E_pl {ad : Nat → Nat} {d : Nat → ClassId} {ι : cx_I} {σ : cs_S} {c r j : Nat} {v : Int64} (h : c ≠ 200 + r) (hr : r < 21) : cx_E ad d ι (cs_pl σ r j v) c = cx_E ad d ι σ c := by
  have e0 : ∀ z, z ≠ r → (cs_pl σ r j v).2.2.1 z = σ.2.2.1 z := fun z hz => va_up_ne _ _ hz
  by_cases hc : 200 ≤ c ∧ c ≤ 220
  · have hz : c - 200 ≠ r := by omega
    unfold cx_E
    rw [e0 _ hz]
    rfl
  · have e : (Nat.ble 200 c && Nat.ble c 220) = false := by
      by_cases h2 : 200 ≤ c
      · rw [nl_f (show 220 < c by omega), Bool.and_false]
      · rw [nl_f (show c < 200 by omega), Bool.false_and]
    unfold cx_E
    simp only [e, cond_false]
    rfl
theorem cx_row_at {D : va_G} {cl : List vw_C} {ad : Nat → Nat} {d : Nat → ClassId} {ι : cx_I} {σ : cs_S} {H : Heap} (hW : cx_W D cl ad d ι σ H) {r : Nat} (hr : r < 21) : 200 + r ∈ cx_fix ∧ ∃ q0 : Nat, ι.1[q0]? = some (200 + r) ∧ (cw ι.1 ι.2.1 (cx_E ad d ι σ))[q0]? = some (ad (200 + r), .inl (d 2, 21, .inr (.inl (σ.2.2.1 r)))) := by
  have hm : 200 + r ∈ cx_fix := List.mem_append_right _ (List.mem_map.mpr ⟨r, List.mem_range.mpr hr, rfl⟩)
  refine ⟨hm, ?_⟩
  obtain ⟨q0, h1, h2⟩ := cx_at hW hm
  refine ⟨q0, h1, h2.trans ?_⟩
  have e : cx_E ad d ι σ (200 + r) = .inl (d 2, 21, .inr (.inl (σ.2.2.1 r))) := by
    simp only [cx_E, cs_isW, cs_isL, nb_f (show 200 + r ≠ 0 by omega), nb_f (show 200 + r ≠ 103 by omega), nb_f (show 200 + r ≠ 104 by omega), nb_f (show 200 + r ≠ 105 by omega), nb_f (show 200 + r ≠ 110 by omega), nb_f (show 200 + r ≠ 115 by omega), nl_t (show 200 ≤ 200 + r by omega), nl_t (show 200 + r ≤ 220 by omega), Bool.or_false, Bool.and_true, cond_false, cond_true, Nat.add_sub_cancel_left]
  rw [e]
section
variable {p : Program} {l : Launch} {e : Env} {R : Room} {s : State} {m : MethodId} {args : Array Value} {below : List Frame} {meth : Method} {c : Code} {Q : State → Prop} {res : am_O × cs_S} {D : va_G} {cl : List vw_C} {ad : Nat → Nat} {d : Nat → ClassId} {ι0 : cx_I} {σ0 : cs_S} {nL pc : Nat} {cc : ByteArray} {own ref : String} {idx f : Nat}
theorem cx_G_pf {σ : cs_S} {ι : cx_I} {H H1 : Heap} {locs locs1 : List Loc} {cells slots c0 q0 n t : Nat} {f : Nat → Int32} (hG : cx_G D cl ad d ι0 σ0 s.heap σ ι H locs cells slots) (hlk : am_lk cs_A c0 = some (n, t)) (hq : ι.1[q0]? = some c0) (hP : va_P D cl ((cw ι.1 ι.2.1 (cx_E ad d ι σ)).set q0 (ad c0, .inl (d t, n, .inl f))) H1) (hS : va_S (cx_A ι0 s.heap.size) s.heap H1 locs1) (hby : t = 3 → ∀ j, cx_by (f j)) : cx_G D cl ad d ι0 σ0 s.heap (cs_pf σ c0 f) ι H1 locs1 cells slots := by
  obtain ⟨hW, h2, h3, -, h5, h6⟩ := hG
  obtain ⟨hm, -, hE⟩ := cs_A_e hlk
  obtain ⟨i1, i2, i3, i4, i5, i6, i7⟩ := hW.2.2.2
  rw [← (i1 c0 hm).2] at hP
  refine ⟨⟨cw_set hq hP (fun c _ hne => cx_E_pf hne) ?_, hW.2.1, hW.2.2.1, i1, i2, i3, i4, i5, ?_, i7⟩, h2, h3, hS, h5, h6⟩
  · rw [hE]
    show Sum.inl (d t, n, Sum.inl (va_up σ.2.1 c0 f c0)) = _
    rw [va_up_self]
  · intro c1 n1 h1 j
    by_cases hc : c1 = c0
    · subst hc
      rw [hlk] at h1
      cases h1
      show cx_by (va_up σ.2.1 c1 f c1 j)
      rw [va_up_self]
      exact hby rfl j
    · show cx_by (va_up σ.2.1 c0 f c1 j)
      rw [va_up_ne _ _ hc]
      exact i6 c1 n1 h1 j
theorem cx_s_ld (hC : cx_ctx p R s m args c res D cl ad d ι0 σ0 nL cc own f) {b : Bool} (hdg : decode cc pc = .ok (if b then .baload else .iaload, 1)) : cx_step p l e R s m args below meth c Q res D cl ad d ι0 σ0 nL pc 1 (cs_ld b) := by
  obtain ⟨hx, hb, hts, hown, hK, hcl, hml, hR⟩ := hC
  intro st σ ι H locs cells slots rls rst kx k hG hsz hst he hm1 hm2 hkx hk
  unfold cs_ld at he
  split at he
  · rename_i i c0 r
    obtain ⟨n, t, hlk, hbt, hin, he⟩ := cs_ix_e he
    obtain ⟨hm, ht, hE⟩ := cs_A_e hlk
    obtain ⟨rr1, rfl, hs8⟩ := am_S2_i hst
    obtain ⟨r0, rr, rfl, h0, hs9⟩ := am_S2_c hs8
    obtain rfl : r0 = .ref (ad c0) := h0
    obtain ⟨q0, -, hat⟩ := cx_at (d := d) hG.1 hm
    rw [hE] at hat
    have kk := hk _ _ ι _ _ _ _ (.int (cs_a σ c0 i.toNatClampNeg) :: rr) he hG (cx_le.rf ι).cr ⟨rfl, hs9⟩
    rcases hbt with ⟨rfl, rfl⟩ | ⟨rfl, rfl | rfl⟩
    · exact va_iald hx hb hK.1 (cw_P hG.1.1) q0 0 hat rfl hin hdg kk
    · exact va_zald hx hb hK.1 (cw_P hG.1.1) q0 1 hat rfl hin hdg kk
    · exact va_bald hx hb hK.1 (cw_P hG.1.1) q0 3 hat rfl hin hdg kk
  · cases he
theorem cx_by_nar (x : Int32) : cx_by x.toInt8.toInt32 := pk_fb x
theorem cx_s_st (hC : cx_ctx p R s m args c res D cl ad d ι0 σ0 nL cc own f) {b : Bool} (hdg : decode cc pc = .ok (if b then .bastore else .iastore, 1)) : cx_step p l e R s m args below meth c Q res D cl ad d ι0 σ0 nL pc 1 (cs_st b) := by
  obtain ⟨hx, hb, hts, hown, hK, hcl, hml, hR⟩ := hC
  intro st σ ι H locs cells slots rls rst kx k hG hsz hst he hm1 hm2 hkx hk
  unfold cs_st at he
  split at he
  · rename_i v i c0 r
    obtain ⟨n, t, hlk, hbt, hin, he⟩ := cs_ix_e he
    obtain ⟨hm, ht, hE⟩ := cs_A_e hlk
    obtain ⟨rr2, rfl, hs7⟩ := am_S2_i hst
    obtain ⟨rr1, rfl, hs8⟩ := am_S2_i hs7
    obtain ⟨r0, rr, rfl, h0, hs9⟩ := am_S2_c hs8
    obtain rfl : r0 = .ref (ad c0) := h0
    obtain ⟨q0, hq, hat⟩ := cx_at (d := d) hG.1 hm
    rw [hE] at hat
    have kk : ∀ H1 locs1, va_P D cl ((cw ι.1 ι.2.1 (cx_E ad d ι σ)).set q0 (ad c0, .inl (d t, n, .inl (upd (σ.2.1 c0) i.toNatClampNeg (cs_nar c0 v))))) H1 → va_S (cx_A ι0 s.heap.size) s.heap H1 locs1 → W p l e R s m args below meth c H1 locs1 cells slots Q (F0 m (pc + 1) rls rr) := by
      intro H1 locs1 hP1 hS1
      refine hk _ _ ι _ _ _ _ _ he (cx_G_pf hG hlk hq hP1 hS1 ?_) (cx_le.rf ι).cr hs9
      intro h3 j
      subst h3
      unfold upd
      split
      · unfold cs_nar
        rw [hlk]
        exact cx_by_nar v
      · exact hG.1.2.2.2.2.2.2.2.2.1 c0 n hlk j
    rcases hbt with ⟨rfl, rfl⟩ | ⟨rfl, rfl | rfl⟩
    · have hn : cs_nar c0 v = v := by simp only [cs_nar, hlk]
      rw [hn] at kk
      exact va_iast hx hb hK.1 (cw_P hG.1.1) (cw_D hG.1.2.2.1 hG.1.2.1 hG.2.2.1) hG.2.2.2.1 q0 0 hat rfl hin hdg (fun H1 locs1 hP1 _ hS1 => kk H1 locs1 hP1 hS1)
    · have hn : cs_nar c0 v = vp_nar .boolean v := by unfold cs_nar; rw [hlk]; rfl
      rw [hn] at kk
      exact va_zast hx hb hK.1 (cw_P hG.1.1) (cw_D hG.1.2.2.1 hG.1.2.1 hG.2.2.1) hG.2.2.2.1 q0 1 hat rfl hin hdg (fun H1 locs1 hP1 _ hS1 => kk H1 locs1 hP1 hS1)
    · have hn : cs_nar c0 v = vp_nar .byte v := by unfold cs_nar; rw [hlk]; rfl
      rw [hn] at kk
      exact va_bast hx hb hK.1 (cw_P hG.1.1) (cw_D hG.1.2.2.1 hG.1.2.1 hG.2.2.1) hG.2.2.2.1 q0 3 hat rfl hin hdg (fun H1 locs1 hP1 _ hS1 => kk H1 locs1 hP1 hS1)
  · cases he
/-- an element of an array of arrays -/
theorem cx_aald (hx : p.tables.exec = Jvm.exec) (hb : c.code = cc) {ws : va_W} {H : Heap} {locs : List Loc} {cells slots a : Nat} {rls : Array Slot} {rest : List Value} {tys : List (ClassId × FieldType)} (hKt : va_K D cl tys s) (hP : va_P D cl ws H) (q0 t0 : Nat) {cA : ClassId} {n : Nat} {f : Nat → Option Nat} (ha : ws[q0]? = some (a, .inl (cA, n, .inr (.inr (.inr (.inr f)))))) (ht : tys[t0]? = some (cA, .array .long)) {i : Int32} (hin : vp_in i n) (hdg : decode cc pc = .ok (.aaload, 1))
    (kk : W p l e R s m args below meth c H locs cells slots Q (F0 m (pc + 1) rls (va_rf (f i.toNatClampNeg) :: rest))) : W p l e R s m args below meth c H locs cells slots Q (F0 m pc rls (.int i :: .ref a :: rest)) := by
  have hlt : i.toNatClampNeg < n := Nat.not_le.mp fun q => hin (Or.inr q)
  exact W.aald (v := va_rf (f i.toNatClampNeg)) (ty := .array .long) hx hb (hP q0 _ ha) ((hKt.2 t0 _ ht).1 n (fun j => va_rf (f j))) rfl (fun q => by cases q) (by show ¬ (i < 0 ∨ (arrV _ _ _).slots.size ≤ _); rw [arrV_size]; exact hin) (by show (arrV _ _ _).slots[_]? = _; rw [arrV_read _ _ hlt]) rfl rfl hdg kk
theorem cx_s_aal (hC : cx_ctx p R s m args c res D cl ad d ι0 σ0 nL cc own f) (hdg : decode cc pc = .ok (.aaload, 1)) : cx_step p l e R s m args below meth c Q res D cl ad d ι0 σ0 nL pc 1 cs_aal := by
  obtain ⟨hx, hb, hts, hown, hK, hcl, hml, hR⟩ := hC
  intro st σ ι H locs cells slots rls rst kx k hG hsz hst he hm1 hm2 hkx hk
  unfold cs_aal at he
  split at he
  · rename_i i c0 r
    obtain ⟨rr1, rfl, hs8⟩ := am_S2_i hst
    obtain ⟨r0, rr, rfl, h0, hs9⟩ := am_S2_c hs8
    obtain rfl : r0 = .ref (ad c0) := h0
    cases h1 : Nat.beq c0 115 with
    | true =>
      rw [h1, cond_true] at he
      obtain rfl := Nat.eq_of_beq_eq_true h1
      obtain ⟨hin, he⟩ := am_ix_e he
      obtain ⟨q0, -, hat⟩ := cx_at (d := d) hG.1 (c := 115) (by decide)
      have hlt : i.toNatClampNeg < 41 := Nat.not_le.mp fun q => hin (Or.inr q)
      exact va_aldq hx hb hK.1 (cw_P hG.1.1) q0 5 hat rfl hin hdg (hk _ _ ι _ _ _ _ _ he hG (cx_le.rf ι).cr ⟨hG.1.2.2.2.2.2.2.2.1 _ hlt, hs9⟩)
    | false =>
      rw [h1, cond_false] at he
      obtain ⟨h2, he2⟩ := bif_e he
      obtain rfl := Nat.eq_of_beq_eq_true h2
      obtain ⟨hin, he3⟩ := am_ix_e he2
      obtain ⟨q0, -, hat⟩ := cx_at (d := d) hG.1 (c := 110) (by decide)
      have hlt : i.toNatClampNeg < 21 := Nat.not_le.mp fun q => hin (Or.inr q)
      exact cx_aald hx hb hK.1 (cw_P hG.1.1) q0 6 hat rfl hin hdg (hk _ _ ι _ _ _ _ _ he3 hG (cx_le.rf ι).cr ⟨.inr (.inl ⟨rfl, hlt, rfl⟩), hs9⟩)
  · cases he
theorem cx_s_lal (hC : cx_ctx p R s m args c res D cl ad d ι0 σ0 nL cc own f) (hdg : decode cc pc = .ok (.laload, 1)) : cx_step p l e R s m args below meth c Q res D cl ad d ι0 σ0 nL pc 1 cs_lal := by
  obtain ⟨hx, hb, hts, hown, hK, hcl, hml, hR⟩ := hC
  intro st σ ι H locs cells slots rls rst kx k hG hsz hst he hm1 hm2 hkx hk
  unfold cs_lal at he
  split at he
  · rename_i i q _ _ _ r
    obtain ⟨rr1, rfl, hs8⟩ := am_S2_i hst
    obtain ⟨r0, rr, rfl, h0, hs9⟩ := am_S2_c hs8
    obtain ⟨hin, he⟩ := am_ix_e he
    rcases h0 with ⟨h, -⟩ | ⟨-, hq, rfl⟩ | ⟨h, -⟩
    · omega
    · obtain ⟨-, q0, -, hat⟩ := cx_row_at (d := d) hG.1 hq
      exact va_lald hx hb hK.1 (cw_P hG.1.1) q0 2 hat rfl hin hdg (hk _ _ ι _ _ _ _ _ he hG (cx_le.rf ι).cr ⟨rfl, hs9⟩)
    · omega
  · cases he
theorem cx_s_las (hC : cx_ctx p R s m args c res D cl ad d ι0 σ0 nL cc own f) (hdg : decode cc pc = .ok (.lastore, 1)) : cx_step p l e R s m args below meth c Q res D cl ad d ι0 σ0 nL pc 1 cs_las := by
  obtain ⟨hx, hb, hts, hown, hK, hcl, hml, hR⟩ := hC
  intro st σ ι H locs cells slots rls rst kx k hG hsz hst he hm1 hm2 hkx hk
  unfold cs_las at he
  split at he
  · rename_i v i q _ _ _ r
    obtain ⟨rr2, rfl, hs7⟩ := am_S2_l hst
    obtain ⟨rr1, rfl, hs8⟩ := am_S2_i hs7
    obtain ⟨r0, rr, rfl, h0, hs9⟩ := am_S2_c hs8
    obtain ⟨hin, he⟩ := am_ix_e he
    rcases h0 with ⟨h, -⟩ | ⟨-, hq, rfl⟩ | ⟨h, -⟩
    · omega
    · obtain ⟨hm, q0, hq0, hat⟩ := cx_row_at (d := d) hG.1 hq
      refine va_last hx hb hK.1 (cw_P hG.1.1) (cw_D hG.1.2.2.1 hG.1.2.1 hG.2.2.1) hG.2.2.2.1 q0 2 hat rfl hin hdg fun H1 locs1 hP1 _ hS1 => ?_
      refine hk _ _ ι _ _ _ _ _ he ?_ (cx_le.rf ι).cr hs9
      obtain ⟨hW, h2, h3, -, h5, h6⟩ := hG
      rw [← (hW.2.2.2.1 _ hm).2] at hP1
      refine ⟨⟨cw_set hq0 hP1 (fun c _ hne => cx_E_pl hne hq) ?_, hW.2.1, hW.2.2.1, hW.2.2.2⟩, h2, h3, hS1, h5, h6⟩
      have e : cx_E ad d ι (cs_pl σ q i.toNatClampNeg v) (200 + q) = .inl (d 2, 21, .inr (.inl ((cs_pl σ q i.toNatClampNeg v).2.2.1 q))) := by
        simp only [cx_E, cs_isW, cs_isL, nb_f (show 200 + q ≠ 0 by omega), nb_f (show 200 + q ≠ 103 by omega), nb_f (show 200 + q ≠ 104 by omega), nb_f (show 200 + q ≠ 105 by omega), nb_f (show 200 + q ≠ 110 by omega), nb_f (show 200 + q ≠ 115 by omega), nl_t (show 200 ≤ 200 + q by omega), nl_t (show 200 + q ≤ 220 by omega), Bool.or_false, Bool.and_true, cond_false, cond_true, Nat.add_sub_cancel_left]
      rw [e]
      show Sum.inl (d 2, 21, Sum.inr (Sum.inl (va_up σ.2.2.1 q (vp_updL (σ.2.2.1 q) i.toNatClampNeg v) q))) = _
      rw [va_up_self]
    · omega
  · cases he
end
