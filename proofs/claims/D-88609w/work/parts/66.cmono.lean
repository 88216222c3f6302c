/-! CELLS AND SLOTS ONLY GROW; calls of lists and constructors. -/
def cs_le (s s' : cs_S) : Prop := cs_n1 s ≤ cs_n1 s' ∧ cs_n2 s ≤ cs_n2 s'
theorem cs_le.rf (s : cs_S) : cs_le s s := ⟨Nat.le_refl _, Nat.le_refl _⟩
/-- where a step goes on, the counts are no less -/
def cs_mn (F : cs_ft) : Prop := ∀ (st : List am_V) (s : cs_S) (kx : Nat → cs_S → am_R cs_S) (k : List am_V → cs_S → am_R cs_S) (res : am_O × cs_S), F st s kx k = some res → (∃ x s', kx x s' = some res ∧ cs_le s s') ∨ ∃ st' s', k st' s' = some res ∧ cs_le s s'
/-- a call's counts are no less -/
def cs_mc (call : cs_ct) : Prop := ∀ mt as s o s', call mt as s = some (o, s') → cs_le s s'
theorem cs_mn_no : cs_mn cs_no := fun _ _ _ _ _ h => by cases h
theorem cs_mn_g_i (j : Nat) : cs_mn (cs_g_i j) := by
  intro st s kx k res h
  unfold cs_g_i at h
  split at h
  · exact .inr ⟨_, _, h, cs_le.rf _⟩
  · cases h
theorem cs_mn_g_r (j : Nat) : cs_mn (cs_g_r j) := by
  intro st s kx k res h
  unfold cs_g_r at h
  split at h
  · exact .inr ⟨_, _, h, cs_le.rf _⟩
  · cases h
theorem cs_mn_g_m (j : Nat) : cs_mn (cs_g_m j) := by
  intro st s kx k res h
  unfold cs_g_m at h
  split at h
  · exact .inr ⟨_, _, (bif_e h).2, cs_le.rf _⟩
  · cases h
theorem cs_mn_g_n (f : Tr → Nat) : cs_mn (cs_g_n f) := by
  intro st s kx k res h
  unfold cs_g_n at h
  split at h
  · exact .inr ⟨_, _, (bif_e h).2, cs_le.rf _⟩
  · cases h
theorem cs_mn_g_v (lo hi : Nat) : cs_mn (cs_g_v lo hi) := by
  intro st s kx k res h
  unfold cs_g_v at h
  split at h
  · exact .inr ⟨_, _, (bif_e h).2, cs_le.rf _⟩
  · cases h
theorem cs_mn_g_t (lo hi : Nat) (f : Tr → Tr) : cs_mn (cs_g_t lo hi f) := by
  intro st s kx k res h
  unfold cs_g_t at h
  split at h
  · exact .inr ⟨_, _, (bif_e h).2, cs_le.rf _⟩
  · cases h
theorem cs_mn_g_at : cs_mn cs_g_at := by
  intro st s kx k res h
  unfold cs_g_at at h
  split at h
  · exact .inr ⟨_, _, (bif_e h).2, cs_le.rf _⟩
  · cases h
theorem cs_mn_g_sz : cs_mn cs_g_sz := by
  intro st s kx k res h
  unfold cs_g_sz at h
  split at h
  · exact .inr ⟨_, _, (bif_e h).2, cs_le.rf _⟩
  · cases h
theorem cs_mn_g_en : cs_mn cs_g_en := by
  intro st s kx k res h
  unfold cs_g_en at h
  split at h
  · exact .inr ⟨_, _, (bif_e h).2, cs_le.rf _⟩
  · cases h
theorem cs_mn_getf (fc : Nat) : cs_mn (cs_getf fc) := by
  unfold cs_getf
  split
  · exact cs_mn_g_at
  · exact cs_mn_g_sz
  · exact cs_mn_g_en
  · exact cs_mn_g_m _
  · exact cs_mn_g_m _
  · exact cs_mn_g_n _
  · exact cs_mn_g_n _
  · exact cs_mn_g_n _
  · exact cs_mn_g_n _
  · exact cs_mn_g_v _ _
  · exact cs_mn_g_t _ _ _
  · exact cs_mn_g_t _ _ _
  · exact cs_mn_g_t _ _ _
  · exact cs_mn_g_v _ _
  · cases Nat.ble 19 fc with
    | true => exact cs_mn_no
    | false =>
      cases cs_isI fc with
      | true => exact cs_mn_g_i fc
      | false => exact cs_mn_g_r fc
theorem cs_mn_s_i (j : Nat) : cs_mn (cs_s_i j) := by
  intro st s kx k res h
  unfold cs_s_i at h
  split at h
  · exact .inr ⟨_, _, h, cs_le.rf _⟩
  · cases h
theorem cs_mn_s_sz : cs_mn cs_s_sz := by
  intro st s kx k res h
  unfold cs_s_sz at h
  split at h
  · exact .inr ⟨_, _, (bif_e h).2, cs_le.rf _⟩
  · cases h
theorem cs_mn_s_m (j : Nat) : cs_mn (cs_s_m j) := by
  intro st s kx k res h
  unfold cs_s_m at h
  split at h
  · exact .inr ⟨_, _, (bif_e h).2, cs_le.rf _⟩
  · cases h
theorem cs_mn_putf (fc : Nat) : cs_mn (cs_putf fc) := by
  unfold cs_putf
  split
  · exact cs_mn_s_sz
  · exact cs_mn_s_m _
  · exact cs_mn_s_m _
  · cases cs_isI fc with
    | true => exact cs_mn_s_i fc
    | false => exact cs_mn_no
theorem cs_mn_ld (b : Bool) : cs_mn (cs_ld b) := by
  intro st s kx k res h
  unfold cs_ld at h
  split at h
  · obtain ⟨_, _, _, _, _, h⟩ := cs_ix_e h
    exact .inr ⟨_, _, h, cs_le.rf _⟩
  · cases h
theorem cs_mn_st (b : Bool) : cs_mn (cs_st b) := by
  intro st s kx k res h
  unfold cs_st at h
  split at h
  · obtain ⟨_, _, _, _, _, h⟩ := cs_ix_e h
    exact .inr ⟨_, _, h, cs_le.rf _⟩
  · cases h
theorem cs_mn_aal : cs_mn cs_aal := by
  intro st s kx k res h
  unfold cs_aal at h
  split at h
  · rename_i i c r
    cases e : Nat.beq c 115 with
    | true =>
      rw [e, cond_true] at h
      exact .inr ⟨_, _, (am_ix_e h).2, cs_le.rf _⟩
    | false =>
      rw [e, cond_false] at h
      exact .inr ⟨_, _, (am_ix_e (bif_e h).2).2, cs_le.rf _⟩
  · cases h
theorem cs_mn_aas : cs_mn cs_aas := by
  intro st s kx k res h
  unfold cs_aas at h
  split at h
  · exact .inr ⟨_, _, (am_ix_e (bif_e h).2).2, cs_le.rf _⟩
  · cases h
theorem cs_mn_lal : cs_mn cs_lal := by
  intro st s kx k res h
  unfold cs_lal at h
  split at h
  · exact .inr ⟨_, _, (am_ix_e h).2, cs_le.rf _⟩
  · cases h
theorem cs_mn_las : cs_mn cs_las := by
  intro st s kx k res h
  unfold cs_las at h
  split at h
  · exact .inr ⟨_, _, (am_ix_e h).2, cs_le.rf _⟩
  · cases h
theorem cs_mn_thr : cs_mn cs_thr := by
  intro st s kx k res h
  unfold cs_thr at h
  split at h
  · exact .inl ⟨_, _, (bif_e h).2, cs_le.rf _⟩
  · cases h
theorem cs_mn_long (v : Int64) : cs_mn (cs_long v) := fun _ _ _ _ _ h => .inr ⟨_, _, h, cs_le.rf _⟩
theorem cs_mn_cast : cs_mn cs_cast := by
  intro st s kx k res h
  unfold cs_cast at h
  split at h
  · exact .inr ⟨_, _, (bif_e h).2, cs_le.rf _⟩
  · cases h
theorem cs_mn_new : cs_mn cs_new := by
  intro st s kx k res h
  exact .inr ⟨_, _, (bif_e h).2, Nat.le_add_right _ _, Nat.le_add_right _ _⟩
theorem cs_mn_copy : cs_mn cs_copy := by
  intro st s kx k res h
  unfold cs_copy at h
  split at h
  · have h := (bif_e h).2
    unfold cs_cp at h
    split at h
    · split at h
      · cases h
      · exact .inr ⟨_, _, h, cs_le.rf _⟩
    · cases h
  · cases h
theorem cs_mn_minl : cs_mn cs_minl := by
  intro st s kx k res h
  unfold cs_minl at h
  split at h
  · exact .inr ⟨_, _, (bif_e h).2, cs_le.rf _⟩
  · cases h
theorem cs_mn_maxl : cs_mn cs_maxl := by
  intro st s kx k res h
  unfold cs_maxl at h
  split at h
  · exact .inr ⟨_, _, (bif_e h).2, cs_le.rf _⟩
  · cases h
theorem cs_mn_mini : cs_mn cs_mini := by
  intro st s kx k res h
  unfold cs_mini at h
  split at h
  · exact .inr ⟨_, _, (bif_e h).2, cs_le.rf _⟩
  · cases h
theorem cs_mn_cr {call : cs_ct} (hc : cs_mc call) {mt rk : Nat} {as r : List am_V} {s : cs_S} {kx : Nat → cs_S → am_R cs_S} {k : List am_V → cs_S → am_R cs_S} {res : am_O × cs_S} (h : am_cr rk (call mt as s) kx k r = some res) : (∃ x s', kx x s' = some res ∧ cs_le s s') ∨ ∃ st' s', k st' s' = some res ∧ cs_le s s' := by
  obtain ⟨o, s', h1, h2⟩ := am_cr_x h
  have := hc _ _ _ _ _ h1
  rcases h2 with ⟨x, -, h⟩ | ⟨-, h⟩ | ⟨v, -, h⟩
  · exact .inl ⟨_, _, h, this⟩
  · exact .inr ⟨_, _, h, this⟩
  · exact .inr ⟨_, _, h, this⟩
theorem cs_mn_cl {call : cs_ct} (hc : cs_mc call) (m mt n rk : Nat) : cs_mn (cs_cl call m mt n rk) := by
  intro st s kx k res h
  obtain ⟨as, r, -, -, h⟩ := am_tk_e h
  exact cs_mn_cr hc (bif_e h).2
theorem cs_mn_vt {call : cs_ct} (hc : cs_mc call) (ms : List Nat) (n rk : Nat) : cs_mn (cs_vt call ms n rk) := by
  intro st s kx k res h
  obtain ⟨as, r, -, -, h⟩ := am_tk_e h
  split at h
  · exact cs_mn_cr hc (bif_e h).2
  · cases h
theorem cs_mn_su {call : cs_ct} (hc : cs_mc call) (lo hi mt n rk : Nat) : cs_mn (cs_su call lo hi mt n rk) := by
  intro st s kx k res h
  obtain ⟨as, r, -, -, h⟩ := am_tk_e h
  split at h
  · exact cs_mn_cr hc (bif_e h).2
  · cases h
/-- what isn't run: counts are no less -/
theorem cs_mn_prim {f mt : Nat} {as : List am_V} {s s' : cs_S} {o : am_O} (h : cs_prim f mt as s = some (o, s')) : cs_le s s' ∧ ∃ r, o = .inl r := by
  have h := (bif_e h).2
  have hl : ∀ {v : am_V} {k : Nat → am_R cs_S}, cs_lid s v k = some (o, s') → ∃ c, k c = some (o, s') := by
    intro v k h
    unfold cs_lid at h
    split at h
    · exact ⟨_, (bif_e h).2⟩
    · split at h
      · exact ⟨_, h⟩
      · cases h
    · cases h
  have ha : ∀ c t, cs_le s (cs_add s c t) := by
    intro c t
    unfold cs_add
    split
    · exact cs_le.rf _
    · exact ⟨Nat.le_add_right _ _, Nat.le_add_right _ _⟩
  split at h
  · obtain ⟨c, h⟩ := hl h
    cases h
    exact ⟨cs_le.rf _, _, rfl⟩
  · obtain ⟨c, h⟩ := hl h
    have h := (am_ix_e h).2
    cases h
    exact ⟨cs_le.rf _, _, rfl⟩
  · obtain ⟨c, h⟩ := hl h
    have h := (bif_e h).2
    cases h
    exact ⟨ha _ _, _, rfl⟩
  · obtain ⟨c, h⟩ := hl h
    split at h
    · cases h
    · split at h
      · cases h
        exact ⟨cs_le.rf _, _, rfl⟩
      · cases h
  · split at h
    · cases h
      exact ⟨cs_le.rf _, _, rfl⟩
    · cases h
  · split at h
    · cases h
      exact ⟨⟨Nat.le_add_right _ _, Nat.le_add_right _ _⟩, _, rfl⟩
    · cases h
  · cases h
section
variable {p : Program} {l : Launch} {e : Env} {R : Room} {s : State} {m : MethodId} {args : Array Value} {below : List Frame} {meth : Method} {c : Code} {Q : State → Prop} {res : am_O × cs_S} {D : va_G} {cl : List vw_C} {ad : Nat → Nat} {d : Nat → ClassId} {ι0 : cx_I} {σ0 : cs_S} {nL pc : Nat} {cc : ByteArray} {own ref : String} {idx f : Nat}
variable {call : cs_ct} {mt n rk maxL : Nat} {y : MethodName} {ws : List Cond}
/-- a list as a receiver -/
theorem cx_lrcv {σ : cs_S} {ι : cx_I} {H : Heap} (hW : cx_W D cl ad d ι σ H) {as : List am_V} (h : cs_rc 4 as = true) {ras : List Value} (hra : am_S2 (am_vr (cx_TR ad ι) ad) as ras) : ∃ a rt0 tl v0 fs, ∃ q0 : Nat, as = v0 :: tl ∧ ras = .ref a :: rt0 ∧ am_S2 (am_vr (cx_TR ad ι) ad) tl rt0 ∧ (cw ι.1 ι.2.1 (cx_E ad d ι σ))[q0]? = some (a, .inr (10, fs)) := by
  cases as with
  | nil => cases h
  | cons v tl =>
    obtain ⟨r0, rt0, rfl, h0, hrt⟩ := am_S2_c hra
    rcases v with (x | x | x | x | _ | x | x) | t
    · cases h
    · cases h
    · cases h
    · cases h
    · cases h
    · have h : cs_isL x = true := h
      obtain rfl : r0 = .ref (ad x) := h0
      rcases cs_isL_e h with rfl | rfl
      · obtain ⟨q0, -, hat⟩ := cx_at hW (c := 100) (by decide)
        exact ⟨_, rt0, _, _, _, q0, rfl, rfl, hrt, hat⟩
      · obtain ⟨q0, -, hat⟩ := cx_at hW (c := 106) (by decide)
        exact ⟨_, rt0, _, _, _, q0, rfl, rfl, hrt, hat⟩
    · cases h
    · cases t with
      | leaf => cases h
      | inner n0 k0 v0 x0 y0 =>
        by_cases hk : k0 = 52
        · subst hk
          rcases h0 with ⟨h0, -⟩ | ⟨h0, -⟩ | ⟨-, h1, h2, rfl⟩
          · omega
          · omega
          · obtain ⟨q0, hq⟩ := List.getElem?_of_mem h2
            have hE : cx_E ad d ι σ (400 + n0) = .inr (10, cx_lf ad ι σ (400 + n0)) := by
              simp only [cx_E, cs_isW, cs_isL, nb_f (show 400 + n0 ≠ 0 by omega), nb_f (show 400 + n0 ≠ 103 by omega), nb_f (show 400 + n0 ≠ 104 by omega), nb_f (show 400 + n0 ≠ 105 by omega), nb_f (show 400 + n0 ≠ 110 by omega), nb_f (show 400 + n0 ≠ 115 by omega), nb_f (show 400 + n0 ≠ 100 by omega), nb_f (show 400 + n0 ≠ 106 by omega), nl_f (show 220 < 400 + n0 by omega), nl_t (show 400 ≤ 400 + n0 by omega), nl_t (show 400 + n0 ≤ 999 by omega), Bool.and_false, Bool.or_false, Bool.false_or, Bool.and_true, cond_false, cond_true]
            refine ⟨_, rt0, _, _, cx_lf ad ι σ (400 + n0), q0, rfl, rfl, hrt, ?_⟩
            rw [cw_get hq, hE]
        · exfalso
          simp [cs_rc, hk] at h
theorem cx_s_list (hC : cx_ctx p R s m args c res D cl ad d ι0 σ0 nL cc own f) (hcall : ∀ as σ o σ1, call mt as σ = some (o, σ1) → cx_Met l D cl ad d f y ws as σ o σ1 ∧ cs_n1 σ ≤ cs_n1 σ1 ∧ cs_n2 σ ≤ cs_n2 σ1) (hcb : cx_cb y ws maxL) (hl : Cond.methodLink own idx y ∈ lw_all) (hinst : Cond.instanceMethod y ∈ lw_all) (hsel : Cond.selects "java/util/ArrayList" y y ∈ lw_all) (hnp : (parseMethodDescriptor y.desc).map (fun d => d.parameters.length) = some n) (hdg : decode cc pc = .ok (.invokevirtual idx, 3)) : cx_step p l e R s m args below meth c Q res D cl ad d ι0 σ0 nL pc 3 (cs_cl call 4 mt (n + 1) rk) := by
  obtain ⟨hx, hb, hts, hown, hK, hcl, hml, hR⟩ := hC
  intro st σ ι H locs cells slots rls rst kx k hG hsz hst he hm1 hm2 hkx hk
  unfold cs_cl at he
  obtain ⟨as0, r, hst1, hlen, he⟩ := am_tk_e he
  rw [List.append_nil] at he
  obtain ⟨hcond, he⟩ := bif_e he
  obtain ⟨hble, hrc⟩ := (Bool.and_eq_true _ _).mp hcond
  refine cx_go hK hR.2.2 hcall hG (by rw [List.reverse_reverse]; exact hst1) hst hble he hm1 hm2 hkx hk ?_
  intro o σ1 rargs rr mc ms Pc Qc hc1 hrst hra h8 hc hs hM hro hbl hPc
  obtain ⟨a, rt0, tl, v0, fs, q0, has, rfl, hrt, hat⟩ := cx_lrcv hG.1 hrc hra
  have hl1 := congrArg List.length has
  rw [List.length_reverse, hlen, List.length_cons] at hl1
  refine xm_runV (C := "java/util/ArrayList") (b := a) (As := rt0) ⟨hx, hb, hml, hown, hts⟩ hM (cx_B hts hcb ⟨hR.1, hR.2.1⟩) (hts _ hl) (hts _ hinst) (hts _ hsel) hcb.2.2.2.1 hnp ⟨hbl, va_recv hK.1 (cw_P hG.1.1) (hcl 10 _ rfl) hat, hPc⟩ (by rw [am_S2_len hrt]; omega) hsz ?_ h8 hdg ⟨hc, hs⟩
  rw [hrst, List.reverse_cons, List.append_assoc]
  rfl
/-- a constructor's call -/
theorem cx_s_init (hC : cx_ctx p R s m args c res D cl ad d ι0 σ0 nL cc own f) (hcall : ∀ as σ o σ1, call mt as σ = some (o, σ1) → cx_Met l D cl ad d f y ws as σ o σ1 ∧ cs_n1 σ ≤ cs_n1 σ1 ∧ cs_n2 σ ≤ cs_n2 σ1) (hinl : ∀ as σ o σ1, call mt as σ = some (o, σ1) → ∃ r, o = .inl r) {b0 : ByteArray} (hws : ws = ws_ y b0 maxL none) (hcb : cx_cb y ws maxL) (hcode : Cond.code y b0 maxL none ∈ lw_all) (hy1 : y.name = "<init>") (hl : Cond.methodLink own idx y ∈ lw_all) (hinst : Cond.instanceMethod y ∈ lw_all) (hnp : (parseMethodDescriptor y.desc).map (fun d => d.parameters.length) = some n) (hdg : decode cc pc = .ok (.invokespecial idx, 3)) : cx_step p l e R s m args below meth c Q res D cl ad d ι0 σ0 nL pc 3 (cs_cl call 4 mt (n + 1) rk) := by
  obtain ⟨hx, hb, hts, hown, hK, hcl, hml, hR⟩ := hC
  intro st σ ι H locs cells slots rls rst kx k hG hsz hst he hm1 hm2 hkx hk
  unfold cs_cl at he
  obtain ⟨as0, r, hst1, hlen, he⟩ := am_tk_e he
  rw [List.append_nil] at he
  obtain ⟨hcond, he⟩ := bif_e he
  obtain ⟨hble, hrc⟩ := (Bool.and_eq_true _ _).mp hcond
  refine cx_go hK hR.2.2 hcall hG (by rw [List.reverse_reverse]; exact hst1) hst hble he hm1 hm2 hkx hk ?_
  intro o σ1 rargs rr mc ms Pc Qc hc1 hrst hra h8 hc hs hM hro hbl hPc
  obtain ⟨a, rt0, tl, v0, fs, q0, has, rfl, hrt, hat⟩ := cx_lrcv hG.1 hrc hra
  have hl1 := congrArg List.length has
  rw [List.length_reverse, hlen, List.length_cons] at hl1
  obtain ⟨ro, rfl⟩ := hinl _ _ _ _ hc1
  have hM' := hM.met (fun a st o t h => by obtain ⟨ι', rv, h, -⟩ := hro a st o t h; exact ⟨rv, h⟩)
  subst hws
  have hB := cx_B (R := R) (f := f) (mc := mc) (ms := ms) hts hcb ⟨hR.1, hR.2.1⟩
  refine xm_Run.of (va_runI (b := a) (As := rt0) (n := n) ⟨hx, hb, hml, hown, hts⟩ hM' ⟨⟨rfl, rfl, hB.2.2.1, hB.2.2.2.1, hB.2.2.2.2.1, List.mem_cons_self, hts _ hcode, hts _ hcb.2.2.1, hcb.2.2.2.1, fun sig h => ?_, hts _ hl⟩, hy1, hts _ hinst⟩ ⟨hbl, hPc⟩ rfl (by rw [am_S2_len hrt]; omega) hsz ?_ (by show 2 * 0 + _ ≤ 8; omega) hdg ⟨hc, hs⟩)
  · rw [h] at hnp
    exact (Option.some.inj hnp).symm
  · show rst = _
    rw [hrst, List.reverse_cons, List.append_assoc]
    rfl
/-- through a node of one kind -/
theorem cx_s_vone (hC : cx_ctx p R s m args c res D cl ad d ι0 σ0 nL cc own f) (hcall : ∀ as σ o σ1, call mt as σ = some (o, σ1) → cx_Met l D cl ad d f y ws as σ o σ1 ∧ cs_n1 σ ≤ cs_n1 σ1 ∧ cs_n2 σ ≤ cs_n2 σ1) {kd : Nat} (h9 : kd ≤ 9) {x : MethodName} {owner : String} (hcb : cx_cb y ws maxL) (hsel : Cond.selects (cx_q kd).1 x y ∈ lw_all) (hinst : Cond.instanceMethod y ∈ lw_all) (hl : Cond.methodLink own idx x ∈ lw_all) (hsame : Cond.sameMethod x.cls owner x.name x.desc ∈ lw_all) (hd0 : va_Decl s ⟨owner, x.name, x.desc⟩) (howner : owner ≠ "java/lang/invoke/MethodHandle" ∧ owner ≠ "java/lang/invoke/VarHandle") (hnp : (parseMethodDescriptor x.desc).map (fun d => d.parameters.length) = some n) (hdg : decode cc pc = .ok (.invokevirtual idx, 3)) : cx_step p l e R s m args below meth c Q res D cl ad d ι0 σ0 nL pc 3 (cs_su call kd kd mt (n + 1) rk) := by
  obtain ⟨hx, hb, hts, hown, hK, hcl, hml, hR⟩ := hC
  intro st σ ι H locs cells slots rls rst kx k hG hsz hst he hm1 hm2 hkx hk
  unfold cs_su at he
  obtain ⟨as0, r, hst1, hlen, he⟩ := am_tk_e he
  rw [List.append_nil] at he
  split at he
  · rename_i t tl has
    obtain ⟨hcond, he⟩ := bif_e he
    obtain ⟨hble, ht⟩ := (Bool.and_eq_true _ _).mp hcond
    obtain ⟨hnd, h1, h2⟩ := tr_in_e ht h9
    have hk1 : tr_k t = kd := by omega
    refine cx_go hK hR.2.2 hcall hG (by rw [List.reverse_reverse]; exact hst1) hst hble he hm1 hm2 hkx hk ?_
    intro o σ1 rargs rr mc ms Pc Qc hc1 hrst hra h8 hc hs hM hro hbl hPc
    have hl1 := congrArg List.length has
    rw [List.length_reverse, hlen, List.length_cons] at hl1
    rw [has] at hra
    obtain ⟨r0, rt0, rfl, h0, hrt⟩ := am_S2_c hra
    obtain ⟨a, q0, rx, ry, rfl, -, hat, -, -⟩ := cx_nat hG.1 hnd h0
    rw [hk1] at hat
    obtain ⟨-, hq9⟩ := cx_q_in _ h9
    refine xm_runU (C := (cx_q kd).1) (owner := owner) (b := a) (As := rt0) ⟨hx, hb, hml, hown, hts⟩ hM (cx_B hts hcb ⟨hR.1, hR.2.1⟩) (hts _ hl) (hts _ hsame) hd0 howner (hts _ hsel) (hts _ hinst) hnp ⟨hbl, va_recv hK.1 (cw_P hG.1.1) (hcl _ _ hq9) hat, hPc⟩ (by rw [am_S2_len hrt]; omega) hsz ?_ h8 hdg ⟨hc, hs⟩
    rw [hrst, List.reverse_cons, List.append_assoc]
    rfl
  · cases he
end
