/-! EVERY METHOD OF THE COMPONENT DOES WHAT ITS MACHINE SAYS. -/
theorem cx_hop_mn {cn : Nat} {call : cs_ct} (hc : cs_mc call) (i : Instr) : cs_mn (cs_hop cn call i) := by
  cases i
  case getfield idx =>
    show cs_mn (match am_lk cs_F (100 * idx + cn) with | some fc => cs_getf fc | none => cs_no)
    cases am_lk cs_F (100 * idx + cn) with
    | none => exact cs_mn_no
    | some fc => exact cs_mn_getf fc
  case putfield idx =>
    show cs_mn (match am_lk cs_Fp (100 * idx + cn) with | some fc => cs_putf fc | none => cs_no)
    cases am_lk cs_Fp (100 * idx + cn) with
    | none => exact cs_mn_no
    | some fc => exact cs_mn_putf fc
  case iaload => exact cs_mn_ld _
  case baload => exact cs_mn_ld _
  case iastore => exact cs_mn_st _
  case bastore => exact cs_mn_st _
  case aaload => exact cs_mn_aal
  case aastore => exact cs_mn_aas
  case laload => exact cs_mn_lal
  case lastore => exact cs_mn_las
  case athrow => exact cs_mn_thr
  case ldc2_w idx =>
    show cs_mn (match am_lk cs_K (100 * idx + cn) with | some v => cs_long v | none => cs_no)
    cases am_lk cs_K (100 * idx + cn) with
    | none => exact cs_mn_no
    | some v => exact cs_mn_long v
  case checkcast idx =>
    show cs_mn (bif Nat.beq (100 * idx + cn) 7701 then cs_cast else cs_no)
    cases Nat.beq (100 * idx + cn) 7701 with
    | true => exact cs_mn_cast
    | false => exact cs_mn_no
  case new idx =>
    show cs_mn (bif Nat.beq (100 * idx + cn) 4001 then cs_new else cs_no)
    cases Nat.beq (100 * idx + cn) 4001 with
    | true => exact cs_mn_new
    | false => exact cs_mn_no
  case invokevirtual idx =>
    show cs_mn (match am_lk cs_Iv (100 * idx + cn) with | some F => F call | none => cs_no)
    cases h : am_lk cs_Iv (100 * idx + cn) with
    | none => exact cs_mn_no
    | some F => exact (cx_Iv_ok _ (am_lk_mem h)).1 call hc
  case invokestatic idx =>
    show cs_mn (match am_lk cs_Is (100 * idx + cn) with | some F => F call | none => cs_no)
    cases h : am_lk cs_Is (100 * idx + cn) with
    | none => exact cs_mn_no
    | some F => exact (cx_Is_ok _ (am_lk_mem h)).1 call hc
  case invokespecial idx =>
    show cs_mn (match am_lk cs_Ip (100 * idx + cn) with | some F => F call | none => cs_no)
    cases h : am_lk cs_Ip (100 * idx + cn) with
    | none => exact cs_mn_no
    | some F => exact (cx_Ip_ok _ (am_lk_mem h)).1 call hc
  all_goals exact cs_mn_no
theorem cs_le.tr {a b c : cs_S} (h : cs_le a b) (h' : cs_le b c) : cs_le a c := ⟨Nat.le_trans h.1 h'.1, Nat.le_trans h.2 h'.2⟩
theorem cx_hop_el {cn : Nat} {call : cs_ct} (hc : cs_mc call) {res : am_O × cs_S} : ∀ i st s kx k, cs_hop cn call i st s kx k = some res → (∀ x s', kx x s' = some res → cs_le s' res.2) → (∀ st' s', k st' s' = some res → cs_le s' res.2) → cs_le s res.2 := by
  intro i st s kx k h h1 h2
  rcases cx_hop_mn hc i st s kx k res h with ⟨x, s', h3, h4⟩ | ⟨st', s', h3, h4⟩
  · exact h4.tr (h1 _ _ h3)
  · exact h4.tr (h2 _ _ h3)
theorem cs_call_mc (N : Nat) : ∀ f, cs_mc (cs_call N f)
  | 0 => fun _ _ _ _ _ h => by cases h
  | f + 1 => by
    have ih := cs_call_mc N f
    intro mt as s o s' h
    unfold cs_call at h
    split at h
    · have h := (bif_e h).2
      exact am_rs_el (Φ := fun s => cs_le s s') (res := (o, s')) (cx_hop_el ih) (cs_le.rf _) (am_bk_el (Φ := fun s => cs_le s s') (res := (o, s')) (cx_hop_el ih) (cs_le.rf _) _ N) _ _ _ _ _ h
    · exact (cs_mn_prim h).1
theorem cs_call_204 (N f : Nat) : ∀ as σ o σ1, cs_call N f 204 as σ = some (o, σ1) → ∃ r, o = .inl r := by
  intro as σ o σ1 h
  cases f with
  | zero => cases h
  | succ f => exact (cs_mn_prim (mt := 204) h).2
section
variable {p : Program} {l : Launch} {e : Env} {R : Room} {s : State} {m : MethodId} {args : Array Value} {below : List Frame} {meth : Method} {c : Code} {Q : State → Prop} {res : am_O × cs_S} {D : va_G} {cl : List vw_C} {ad : Nat → Nat} {d : Nat → ClassId} {ι0 : cx_I} {σ0 : cs_S} {nL pc : Nat} {cc : ByteArray} {f cn : Nat} {call : cs_ct}
theorem cx_hop_step (hC : cx_ctx p R s m args c res D cl ad d ι0 σ0 nL cc (cx_own cn) f) (hcn : cn < 100) (hI : cx_IH l D cl ad d f call) (hn : ∀ as σ o σ1, call 204 as σ = some (o, σ1) → ∃ r, o = .inl r) {len : Nat} {i : Instr} {tg : List Nat} (hok : am_cok cc (pc, i, len, tg)) : cx_step p l e R s m args below meth c Q res D cl ad d ι0 σ0 nL pc len (cs_hop cn call i) := by
  have hdg : decode cc pc = .ok (i, len) := hok.1
  have hln : am_lnok i len = true := hok.2.1
  have hno : cx_step p l e R s m args below meth c Q res D cl ad d ι0 σ0 nL pc len cs_no := fun _ _ _ _ _ _ _ _ _ _ _ _ _ _ he _ _ _ _ => by cases he
  have e1 : ∀ idx, (100 * idx + cn) / 100 = idx := fun idx => by omega
  have e2 : ∀ idx, (100 * idx + cn) % 100 = cn := fun idx => by omega
  cases i
  case getfield idx =>
    obtain rfl : len = 3 := by simpa [am_lnok] using hln
    show cx_step p l e R s m args below meth c Q res D cl ad d ι0 σ0 nL pc 3 (match am_lk cs_F (100 * idx + cn) with | some fc => cs_getf fc | none => cs_no)
    cases h : am_lk cs_F (100 * idx + cn) with
    | none => exact hno
    | some fc =>
      have hE := cx_F_ok _ (am_lk_mem h)
      dsimp only at hE
      rw [e1, e2] at hE
      exact hE.2 _ _ _ _ _ _ _ _ _ _ _ _ _ _ _ _ _ _ _ _ _ _ call hC hI hn hdg
  case putfield idx =>
    obtain rfl : len = 3 := by simpa [am_lnok] using hln
    show cx_step p l e R s m args below meth c Q res D cl ad d ι0 σ0 nL pc 3 (match am_lk cs_Fp (100 * idx + cn) with | some fc => cs_putf fc | none => cs_no)
    cases h : am_lk cs_Fp (100 * idx + cn) with
    | none => exact hno
    | some fc =>
      have hE := cx_Fp_ok _ (am_lk_mem h)
      dsimp only at hE
      rw [e1, e2] at hE
      exact hE.2 _ _ _ _ _ _ _ _ _ _ _ _ _ _ _ _ _ _ _ _ _ _ call hC hI hn hdg
  case iaload =>
    obtain rfl : len = 1 := by simpa [am_lnok] using hln
    exact cx_s_ld (b := false) hC hdg
  case baload =>
    obtain rfl : len = 1 := by simpa [am_lnok] using hln
    exact cx_s_ld (b := true) hC hdg
  case iastore =>
    obtain rfl : len = 1 := by simpa [am_lnok] using hln
    exact cx_s_st (b := false) hC hdg
  case bastore =>
    obtain rfl : len = 1 := by simpa [am_lnok] using hln
    exact cx_s_st (b := true) hC hdg
  case aaload =>
    obtain rfl : len = 1 := by simpa [am_lnok] using hln
    exact cx_s_aal hC hdg
  case aastore =>
    obtain rfl : len = 1 := by simpa [am_lnok] using hln
    exact cx_s_aas hC hdg
  case laload =>
    obtain rfl : len = 1 := by simpa [am_lnok] using hln
    exact cx_s_lal hC hdg
  case lastore =>
    obtain rfl : len = 1 := by simpa [am_lnok] using hln
    exact cx_s_las hC hdg
  case athrow =>
    obtain rfl : len = 1 := by simpa [am_lnok] using hln
    exact cx_s_thr hC hdg
  case ldc2_w idx =>
    obtain rfl : len = 3 := by simpa [am_lnok] using hln
    show cx_step p l e R s m args below meth c Q res D cl ad d ι0 σ0 nL pc 3 (match am_lk cs_K (100 * idx + cn) with | some v => cs_long v | none => cs_no)
    cases h : am_lk cs_K (100 * idx + cn) with
    | none => exact hno
    | some v =>
      have hE := cx_K_ok _ (am_lk_mem h)
      dsimp only at hE
      rw [e1, e2] at hE
      exact hE.2 _ _ _ _ _ _ _ _ _ _ _ _ _ _ _ _ _ _ _ _ _ _ call hC hI hn hdg
  case checkcast idx =>
    obtain rfl : len = 3 := by simpa [am_lnok] using hln
    show cx_step p l e R s m args below meth c Q res D cl ad d ι0 σ0 nL pc 3 (bif Nat.beq (100 * idx + cn) 7701 then cs_cast else cs_no)
    cases h : Nat.beq (100 * idx + cn) 7701 with
    | false => exact hno
    | true =>
      have h := Nat.eq_of_beq_eq_true h
      obtain ⟨rfl, rfl⟩ : idx = 77 ∧ cn = 1 := by omega
      exact ec_cast.2 _ _ _ _ _ _ _ _ _ _ _ _ _ _ _ _ _ _ _ _ _ _ call hC hI hn hdg
  case new idx =>
    obtain rfl : len = 3 := by simpa [am_lnok] using hln
    show cx_step p l e R s m args below meth c Q res D cl ad d ι0 σ0 nL pc 3 (bif Nat.beq (100 * idx + cn) 4001 then cs_new else cs_no)
    cases h : Nat.beq (100 * idx + cn) 4001 with
    | false => exact hno
    | true =>
      have h := Nat.eq_of_beq_eq_true h
      obtain ⟨rfl, rfl⟩ : idx = 40 ∧ cn = 1 := by omega
      exact ec_new.2 _ _ _ _ _ _ _ _ _ _ _ _ _ _ _ _ _ _ _ _ _ _ call hC hI hn hdg
  case invokevirtual idx =>
    obtain rfl : len = 3 := by simpa [am_lnok] using hln
    show cx_step p l e R s m args below meth c Q res D cl ad d ι0 σ0 nL pc 3 (match am_lk cs_Iv (100 * idx + cn) with | some F => F call | none => cs_no)
    cases h : am_lk cs_Iv (100 * idx + cn) with
    | none => exact hno
    | some F =>
      have hE := cx_Iv_ok _ (am_lk_mem h)
      dsimp only at hE
      rw [e1, e2] at hE
      exact hE.2 _ _ _ _ _ _ _ _ _ _ _ _ _ _ _ _ _ _ _ _ _ _ call hC hI hn hdg
  case invokestatic idx =>
    obtain rfl : len = 3 := by simpa [am_lnok] using hln
    show cx_step p l e R s m args below meth c Q res D cl ad d ι0 σ0 nL pc 3 (match am_lk cs_Is (100 * idx + cn) with | some F => F call | none => cs_no)
    cases h : am_lk cs_Is (100 * idx + cn) with
    | none => exact hno
    | some F =>
      have hE := cx_Is_ok _ (am_lk_mem h)
      dsimp only at hE
      rw [e1, e2] at hE
      exact hE.2 _ _ _ _ _ _ _ _ _ _ _ _ _ _ _ _ _ _ _ _ _ _ call hC hI hn hdg
  case invokespecial idx =>
    obtain rfl : len = 3 := by simpa [am_lnok] using hln
    show cx_step p l e R s m args below meth c Q res D cl ad d ι0 σ0 nL pc 3 (match am_lk cs_Ip (100 * idx + cn) with | some F => F call | none => cs_no)
    cases h : am_lk cs_Ip (100 * idx + cn) with
    | none => exact hno
    | some F =>
      have hE := cx_Ip_ok _ (am_lk_mem h)
      dsimp only at hE
      rw [e1, e2] at hE
      exact hE.2 _ _ _ _ _ _ _ _ _ _ _ _ _ _ _ _ _ _ _ _ _ _ call hC hI hn hdg
  all_goals exact hno
end
