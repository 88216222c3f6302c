/-! THE ACTIONS of the model's machine: fields, arrays, constants, calls. -/
def mf_gi (j : Nat) : am_F mm_S := am_hh fun ls st s nx jp bk thr => match st with
  | .inl (.ref 0) :: r => nx ls (.inl (.int (s.1 j)) :: r) s
  | _ => none
def mf_gr (j : Nat) : am_F mm_S := am_hh fun ls st s nx jp bk thr => match st with
  | .inl (.ref 0) :: r => nx ls (.inl (.ref j) :: r) s
  | _ => none
def mf_pi (j : Nat) : am_F mm_S := am_hh fun ls st s nx jp bk thr => match st with
  | .inl (.int v) :: .inl (.ref 0) :: r => nx ls r (mm_p s j v)
  | _ => none
def mf_pz (j : Nat) : am_F mm_S := am_hh fun ls st s nx jp bk thr => match st with
  | .inl (.int v) :: .inl (.ref 0) :: r => if v = 0 ∨ v = 1 then nx ls r (mm_p s j v) else none
  | _ => none
def mf_ial : am_F mm_S := am_hh fun ls st s nx jp bk thr => match st with
  | .inl (.int i) :: .inl (.ref c) :: r => (match am_lk mm_A c with
    | some (n, 0) => am_ix i n fun j => nx ls (.inl (.int (s.2.1 c j)) :: r) s
    | _ => none)
  | _ => none
def mf_bal : am_F mm_S := am_hh fun ls st s nx jp bk thr => match st with
  | .inl (.int i) :: .inl (.ref c) :: r => (match am_lk mm_A c with
    | some (n, 1) => am_ix i n fun j => nx ls (.inl (.int (s.2.1 c j)) :: r) s
    | _ => none)
  | _ => none
def mf_lal : am_F mm_S := am_hh fun ls st s nx jp bk thr => match st with
  | .inl (.int i) :: .inl (.ref c) :: r => (match am_lk mm_A c with
    | some (n, 2) => am_ix i n fun j => nx ls (.inl (.long (s.2.2 c j)) :: r) s
    | _ => none)
  | _ => none
def mf_ias : am_F mm_S := am_hh fun ls st s nx jp bk thr => match st with
  | .inl (.int v) :: .inl (.int i) :: .inl (.ref c) :: r => (match am_lk mm_A c with
    | some (n, 0) => am_ix i n fun j => nx ls r (mm_pa s c j v)
    | _ => none)
  | _ => none
def mf_bas : am_F mm_S := am_hh fun ls st s nx jp bk thr => match st with
  | .inl (.int v) :: .inl (.int i) :: .inl (.ref c) :: r => (match am_lk mm_A c with
    | some (n, 1) => am_ix i n fun j => nx ls r (mm_pa s c j (v &&& 1))
    | _ => none)
  | _ => none
def mf_las : am_F mm_S := am_hh fun ls st s nx jp bk thr => match st with
  | .inl (.long v) :: .inl (.int i) :: .inl (.ref c) :: r => (match am_lk mm_A c with
    | some (n, 2) => am_ix i n fun j => nx ls r (mm_pl s c j v)
    | _ => none)
  | _ => none
def mf_cv (call : mm_ct) (mt n rk : Nat) : am_F mm_S := am_hh fun ls st s nx jp bk thr => am_tk n st [] fun as r => (match as with
  | .inl (.ref 0) :: _ => (match Nat.ble (am_wt r) 8 with | true => am_cr rk (call mt as s) thr (fun st s => nx ls st s) r | false => none)
  | _ => none)
def mf_cs (call : mm_ct) (mt n rk : Nat) : am_F mm_S := am_hh fun ls st s nx jp bk thr => am_tk n st [] fun as r => (match Nat.ble (am_wt r) 8 with | true => am_cr rk (call mt as s) thr (fun st s => nx ls st s) r | false => none)
section
variable (call : mm_ct) (rt : Option FieldType) (p : Nat) (tg : List Nat)
theorem cM_gi {idx j : Nat} (h1 : am_lk mm_F idx = some j) (h2 : am_lk mm_A j = none) : am_cF (mm_hop call) rt (p, .getfield idx, 3, tg) = (p, mf_gi j) := by
  simp only [am_cF, am_core, mm_hop, h1, h2]; rfl
theorem cM_gr {idx j : Nat} {z : Nat × Nat} (h1 : am_lk mm_F idx = some j) (h2 : am_lk mm_A j = some z) : am_cF (mm_hop call) rt (p, .getfield idx, 3, tg) = (p, mf_gr j) := by
  simp only [am_cF, am_core, mm_hop, h1, h2]; rfl
theorem cM_pi {idx j : Nat} (h1 : am_lk mm_F idx = some j) (h2 : am_lk mm_A j = none) (h3 : Nat.beq j 30 = false) : am_cF (mm_hop call) rt (p, .putfield idx, 3, tg) = (p, mf_pi j) := by
  simp only [am_cF, am_core, mm_hop, h1, h2, h3, cond_false]; rfl
theorem cM_pz {idx j : Nat} (h1 : am_lk mm_F idx = some j) (h2 : am_lk mm_A j = none) (h3 : Nat.beq j 30 = true) : am_cF (mm_hop call) rt (p, .putfield idx, 3, tg) = (p, mf_pz j) := by
  simp only [am_cF, am_core, mm_hop, h1, h2, h3, cond_true]; rfl
theorem cM_iaload : am_cF (mm_hop call) rt (p, .iaload, 1, tg) = (p, mf_ial) := rfl
theorem cM_baload : am_cF (mm_hop call) rt (p, .baload, 1, tg) = (p, mf_bal) := rfl
theorem cM_laload : am_cF (mm_hop call) rt (p, .laload, 1, tg) = (p, mf_lal) := rfl
theorem cM_iastore : am_cF (mm_hop call) rt (p, .iastore, 1, tg) = (p, mf_ias) := rfl
theorem cM_bastore : am_cF (mm_hop call) rt (p, .bastore, 1, tg) = (p, mf_bas) := rfl
theorem cM_lastore : am_cF (mm_hop call) rt (p, .lastore, 1, tg) = (p, mf_las) := rfl
theorem cM_ldc2_w {idx : Nat} {v : Int64} (h : am_lk mm_K idx = some v) : am_cF (mm_hop call) rt (p, .ldc2_w idx, 3, tg) = (p, af_lc v) := by
  simp only [am_cF, am_core, mm_hop, h]; rfl
theorem cM_cv {idx mt n rk : Nat} (h : am_lk mm_I idx = some (mt, false, n, rk)) : am_cF (mm_hop call) rt (p, .invokevirtual idx, 3, tg) = (p, mf_cv call mt n rk) := by
  simp only [am_cF, am_core, mm_hop, h]; rfl
theorem cM_cs {idx mt n rk : Nat} (h : am_lk mm_I idx = some (mt, true, n, rk)) : am_cF (mm_hop call) rt (p, .invokestatic idx, 3, tg) = (p, mf_cs call mt n rk) := by
  simp only [am_cF, am_core, mm_hop, h]; rfl
end
theorem mm_call_of {N f mt nL : Nat} {rt : Option FieldType} {code : am_C} {z : MethodName × ByteArray} {args : List am_V} {ls : am_L} {s : mm_S} {g : mm_ct → am_G mm_S} (h : am_lk mm_T mt = some (nL, rt, code, z)) (hb : Nat.ble (am_lay args).length nL = true) (he : am_ent args nL = ls) (hseq : am_seq code = true) (hg : ∀ call, code.map (am_cF (mm_hop call) rt) = g call) (h0 : ∃ i len tg is, code = (0, i, len, tg) :: is) :
    mm_call N (f + 1) mt args s = (am_r2 (am_bk (mm_hop (mm_call N f)) am_no rt code N) (g (mm_call N f))).1 ls [] s := by
  subst he
  rw [mm_call, h]
  dsimp only
  rw [hb, cond_true, am_r2_of hseq (hg _) h0]
