/-! THE COMPONENT's MACHINE: its hop, its calls. -/
def cs_hop (cn : Nat) (call : cs_ct) (i : Instr) : cs_ft := match i with
  | .getfield idx => (match am_lk cs_F (100 * idx + cn) with
    | some fc => cs_getf fc
    | none => cs_no)
  | .putfield idx => (match am_lk cs_Fp (100 * idx + cn) with
    | some fc => cs_putf fc
    | none => cs_no)
  | .iaload => cs_ld false
  | .baload => cs_ld true
  | .iastore => cs_st false
  | .bastore => cs_st true
  | .aaload => cs_aal
  | .aastore => cs_aas
  | .laload => cs_lal
  | .lastore => cs_las
  | .athrow => cs_thr
  | .ldc2_w idx => (match am_lk cs_K (100 * idx + cn) with
    | some v => cs_long v
    | none => cs_no)
  | .checkcast idx => bif Nat.beq (100 * idx + cn) 7701 then cs_cast else cs_no
  | .new idx => bif Nat.beq (100 * idx + cn) 4001 then cs_new else cs_no
  | .invokevirtual idx => (match am_lk cs_Iv (100 * idx + cn) with
    | some F => F call
    | none => cs_no)
  | .invokestatic idx => (match am_lk cs_Is (100 * idx + cn) with
    | some F => F call
    | none => cs_no)
  | .invokespecial idx => (match am_lk cs_Ip (100 * idx + cn) with
    | some F => F call
    | none => cs_no)
  | _ => cs_no
def cs_hd (mt : Nat) : Nat → Option Nat := match am_lk cs_H mt with
  | some (a, b, q) => fun p => if a ≤ p ∧ p < b then some q else none
  | none => am_no
/-- the component's methods: N jumps back in each, calls f deep -/
def cs_call (N : Nat) : Nat → Nat → List am_V → cs_S → am_R cs_S
  | 0, _, _, _ => none
  | f + 1, mt, args, s => match am_lk cs_T mt with
    | some (nL, rt, code, _, _, cn) => bif Nat.ble (am_lay args).length nL then
        am_rs (cs_hop cn (cs_call N f)) (cs_hd mt) rt (am_bk (cs_hop cn (cs_call N f)) (cs_hd mt) rt code N) code 0 (am_ent args nL) [] s
      else none
    | none => cs_prim f mt args s
/-! its actions -/
def ca_h (F : cs_ft) : am_F cs_S := am_hh fun ls st s nx jp bk thr => F st s thr fun st s => nx ls st s
section
variable {cn : Nat} {call : cs_ct} {rt : Option FieldType} {p : Nat} {tg : List Nat} {F : cs_ft}
theorem cC_getfield {idx : Nat} (h : cs_hop cn call (.getfield idx) = F) : am_cF (cs_hop cn call) rt (p, .getfield idx, 3, tg) = (p, ca_h F) := by subst h; rfl
theorem cC_putfield {idx : Nat} (h : cs_hop cn call (.putfield idx) = F) : am_cF (cs_hop cn call) rt (p, .putfield idx, 3, tg) = (p, ca_h F) := by subst h; rfl
theorem cC_ldc2_w {idx : Nat} (h : cs_hop cn call (.ldc2_w idx) = F) : am_cF (cs_hop cn call) rt (p, .ldc2_w idx, 3, tg) = (p, ca_h F) := by subst h; rfl
theorem cC_checkcast {idx : Nat} (h : cs_hop cn call (.checkcast idx) = F) : am_cF (cs_hop cn call) rt (p, .checkcast idx, 3, tg) = (p, ca_h F) := by subst h; rfl
theorem cC_new {idx : Nat} (h : cs_hop cn call (.new idx) = F) : am_cF (cs_hop cn call) rt (p, .new idx, 3, tg) = (p, ca_h F) := by subst h; rfl
theorem cC_invokevirtual {idx : Nat} (h : cs_hop cn call (.invokevirtual idx) = F) : am_cF (cs_hop cn call) rt (p, .invokevirtual idx, 3, tg) = (p, ca_h F) := by subst h; rfl
theorem cC_invokestatic {idx : Nat} (h : cs_hop cn call (.invokestatic idx) = F) : am_cF (cs_hop cn call) rt (p, .invokestatic idx, 3, tg) = (p, ca_h F) := by subst h; rfl
theorem cC_invokespecial {idx : Nat} (h : cs_hop cn call (.invokespecial idx) = F) : am_cF (cs_hop cn call) rt (p, .invokespecial idx, 3, tg) = (p, ca_h F) := by subst h; rfl
theorem cC_iaload (h : cs_hop cn call .iaload = F) : am_cF (cs_hop cn call) rt (p, .iaload, 1, tg) = (p, ca_h F) := by subst h; rfl
theorem cC_baload (h : cs_hop cn call .baload = F) : am_cF (cs_hop cn call) rt (p, .baload, 1, tg) = (p, ca_h F) := by subst h; rfl
theorem cC_iastore (h : cs_hop cn call .iastore = F) : am_cF (cs_hop cn call) rt (p, .iastore, 1, tg) = (p, ca_h F) := by subst h; rfl
theorem cC_bastore (h : cs_hop cn call .bastore = F) : am_cF (cs_hop cn call) rt (p, .bastore, 1, tg) = (p, ca_h F) := by subst h; rfl
theorem cC_aaload (h : cs_hop cn call .aaload = F) : am_cF (cs_hop cn call) rt (p, .aaload, 1, tg) = (p, ca_h F) := by subst h; rfl
theorem cC_aastore (h : cs_hop cn call .aastore = F) : am_cF (cs_hop cn call) rt (p, .aastore, 1, tg) = (p, ca_h F) := by subst h; rfl
theorem cC_laload (h : cs_hop cn call .laload = F) : am_cF (cs_hop cn call) rt (p, .laload, 1, tg) = (p, ca_h F) := by subst h; rfl
theorem cC_lastore (h : cs_hop cn call .lastore = F) : am_cF (cs_hop cn call) rt (p, .lastore, 1, tg) = (p, ca_h F) := by subst h; rfl
theorem cC_athrow (h : cs_hop cn call .athrow = F) : am_cF (cs_hop cn call) rt (p, .athrow, 1, tg) = (p, ca_h F) := by subst h; rfl
end
theorem cs_call_of {N f mt nL cn : Nat} {rt : Option FieldType} {code : am_C} {z : MethodName} {zc : ByteArray} {args : List am_V} {ls : am_L} {s : cs_S} {g : cs_ct → am_G cs_S} (h : am_lk cs_T mt = some (nL, rt, code, z, zc, cn)) (hh : cs_hd mt = am_no) (hb : Nat.ble (am_lay args).length nL = true) (he : am_ent args nL = ls) (hseq : am_seq code = true) (hg : ∀ call, code.map (am_cF (cs_hop cn call) rt) = g call) (h0 : ∃ i len tg is, code = (0, i, len, tg) :: is) :
    cs_call N (f + 1) mt args s = (am_r2 (am_bk (cs_hop cn (cs_call N f)) am_no rt code N) (g (cs_call N f))).1 ls [] s := by
  subst he
  rw [cs_call, h, hh]
  dsimp only
  rw [hb, cond_true, am_r2_of hseq (hg _) h0]
