/-! THE ACTIONS of the stack instructions. (Printed by gen/act2.py.) -/
section
variable {S : Type}
def af_ic (c : Int32) : am_F S := am_hh fun ls st s nx jp bk thr => nx ls (.inl (.int c) :: st) s
def af_lc (c : Int64) : am_F S := am_hh fun ls st s nx jp bk thr => nx ls (.inl (.long c) :: st) s
def af_nul : am_F S := am_hh fun ls st s nx jp bk thr => nx ls (.inr .leaf :: st) s
def af_ldi (n : Nat) : am_F S := am_hh fun ls st s nx jp bk thr => match ls[n]? with | some (some (.inl (.int x))) => nx ls (.inl (.int x) :: st) s | _ => none
def af_ldl (n : Nat) : am_F S := am_hh fun ls st s nx jp bk thr => match ls[n]? with | some (some (.inl (.long x))) => nx ls (.inl (.long x) :: st) s | _ => none
def af_lda (n : Nat) : am_F S := am_hh fun ls st s nx jp bk thr => match ls[n]? with | some (some (.inl (.ref x))) => nx ls (.inl (.ref x) :: st) s | some (some (.inr w)) => nx ls (.inr w :: st) s | _ => none
def af_sti (n : Nat) : am_F S := am_hh fun ls st s nx jp bk thr => match st with | .inl (.int x) :: r => (match ls[n]? with | some _ => nx (am_set1 ls n (.inl (.int x))) r s | none => none) | _ => none
def af_stl (n : Nat) : am_F S := am_hh fun ls st s nx jp bk thr => match st with | .inl (.long x) :: r => (match ls[n + 1]? with | some _ => nx (am_set2 ls n (.inl (.long x))) r s | none => none) | _ => none
def af_sta (n : Nat) : am_F S := am_hh fun ls st s nx jp bk thr => match st with | .inl (.ref x) :: r => (match ls[n]? with | some _ => nx (am_set1 ls n (.inl (.ref x))) r s | none => none) | .inr w :: r => (match ls[n]? with | some _ => nx (am_set1 ls n (.inr w)) r s | none => none) | _ => none
def af_inc (n : Nat) (c : Int) : am_F S := am_hh fun ls st s nx jp bk thr => match ls[n]? with | some (some (.inl (.int x))) => nx (am_set1 ls n (.inl (.int (x + ic c)))) st s | _ => none
def af_iadd : am_F S := am_hh fun ls st s nx jp bk thr => match st with | .inl (.int y) :: .inl (.int x) :: r => nx ls (.inl (.int (x + y)) :: r) s | _ => none
def af_isub : am_F S := am_hh fun ls st s nx jp bk thr => match st with | .inl (.int y) :: .inl (.int x) :: r => nx ls (.inl (.int (x - y)) :: r) s | _ => none
def af_imul : am_F S := am_hh fun ls st s nx jp bk thr => match st with | .inl (.int y) :: .inl (.int x) :: r => nx ls (.inl (.int (x * y)) :: r) s | _ => none
def af_iand : am_F S := am_hh fun ls st s nx jp bk thr => match st with | .inl (.int y) :: .inl (.int x) :: r => nx ls (.inl (.int (x &&& y)) :: r) s | _ => none
def af_ior : am_F S := am_hh fun ls st s nx jp bk thr => match st with | .inl (.int y) :: .inl (.int x) :: r => nx ls (.inl (.int (x ||| y)) :: r) s | _ => none
def af_ixor : am_F S := am_hh fun ls st s nx jp bk thr => match st with | .inl (.int y) :: .inl (.int x) :: r => nx ls (.inl (.int (x ^^^ y)) :: r) s | _ => none
def af_ishl : am_F S := am_hh fun ls st s nx jp bk thr => match st with | .inl (.int y) :: .inl (.int x) :: r => nx ls (.inl (.int (x <<< (y &&& 31))) :: r) s | _ => none
def af_ishr : am_F S := am_hh fun ls st s nx jp bk thr => match st with | .inl (.int y) :: .inl (.int x) :: r => nx ls (.inl (.int (x >>> (y &&& 31))) :: r) s | _ => none
def af_idiv : am_F S := am_hh fun ls st s nx jp bk thr => match st with | .inl (.int y) :: .inl (.int x) :: r => am_dz y (nx ls (.inl (.int (x / y)) :: r) s) | _ => none
def af_irem : am_F S := am_hh fun ls st s nx jp bk thr => match st with | .inl (.int y) :: .inl (.int x) :: r => am_dz y (nx ls (.inl (.int (x - x / y * y)) :: r) s) | _ => none
def af_ladd : am_F S := am_hh fun ls st s nx jp bk thr => match st with | .inl (.long y) :: .inl (.long x) :: r => nx ls (.inl (.long (x + y)) :: r) s | _ => none
def af_lsub : am_F S := am_hh fun ls st s nx jp bk thr => match st with | .inl (.long y) :: .inl (.long x) :: r => nx ls (.inl (.long (x - y)) :: r) s | _ => none
def af_lmul : am_F S := am_hh fun ls st s nx jp bk thr => match st with | .inl (.long y) :: .inl (.long x) :: r => nx ls (.inl (.long (x * y)) :: r) s | _ => none
def af_land : am_F S := am_hh fun ls st s nx jp bk thr => match st with | .inl (.long y) :: .inl (.long x) :: r => nx ls (.inl (.long (x &&& y)) :: r) s | _ => none
def af_lor : am_F S := am_hh fun ls st s nx jp bk thr => match st with | .inl (.long y) :: .inl (.long x) :: r => nx ls (.inl (.long (x ||| y)) :: r) s | _ => none
def af_ldiv : am_F S := am_hh fun ls st s nx jp bk thr => match st with | .inl (.long y) :: .inl (.long x) :: r => am_dzl y (nx ls (.inl (.long (x / y)) :: r) s) | _ => none
def af_lrem : am_F S := am_hh fun ls st s nx jp bk thr => match st with | .inl (.long y) :: .inl (.long x) :: r => am_dzl y (nx ls (.inl (.long (x - x / y * y)) :: r) s) | _ => none
def af_lshl : am_F S := am_hh fun ls st s nx jp bk thr => match st with | .inl (.int y) :: .inl (.long x) :: r => nx ls (.inl (.long (x <<< (y.toInt64 &&& 63))) :: r) s | _ => none
def af_lcmp : am_F S := am_hh fun ls st s nx jp bk thr => match st with | .inl (.long y) :: .inl (.long x) :: r => nx ls (.inl (.int (lg_cmp x y)) :: r) s | _ => none
def af_i2l : am_F S := am_hh fun ls st s nx jp bk thr => match st with | .inl (.int x) :: r => nx ls (.inl (.long x.toInt64) :: r) s | _ => none
def af_i2b : am_F S := am_hh fun ls st s nx jp bk thr => match st with | .inl (.int x) :: r => nx ls (.inl (.int x.toInt8.toInt32) :: r) s | _ => none
def af_i2c : am_F S := am_hh fun ls st s nx jp bk thr => match st with | .inl (.int x) :: r => nx ls (.inl (.int (x.toUInt32 % 65536).toInt32) :: r) s | _ => none
def af_dup : am_F S := am_hh fun ls st s nx jp bk thr => am_w1 st fun v r => nx ls (v :: v :: r) s
def af_pop : am_F S := am_hh fun ls st s nx jp bk thr => am_w1 st fun _ r => nx ls r s
def af_dup2 : am_F S := am_hh fun ls st s nx jp bk thr => am_w1 st fun v r => am_w1 r fun u r => nx ls (v :: u :: v :: u :: r) s
def af_iff (c : Jvm.ClassFile.Cond) (t : Nat) : am_F S := am_hh fun ls st s nx jp bk thr => match st with | .inl (.int x) :: r => am_cmp c x 0 (jp t ls r s) (nx ls r s) | _ => none
def af_iif (c : Jvm.ClassFile.Cond) (t : Nat) : am_F S := am_hh fun ls st s nx jp bk thr => match st with | .inl (.int y) :: .inl (.int x) :: r => am_cmp c x y (jp t ls r s) (nx ls r s) | _ => none
def af_gof (t : Nat) : am_F S := am_hh fun ls st s nx jp bk thr => jp t ls st s
def af_nnf (t : Nat) : am_F S := am_hh fun ls st s nx jp bk thr => match st with | .inl (.ref x) :: r => am_nul (.inl (.ref x)) (jp t ls r s) (nx ls r s) | .inr w :: r => am_nul (.inr w) (jp t ls r s) (nx ls r s) | _ => none
def af_nzf (t : Nat) : am_F S := am_hh fun ls st s nx jp bk thr => match st with | .inl (.ref x) :: r => am_nul (.inl (.ref x)) (nx ls r s) (jp t ls r s) | .inr w :: r => am_nul (.inr w) (nx ls r s) (jp t ls r s) | _ => none
def af_ifb (c : Jvm.ClassFile.Cond) (t : Nat) : am_F S := am_hh fun ls st s nx jp bk thr => match st with | .inl (.int x) :: r => am_cmp c x 0 (bk t ls r s) (nx ls r s) | _ => none
def af_iib (c : Jvm.ClassFile.Cond) (t : Nat) : am_F S := am_hh fun ls st s nx jp bk thr => match st with | .inl (.int y) :: .inl (.int x) :: r => am_cmp c x y (bk t ls r s) (nx ls r s) | _ => none
def af_gob (t : Nat) : am_F S := am_hh fun ls st s nx jp bk thr => bk t ls st s
def af_nnb (t : Nat) : am_F S := am_hh fun ls st s nx jp bk thr => match st with | .inl (.ref x) :: r => am_nul (.inl (.ref x)) (bk t ls r s) (nx ls r s) | .inr w :: r => am_nul (.inr w) (bk t ls r s) (nx ls r s) | _ => none
def af_nzb (t : Nat) : am_F S := am_hh fun ls st s nx jp bk thr => match st with | .inl (.ref x) :: r => am_nul (.inl (.ref x)) (nx ls r s) (bk t ls r s) | .inr w :: r => am_nul (.inr w) (nx ls r s) (bk t ls r s) | _ => none
def af_sw (n d : Nat) (ts : List Nat) : am_F S := am_hh fun ls st s nx jp bk thr => match st with | .inl (.int x) :: r => am_sw x n d ts fun t => jp t ls r s | _ => none
def af_ri (rt : Option FieldType) : am_F S := am_hh fun ls st s nx jp bk thr => match st with | .inl (.int x) :: r => (match r with | [] => am_kri rt x (fun r => some (.inl r, s)) | _ => none) | _ => none
def af_rl (rt : Option FieldType) : am_F S := am_hh fun ls st s nx jp bk thr => match st with | .inl (.long x) :: r => (match r with | [] => am_krl rt x (fun r => some (.inl r, s)) | _ => none) | _ => none
def af_ra (rt : Option FieldType) : am_F S := am_hh fun ls st s nx jp bk thr => match st with | .inl (.ref x) :: r => (match r with | [] => am_kra rt (.inl (.ref x)) (fun r => some (.inl r, s)) | _ => none) | .inr w :: r => (match r with | [] => am_kra rt (.inr w) (fun r => some (.inl r, s)) | _ => none) | _ => none
def af_rv (rt : Option FieldType) : am_F S := am_hh fun ls st s nx jp bk thr => (match st with | [] => am_krv rt (fun r => some (.inl r, s)) | _ => none)
variable (hop : Instr → List am_V → S → (Nat → S → am_R S) → (List am_V → S → am_R S) → am_R S) (rt : Option FieldType) (p : Nat)
theorem cF_iconst (n : Int) (tg : List Nat)  : am_cF hop rt (p, .iconst n, 1, tg) = (p, af_ic (ic n)) := by
  simp only [am_cF, am_core, am_issw, am_tg, am_kk_nx]
  rfl
theorem cF_bipush (n : Int) (tg : List Nat)  : am_cF hop rt (p, .bipush n, 2, tg) = (p, af_ic (ic n)) := by
  simp only [am_cF, am_core, am_issw, am_tg, am_kk_nx]
  rfl
theorem cF_sipush (n : Int) (tg : List Nat)  : am_cF hop rt (p, .sipush n, 3, tg) = (p, af_ic (ic n)) := by
  simp only [am_cF, am_core, am_issw, am_tg, am_kk_nx]
  rfl
theorem cF_lconst (n : Fin 2) (tg : List Nat)  : am_cF hop rt (p, .lconst n, 1, tg) = (p, af_lc (lN n.val)) := by
  simp only [am_cF, am_core, am_issw, am_tg, am_kk_nx]
  rfl
theorem cF_aconst_null  (tg : List Nat)  : am_cF hop rt (p, .aconst_null, 1, tg) = (p, af_nul) := by
  simp only [am_cF, am_core, am_issw, am_tg, am_kk_nx]
  rfl
theorem cF_iload_n (n : Fin 4) (tg : List Nat)  : am_cF hop rt (p, .iload_n n, 1, tg) = (p, af_ldi n.val) := by
  simp only [am_cF, am_core, am_issw, am_tg, am_kk_nx]
  rfl
theorem cF_iload (n : Nat) (tg : List Nat)  : am_cF hop rt (p, .iload n, 2, tg) = (p, af_ldi n) := by
  simp only [am_cF, am_core, am_issw, am_tg, am_kk_nx]
  rfl
theorem cF_lload_n (n : Fin 4) (tg : List Nat)  : am_cF hop rt (p, .lload_n n, 1, tg) = (p, af_ldl n.val) := by
  simp only [am_cF, am_core, am_issw, am_tg, am_kk_nx]
  rfl
theorem cF_lload (n : Nat) (tg : List Nat)  : am_cF hop rt (p, .lload n, 2, tg) = (p, af_ldl n) := by
  simp only [am_cF, am_core, am_issw, am_tg, am_kk_nx]
  rfl
theorem cF_aload_n (n : Fin 4) (tg : List Nat)  : am_cF hop rt (p, .aload_n n, 1, tg) = (p, af_lda n.val) := by
  simp only [am_cF, am_core, am_issw, am_tg, am_kk_nx]
  rfl
theorem cF_aload (n : Nat) (tg : List Nat)  : am_cF hop rt (p, .aload n, 2, tg) = (p, af_lda n) := by
  simp only [am_cF, am_core, am_issw, am_tg, am_kk_nx]
  rfl
theorem cF_istore_n (n : Fin 4) (tg : List Nat)  : am_cF hop rt (p, .istore_n n, 1, tg) = (p, af_sti n.val) := by
  simp only [am_cF, am_core, am_issw, am_tg, am_kk_nx]
  rfl
theorem cF_istore (n : Nat) (tg : List Nat)  : am_cF hop rt (p, .istore n, 2, tg) = (p, af_sti n) := by
  simp only [am_cF, am_core, am_issw, am_tg, am_kk_nx]
  rfl
theorem cF_lstore_n (n : Fin 4) (tg : List Nat)  : am_cF hop rt (p, .lstore_n n, 1, tg) = (p, af_stl n.val) := by
  simp only [am_cF, am_core, am_issw, am_tg, am_kk_nx]
  rfl
theorem cF_lstore (n : Nat) (tg : List Nat)  : am_cF hop rt (p, .lstore n, 2, tg) = (p, af_stl n) := by
  simp only [am_cF, am_core, am_issw, am_tg, am_kk_nx]
  rfl
theorem cF_astore_n (n : Fin 4) (tg : List Nat)  : am_cF hop rt (p, .astore_n n, 1, tg) = (p, af_sta n.val) := by
  simp only [am_cF, am_core, am_issw, am_tg, am_kk_nx]
  rfl
theorem cF_astore (n : Nat) (tg : List Nat)  : am_cF hop rt (p, .astore n, 2, tg) = (p, af_sta n) := by
  simp only [am_cF, am_core, am_issw, am_tg, am_kk_nx]
  rfl
theorem cF_iinc (n : Nat) (c : Int) (tg : List Nat)  : am_cF hop rt (p, .iinc n c, 3, tg) = (p, af_inc n c) := by
  simp only [am_cF, am_core, am_issw, am_tg, am_kk_nx]
  rfl
theorem cF_iadd  (tg : List Nat)  : am_cF hop rt (p, .iadd, 1, tg) = (p, af_iadd) := by
  simp only [am_cF, am_core, am_issw, am_tg, am_kk_nx]
  rfl
theorem cF_isub  (tg : List Nat)  : am_cF hop rt (p, .isub, 1, tg) = (p, af_isub) := by
  simp only [am_cF, am_core, am_issw, am_tg, am_kk_nx]
  rfl
theorem cF_imul  (tg : List Nat)  : am_cF hop rt (p, .imul, 1, tg) = (p, af_imul) := by
  simp only [am_cF, am_core, am_issw, am_tg, am_kk_nx]
  rfl
theorem cF_iand  (tg : List Nat)  : am_cF hop rt (p, .iand, 1, tg) = (p, af_iand) := by
  simp only [am_cF, am_core, am_issw, am_tg, am_kk_nx]
  rfl
theorem cF_ior  (tg : List Nat)  : am_cF hop rt (p, .ior, 1, tg) = (p, af_ior) := by
  simp only [am_cF, am_core, am_issw, am_tg, am_kk_nx]
  rfl
theorem cF_ixor  (tg : List Nat)  : am_cF hop rt (p, .ixor, 1, tg) = (p, af_ixor) := by
  simp only [am_cF, am_core, am_issw, am_tg, am_kk_nx]
  rfl
theorem cF_ishl  (tg : List Nat)  : am_cF hop rt (p, .ishl, 1, tg) = (p, af_ishl) := by
  simp only [am_cF, am_core, am_issw, am_tg, am_kk_nx]
  rfl
theorem cF_ishr  (tg : List Nat)  : am_cF hop rt (p, .ishr, 1, tg) = (p, af_ishr) := by
  simp only [am_cF, am_core, am_issw, am_tg, am_kk_nx]
  rfl
theorem cF_idiv  (tg : List Nat)  : am_cF hop rt (p, .idiv, 1, tg) = (p, af_idiv) := by
  simp only [am_cF, am_core, am_issw, am_tg, am_kk_nx]
  rfl
theorem cF_irem  (tg : List Nat)  : am_cF hop rt (p, .irem, 1, tg) = (p, af_irem) := by
  simp only [am_cF, am_core, am_issw, am_tg, am_kk_nx]
  rfl
theorem cF_ladd  (tg : List Nat)  : am_cF hop rt (p, .ladd, 1, tg) = (p, af_ladd) := by
  simp only [am_cF, am_core, am_issw, am_tg, am_kk_nx]
  rfl
theorem cF_lsub  (tg : List Nat)  : am_cF hop rt (p, .lsub, 1, tg) = (p, af_lsub) := by
  simp only [am_cF, am_core, am_issw, am_tg, am_kk_nx]
  rfl
theorem cF_lmul  (tg : List Nat)  : am_cF hop rt (p, .lmul, 1, tg) = (p, af_lmul) := by
  simp only [am_cF, am_core, am_issw, am_tg, am_kk_nx]
  rfl
theorem cF_land  (tg : List Nat)  : am_cF hop rt (p, .land, 1, tg) = (p, af_land) := by
  simp only [am_cF, am_core, am_issw, am_tg, am_kk_nx]
  rfl
theorem cF_lor  (tg : List Nat)  : am_cF hop rt (p, .lor, 1, tg) = (p, af_lor) := by
  simp only [am_cF, am_core, am_issw, am_tg, am_kk_nx]
  rfl
theorem cF_ldiv  (tg : List Nat)  : am_cF hop rt (p, .ldiv, 1, tg) = (p, af_ldiv) := by
  simp only [am_cF, am_core, am_issw, am_tg, am_kk_nx]
  rfl
theorem cF_lrem  (tg : List Nat)  : am_cF hop rt (p, .lrem, 1, tg) = (p, af_lrem) := by
  simp only [am_cF, am_core, am_issw, am_tg, am_kk_nx]
  rfl
theorem cF_lshl  (tg : List Nat)  : am_cF hop rt (p, .lshl, 1, tg) = (p, af_lshl) := by
  simp only [am_cF, am_core, am_issw, am_tg, am_kk_nx]
  rfl
theorem cF_lcmp  (tg : List Nat)  : am_cF hop rt (p, .lcmp, 1, tg) = (p, af_lcmp) := by
  simp only [am_cF, am_core, am_issw, am_tg, am_kk_nx]
  rfl
theorem cF_i2l  (tg : List Nat)  : am_cF hop rt (p, .i2l, 1, tg) = (p, af_i2l) := by
  simp only [am_cF, am_core, am_issw, am_tg, am_kk_nx]
  rfl
theorem cF_i2b  (tg : List Nat)  : am_cF hop rt (p, .i2b, 1, tg) = (p, af_i2b) := by
  simp only [am_cF, am_core, am_issw, am_tg, am_kk_nx]
  rfl
theorem cF_i2c  (tg : List Nat)  : am_cF hop rt (p, .i2c, 1, tg) = (p, af_i2c) := by
  simp only [am_cF, am_core, am_issw, am_tg, am_kk_nx]
  rfl
theorem cF_dup  (tg : List Nat)  : am_cF hop rt (p, .dup, 1, tg) = (p, af_dup) := by
  simp only [am_cF, am_core, am_issw, am_tg, am_kk_nx]
  rfl
theorem cF_pop  (tg : List Nat)  : am_cF hop rt (p, .pop, 1, tg) = (p, af_pop) := by
  simp only [am_cF, am_core, am_issw, am_tg, am_kk_nx]
  rfl
theorem cF_dup2  (tg : List Nat)  : am_cF hop rt (p, .dup2, 1, tg) = (p, af_dup2) := by
  simp only [am_cF, am_core, am_issw, am_tg, am_kk_nx]
  rfl
theorem cF_ifCond_f (c : Jvm.ClassFile.Cond) (d : Int) {t : Nat} (h1 : Nat.beq t (p + 3) = false) (h2 : Nat.ble t p = false) : am_cF hop rt (p, .ifCond c d, 3, [t]) = (p, af_iff c t) := by
  simp only [am_cF, am_core, am_issw, am_tg, am_kk_nx, am_kk_f _ _ _ _ h1 h2]
  rfl
theorem cF_if_icmp_f (c : Jvm.ClassFile.Cond) (d : Int) {t : Nat} (h1 : Nat.beq t (p + 3) = false) (h2 : Nat.ble t p = false) : am_cF hop rt (p, .if_icmp c d, 3, [t]) = (p, af_iif c t) := by
  simp only [am_cF, am_core, am_issw, am_tg, am_kk_nx, am_kk_f _ _ _ _ h1 h2]
  rfl
theorem cF_goto_f (d : Int) {t : Nat} (h1 : Nat.beq t (p + 3) = false) (h2 : Nat.ble t p = false) : am_cF hop rt (p, .goto d, 3, [t]) = (p, af_gof t) := by
  simp only [am_cF, am_core, am_issw, am_tg, am_kk_nx, am_kk_f _ _ _ _ h1 h2]
  rfl
theorem cF_ifnull_f (d : Int) {t : Nat} (h1 : Nat.beq t (p + 3) = false) (h2 : Nat.ble t p = false) : am_cF hop rt (p, .ifnull d, 3, [t]) = (p, af_nnf t) := by
  simp only [am_cF, am_core, am_issw, am_tg, am_kk_nx, am_kk_f _ _ _ _ h1 h2]
  rfl
theorem cF_ifnonnull_f (d : Int) {t : Nat} (h1 : Nat.beq t (p + 3) = false) (h2 : Nat.ble t p = false) : am_cF hop rt (p, .ifnonnull d, 3, [t]) = (p, af_nzf t) := by
  simp only [am_cF, am_core, am_issw, am_tg, am_kk_nx, am_kk_f _ _ _ _ h1 h2]
  rfl
theorem cF_ifCond_b (c : Jvm.ClassFile.Cond) (d : Int) {t : Nat} (h1 : Nat.beq t (p + 3) = false) (h2 : Nat.ble t p = true) : am_cF hop rt (p, .ifCond c d, 3, [t]) = (p, af_ifb c t) := by
  simp only [am_cF, am_core, am_issw, am_tg, am_kk_nx, am_kk_b _ _ _ _ h1 h2]
  rfl
theorem cF_if_icmp_b (c : Jvm.ClassFile.Cond) (d : Int) {t : Nat} (h1 : Nat.beq t (p + 3) = false) (h2 : Nat.ble t p = true) : am_cF hop rt (p, .if_icmp c d, 3, [t]) = (p, af_iib c t) := by
  simp only [am_cF, am_core, am_issw, am_tg, am_kk_nx, am_kk_b _ _ _ _ h1 h2]
  rfl
theorem cF_goto_b (d : Int) {t : Nat} (h1 : Nat.beq t (p + 3) = false) (h2 : Nat.ble t p = true) : am_cF hop rt (p, .goto d, 3, [t]) = (p, af_gob t) := by
  simp only [am_cF, am_core, am_issw, am_tg, am_kk_nx, am_kk_b _ _ _ _ h1 h2]
  rfl
theorem cF_ifnull_b (d : Int) {t : Nat} (h1 : Nat.beq t (p + 3) = false) (h2 : Nat.ble t p = true) : am_cF hop rt (p, .ifnull d, 3, [t]) = (p, af_nnb t) := by
  simp only [am_cF, am_core, am_issw, am_tg, am_kk_nx, am_kk_b _ _ _ _ h1 h2]
  rfl
theorem cF_ifnonnull_b (d : Int) {t : Nat} (h1 : Nat.beq t (p + 3) = false) (h2 : Nat.ble t p = true) : am_cF hop rt (p, .ifnonnull d, 3, [t]) = (p, af_nzb t) := by
  simp only [am_cF, am_core, am_issw, am_tg, am_kk_nx, am_kk_b _ _ _ _ h1 h2]
  rfl
theorem cF_ireturn  (tg : List Nat)  : am_cF hop rt (p, .ireturn, 1, tg) = (p, af_ri rt) := by
  simp only [am_cF, am_core, am_issw, am_tg, am_kk_nx]
  rfl
theorem cF_lreturn  (tg : List Nat)  : am_cF hop rt (p, .lreturn, 1, tg) = (p, af_rl rt) := by
  simp only [am_cF, am_core, am_issw, am_tg, am_kk_nx]
  rfl
theorem cF_areturn  (tg : List Nat)  : am_cF hop rt (p, .areturn, 1, tg) = (p, af_ra rt) := by
  simp only [am_cF, am_core, am_issw, am_tg, am_kk_nx]
  rfl
theorem cF_return_  (tg : List Nat)  : am_cF hop rt (p, .return_, 1, tg) = (p, af_rv rt) := by
  simp only [am_cF, am_core, am_issw, am_tg, am_kk_nx]
  rfl
theorem cF_tableswitch (d0 lo hi : Int) (os : Array Int) (len d : Nat) (ts : List Nat) (h : (d :: ts).all (fun t => Nat.blt p t) = true) : am_cF hop rt (p, .tableswitch d0 lo hi os, len, d :: ts) = (p, af_sw lo.toNat d ts) := by
  have hk : ∀ (np : Nat) (nx : am_L → List am_V → S → am_R S) (jp bk : Nat → am_L → List am_V → S → am_R S) (s : S), am_kk np p true nx jp bk s = fun q ls st => jp q ls st s := by
    intro np nx jp bk s
    funext q ls st
    rfl
  simp only [am_cF, am_core, am_issw, h, hk]
  rfl
theorem am_mc {α β : Type} {f : α → β} {a : α} {b : β} {l : List α} {m : List β} (h : f a = b) (hl : l.map f = m) : (a :: l).map f = b :: m := by
  rw [List.map_cons, h, hl]
theorem am_mn {α β : Type} {f : α → β} : ([] : List α).map f = [] := rfl
theorem am_r2_of {hop : Instr → List am_V → S → (Nat → S → am_R S) → (List am_V → S → am_R S) → am_R S} {rt : Option FieldType} {back : Nat → am_L → List am_V → S → am_R S} {code : am_C} {g : am_G S} (hseq : am_seq code = true) (hg : code.map (am_cF hop rt) = g) (h0 : ∃ i len tg is, code = (0, i, len, tg) :: is) {ls : am_L} {st : List am_V} {s : S} : am_rs hop am_no rt back code 0 ls st s = (am_r2 back g).1 ls st s := by
  obtain ⟨i, len, tg, is, h0⟩ := h0
  rw [← hg, (am_r2_ok hop rt back code hseq).2 _ _ _ _ _ h0]
theorem am_bk_of {hop : Instr → List am_V → S → (Nat → S → am_R S) → (List am_V → S → am_R S) → am_R S} {rt : Option FieldType} {code : am_C} {g : am_G S} (hseq : am_seq code = true) (hg : code.map (am_cF hop rt) = g) {n q : Nat} {ls : am_L} {st : List am_V} {s : S} : am_bk hop am_no rt code (n + 1) q ls st s = (am_r2 (am_bk hop am_no rt code n) g).2 q ls st s := by
  rw [am_bk, ← hg, (am_r2_ok hop rt _ code hseq).1]
end
