/-! THE ABSTRACT MACHINE: a pure interpreter of decoded bytecode. Values: Value (+) tree (a node of the page is a tree value; 'leaf' is null); 'ref k' with a small k: the fixed cell of the number k. What touches the heap, and calls, are a parameter ('hop'). -/
/-- a node as a value: its number, kind, value, first, second; 'leaf' is null -/
abbrev Tr : Type := Std.DTreeMap.Internal.Impl Nat (fun _ => Nat)
def tr_lf : Tr → Bool
  | .leaf => true
  | .inner _ _ _ _ _ => false
abbrev am_V : Type := Value ⊕ Tr
abbrev am_L : Type := List (Option am_V)
abbrev am_O : Type := Option am_V ⊕ Nat
abbrev am_R (S : Type) : Type := Option (am_O × S)
/-- a method's code: place, instruction, length, where its jumps go (a switch: its default first) -/
abbrev am_C : Type := List (Nat × Instr × Nat × List Nat)
def ic (n : Int) : Int32 := Int32.ofInt n
section
variable {S α : Type}
/-- behind a call that answers an int, a long, a node, a fixed cell, nothing -/
def am_ci (r : am_R S) (kx : Nat → S → am_R S) (k : Int32 → S → am_R S) : am_R S := match r with
  | some (.inl (some (.inl (.int x))), s) => k x s
  | some (.inr x, s) => kx x s
  | _ => none
def am_cl (r : am_R S) (kx : Nat → S → am_R S) (k : Int64 → S → am_R S) : am_R S := match r with
  | some (.inl (some (.inl (.long x))), s) => k x s
  | some (.inr x, s) => kx x s
  | _ => none
def am_ct (r : am_R S) (kx : Nat → S → am_R S) (k : Tr → S → am_R S) : am_R S := match r with
  | some (.inl (some (.inr x)), s) => k x s
  | some (.inr x, s) => kx x s
  | _ => none
def am_cv (r : am_R S) (kx : Nat → S → am_R S) (k : S → am_R S) : am_R S := match r with
  | some (.inl none, s) => k s
  | some (.inr x, s) => kx x s
  | _ => none
def am_tx (x : Nat) (s : S) : am_R S := some (.inr x, s)
/-- a place in an array of n -/
def am_ix (i : Int32) (n : Nat) (k : Nat → Option α) : Option α := if i < 0 ∨ n ≤ i.toNatClampNeg then none else k i.toNatClampNeg
def am_dz (y : Int32) (k : Option α) : Option α := if y = 0 then none else k
def am_dzl (y : Int64) (k : Option α) : Option α := if y = 0 then none else k
def am_i1 (st : List am_V) (k : Int32 → List am_V → Option α) : Option α := match st with
  | .inl (.int x) :: r => k x r
  | _ => none
def am_i2 (st : List am_V) (k : Int32 → Int32 → List am_V → Option α) : Option α := match st with
  | .inl (.int y) :: .inl (.int x) :: r => k x y r
  | _ => none
def am_l1 (st : List am_V) (k : Int64 → List am_V → Option α) : Option α := match st with
  | .inl (.long x) :: r => k x r
  | _ => none
def am_l2 (st : List am_V) (k : Int64 → Int64 → List am_V → Option α) : Option α := match st with
  | .inl (.long y) :: .inl (.long x) :: r => k x y r
  | _ => none
def am_il (st : List am_V) (k : Int64 → Int32 → List am_V → Option α) : Option α := match st with
  | .inl (.int y) :: .inl (.long x) :: r => k x y r
  | _ => none
/-- a reference: a fixed cell or a node -/
def am_a1 (st : List am_V) (k : am_V → List am_V → Option α) : Option α := match st with
  | .inl (.ref x) :: r => k (.inl (.ref x)) r
  | .inr t :: r => k (.inr t) r
  | _ => none
/-- anything of one word -/
def am_w1 (st : List am_V) (k : am_V → List am_V → Option α) : Option α := match st with
  | .inl (.ref x) :: r => k (.inl (.ref x)) r
  | .inl (.int x) :: r => k (.inl (.int x)) r
  | .inr t :: r => k (.inr t) r
  | _ => none
def am_ldi (ls : am_L) (i : Nat) (k : Int32 → Option α) : Option α := match ls[i]? with
  | some (some (.inl (.int x))) => k x
  | _ => none
def am_ldl (ls : am_L) (i : Nat) (k : Int64 → Option α) : Option α := match ls[i]? with
  | some (some (.inl (.long x))) => k x
  | _ => none
def am_lda (ls : am_L) (i : Nat) (k : am_V → Option α) : Option α := match ls[i]? with
  | some (some (.inl (.ref x))) => k (.inl (.ref x))
  | some (some (.inr t)) => k (.inr t)
  | _ => none
/-- what stood a place before, if it was a long, is gone -/
def am_nl (o : Option am_V) : Option am_V := match o with
  | some (.inl (.long _)) => none
  | o => o
def am_md : am_L → Nat → am_L
  | [], _ => []
  | o :: ls, 0 => am_nl o :: ls
  | o :: ls, j + 1 => o :: am_md ls j
def am_clr (ls : am_L) (i : Nat) : am_L := match i with
  | 0 => ls
  | j + 1 => am_md ls j
def am_set1 (ls : am_L) (i : Nat) (v : am_V) : am_L := (am_clr ls i).set i (some v)
def am_set2 (ls : am_L) (i : Nat) (v : am_V) : am_L := ((am_clr ls i).set i (some v)).set (i + 1) none
/-- there is such a local -/
def am_bd (ls : am_L) (i : Nat) (k : Option α) : Option α := match ls[i]? with
  | some _ => k
  | none => none
def am_cmp (c : Jvm.ClassFile.Cond) (x y : Int32) (a b : α) : α := match c with
  | .eq => if x = y then a else b
  | .ne => if x = y then b else a
  | .lt => if x < y then a else b
  | .ge => if y ≤ x then a else b
  | .gt => if y < x then a else b
  | .le => if x ≤ y then a else b
def am_tg (tg : List Nat) (k : Nat → Option α) : Option α := match tg with
  | t :: _ => k t
  | [] => none
def am_sw (x : Int32) (n : Nat) (d : Nat) (ts : List Nat) (k : Nat → Option α) : Option α := match ts with
  | [] => k d
  | t :: ts => if x = nI n then k t else am_sw x (n + 1) d ts k
def am_nul (v : am_V) (a b : Option α) : Option α := match v with
  | .inr t => bif tr_lf t then a else b
  | .inl (.ref _) => b
  | _ => none
def am_kri (rt : Option FieldType) (x : Int32) (kr : Option am_V → Option α) : Option α := match rt with
  | some .int => kr (some (.inl (.int x)))
  | some .boolean => kr (some (.inl (.int (x &&& 1))))
  | _ => none
def am_krl (rt : Option FieldType) (x : Int64) (kr : Option am_V → Option α) : Option α := match rt with
  | some .long => kr (some (.inl (.long x)))
  | _ => none
def am_kra (rt : Option FieldType) (v : am_V) (kr : Option am_V → Option α) : Option α := match rt with
  | some (.object _) => kr (some v)
  | _ => none
def am_krv (rt : Option FieldType) (kr : Option am_V → Option α) : Option α := match rt with
  | none => kr none
  | _ => none
def am_core (rt : Option FieldType) (i : Instr) (np : Nat) (tg : List Nat) (ls : am_L) (st : List am_V) (kh : Option α) (kr : Option am_V → Option α) (k : Nat → am_L → List am_V → Option α) : Option α := match i with
  | .iconst n => k np ls (.inl (.int (ic n)) :: st)
  | .bipush n => k np ls (.inl (.int (ic n)) :: st)
  | .sipush n => k np ls (.inl (.int (ic n)) :: st)
  | .lconst n => k np ls (.inl (.long (lN n.val)) :: st)
  | .aconst_null => k np ls (.inr .leaf :: st)
  | .iload_n n => am_ldi ls n.val fun x => k np ls (.inl (.int x) :: st)
  | .iload n => am_ldi ls n fun x => k np ls (.inl (.int x) :: st)
  | .lload_n n => am_ldl ls n.val fun x => k np ls (.inl (.long x) :: st)
  | .lload n => am_ldl ls n fun x => k np ls (.inl (.long x) :: st)
  | .aload_n n => am_lda ls n.val fun v => k np ls (v :: st)
  | .aload n => am_lda ls n fun v => k np ls (v :: st)
  | .istore_n n => am_i1 st fun x r => am_bd ls n.val (k np (am_set1 ls n.val (.inl (.int x))) r)
  | .istore n => am_i1 st fun x r => am_bd ls n (k np (am_set1 ls n (.inl (.int x))) r)
  | .lstore_n n => am_l1 st fun x r => am_bd ls (n.val + 1) (k np (am_set2 ls n.val (.inl (.long x))) r)
  | .lstore n => am_l1 st fun x r => am_bd ls (n + 1) (k np (am_set2 ls n (.inl (.long x))) r)
  | .astore_n n => am_a1 st fun v r => am_bd ls n.val (k np (am_set1 ls n.val v) r)
  | .astore n => am_a1 st fun v r => am_bd ls n (k np (am_set1 ls n v) r)
  | .iinc n d => am_ldi ls n fun x => k np (am_set1 ls n (.inl (.int (x + ic d)))) st
  | .iadd => am_i2 st fun x y r => k np ls (.inl (.int (x + y)) :: r)
  | .isub => am_i2 st fun x y r => k np ls (.inl (.int (x - y)) :: r)
  | .imul => am_i2 st fun x y r => k np ls (.inl (.int (x * y)) :: r)
  | .idiv => am_i2 st fun x y r => am_dz y (k np ls (.inl (.int (x / y)) :: r))
  | .irem => am_i2 st fun x y r => am_dz y (k np ls (.inl (.int (x - x / y * y)) :: r))
  | .iand => am_i2 st fun x y r => k np ls (.inl (.int (x &&& y)) :: r)
  | .ior => am_i2 st fun x y r => k np ls (.inl (.int (x ||| y)) :: r)
  | .ixor => am_i2 st fun x y r => k np ls (.inl (.int (x ^^^ y)) :: r)
  | .ishl => am_i2 st fun x y r => k np ls (.inl (.int (x <<< (y &&& 31))) :: r)
  | .ishr => am_i2 st fun x y r => k np ls (.inl (.int (x >>> (y &&& 31))) :: r)
  | .ladd => am_l2 st fun x y r => k np ls (.inl (.long (x + y)) :: r)
  | .lsub => am_l2 st fun x y r => k np ls (.inl (.long (x - y)) :: r)
  | .lmul => am_l2 st fun x y r => k np ls (.inl (.long (x * y)) :: r)
  | .ldiv => am_l2 st fun x y r => am_dzl y (k np ls (.inl (.long (x / y)) :: r))
  | .lrem => am_l2 st fun x y r => am_dzl y (k np ls (.inl (.long (x - x / y * y)) :: r))
  | .land => am_l2 st fun x y r => k np ls (.inl (.long (x &&& y)) :: r)
  | .lor => am_l2 st fun x y r => k np ls (.inl (.long (x ||| y)) :: r)
  | .lshl => am_il st fun x y r => k np ls (.inl (.long (x <<< (y.toInt64 &&& 63))) :: r)
  | .lcmp => am_l2 st fun x y r => k np ls (.inl (.int (lg_cmp x y)) :: r)
  | .i2l => am_i1 st fun x r => k np ls (.inl (.long x.toInt64) :: r)
  | .i2b => am_i1 st fun x r => k np ls (.inl (.int x.toInt8.toInt32) :: r)
  | .i2c => am_i1 st fun x r => k np ls (.inl (.int (x.toUInt32 % 65536).toInt32) :: r)
  | .dup => am_w1 st fun v r => k np ls (v :: v :: r)
  | .pop => am_w1 st fun _ r => k np ls r
  | .dup2 => am_w1 st fun v r => am_w1 r fun u r => k np ls (v :: u :: v :: u :: r)
  | .if_icmp c _ => am_i2 st fun x y r => am_tg tg fun t => am_cmp c x y (k t ls r) (k np ls r)
  | .ifCond c _ => am_i1 st fun x r => am_tg tg fun t => am_cmp c x 0 (k t ls r) (k np ls r)
  | .ifnull _ => am_a1 st fun v r => am_tg tg fun t => am_nul v (k t ls r) (k np ls r)
  | .ifnonnull _ => am_a1 st fun v r => am_tg tg fun t => am_nul v (k np ls r) (k t ls r)
  | .goto _ => am_tg tg fun t => k t ls st
  | .tableswitch _ lo _ _ => am_i1 st fun x r => (match tg with
    | d :: ts => am_sw x lo.toNat d ts fun t => k t ls r
    | [] => none)
  | .ireturn => am_i1 st fun x r => (match r with
    | [] => am_kri rt x kr
    | _ => none)
  | .lreturn => am_l1 st fun x r => (match r with
    | [] => am_krl rt x kr
    | _ => none)
  | .areturn => am_a1 st fun v r => (match r with
    | [] => am_kra rt v kr
    | _ => none)
  | .return_ => (match st with
    | [] => am_krv rt kr
    | _ => none)
  | _ => kh
/-- straight on; 'hd p': where an exception thrown at p goes on -/
def am_rs (hop : Instr → List am_V → S → (Nat → S → am_R S) → (List am_V → S → am_R S) → am_R S) (hd : Nat → Option Nat) (rt : Option FieldType) (back : Nat → am_L → List am_V → S → am_R S) : am_C → Nat → am_L → List am_V → S → am_R S
  | [], _, _, _, _ => none
  | (p, i, len, tg) :: is, pc, ls, st, s => bif Nat.beq p pc then
      am_core rt i (p + len) tg ls st
        (hop i st s (fun x s => match hd p with
          | some q => am_rs hop hd rt back is q ls [.inl (.ref x)] s
          | none => am_tx x s) (fun st s => am_rs hop hd rt back is (p + len) ls st s))
        (fun r => some (.inl r, s))
        (fun q ls st => bif Nat.ble q p then back q ls st s else am_rs hop hd rt back is q ls st s)
    else am_rs hop hd rt back is pc ls st s
/-- so many jumps back -/
def am_bk (hop : Instr → List am_V → S → (Nat → S → am_R S) → (List am_V → S → am_R S) → am_R S) (hd : Nat → Option Nat) (rt : Option FieldType) (code : am_C) : Nat → Nat → am_L → List am_V → S → am_R S
  | 0, _, _, _, _ => none
  | n + 1, q, ls, st, s => am_rs hop hd rt (am_bk hop hd rt code n) code q ls st s
/-- the locals at a method's entry -/
def am_lay : List am_V → am_L
  | [] => []
  | .inl (.long x) :: vs => some (.inl (.long x)) :: none :: am_lay vs
  | v :: vs => some v :: am_lay vs
def am_ent (vs : List am_V) (n : Nat) : am_L := am_lay vs ++ List.replicate (n - (am_lay vs).length) none
def am_lk : List (Nat × α) → Nat → Option α
  | [], _ => none
  | (i, a) :: l, j => bif Nat.beq i j then some a else am_lk l j
theorem am_lk_mem {l : List (Nat × α)} {j : Nat} {a : α} (h : am_lk l j = some a) : (j, a) ∈ l := by
  induction l with
  | nil => cases h
  | cons q l ih =>
    obtain ⟨i, b⟩ := q
    unfold am_lk at h
    cases e : Nat.beq i j with
    | true =>
      rw [e] at h
      have := Nat.eq_of_beq_eq_true e
      subst this
      cases h
      exact List.mem_cons_self
    | false =>
      rw [e] at h
      exact List.mem_cons_of_mem _ (ih h)
end
/-- an instruction's length is the one that it has; constants are as the machine pushes them -/
def am_lnok (i : Instr) (len : Nat) : Bool := match i with
  | .bipush n => len == 2 && decide ((Int8.ofInt n).toInt32 = ic n)
  | .sipush n => len == 3 && decide ((Int16.ofInt n).toInt32 = ic n)
  | .iload _ | .lload _ | .aload _ | .istore _ | .lstore _ | .astore _ => len == 2
  | .iinc _ _ | .if_icmp _ _ | .ifCond _ _ | .ifnull _ | .ifnonnull _ | .goto _ | .getfield _ | .putfield _ | .invokevirtual _ | .invokestatic _ | .invokespecial _ | .ldc2_w _ | .checkcast _ | .new _ | .instanceof _ | .getstatic _ | .anewarray _ => len == 3
  | .tableswitch _ _ _ _ => true
  | _ => len == 1
/-- its jumps go where the list says -/
def am_tgok (i : Instr) (p : Nat) (tg : List Nat) : Bool := match i with
  | .if_icmp _ o | .ifCond _ o | .ifnull o | .ifnonnull o | .goto o => (match tg with
    | [t] => (p : Int) + o == (t : Int)
    | _ => false)
  | .tableswitch d lo hi os => decide (0 ≤ lo) && decide (hi + 1 = lo + (os.size : Int)) && decide (hi < 1000) && ((d :: os.toList).map (fun o => (p : Int) + o) == tg.map (fun (t : Nat) => (t : Int)))
  | _ => true
def am_cok (cc : ByteArray) (q : Nat × Instr × Nat × List Nat) : Prop := decode cc q.1 = .ok (q.2.1, q.2.2.1) ∧ am_lnok q.2.1 q.2.2.1 = true ∧ am_tgok q.2.1 q.1 q.2.2.2 = true
