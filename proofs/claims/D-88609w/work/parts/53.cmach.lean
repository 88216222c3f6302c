/-! THE COMPONENT's MACHINE: its state by numbers; nodes are trees, lists of nodes are lists. Cells: 0 the object; 100 + j what its field j refers to; Words w: its row w + 20, its Endless w + 40; a row of counts: the tree .inner i 50; a list that was made: .inner n 52, as a list 400 + n. -/
/-- ints; int, byte, boolean arrays; rows of counts; lists; their room and modCount; the path; the lists made (1: ready); cells and slots made -/
abbrev cs_S : Type := (Nat → Int32) × (Nat → Nat → Int32) × (Nat → Nat → Int64) × (Nat → List Tr) × (Nat → Nat × Int32) × (Nat → Tr) × List Nat × Nat × Nat
abbrev cs_bt : Type := Nat → am_L → List am_V → cs_S → am_R cs_S
abbrev cs_ct : Type := Nat → List am_V → cs_S → am_R cs_S
abbrev cs_ft : Type := List am_V → cs_S → (Nat → cs_S → am_R cs_S) → (List am_V → cs_S → am_R cs_S) → am_R cs_S
def cs_i (s : cs_S) (j : Nat) : Int32 := s.1 j
def cs_a (s : cs_S) (c j : Nat) : Int32 := s.2.1 c j
def cs_l (s : cs_S) (r j : Nat) : Int64 := s.2.2.1 r j
def cs_t (s : cs_S) (c : Nat) : List Tr := s.2.2.2.1 c
def cs_c (s : cs_S) (c : Nat) : Nat × Int32 := s.2.2.2.2.1 c
def cs_p (s : cs_S) (j : Nat) : Tr := s.2.2.2.2.2.1 j
def cs_y (s : cs_S) : List Nat := s.2.2.2.2.2.2.1
def cs_n1 (s : cs_S) : Nat := s.2.2.2.2.2.2.2.1
def cs_n2 (s : cs_S) : Nat := s.2.2.2.2.2.2.2.2
def cs_pi (s : cs_S) (j : Nat) (v : Int32) : cs_S := (va_up s.1 j v, s.2)
def cs_pf (s : cs_S) (c : Nat) (f : Nat → Int32) : cs_S := (s.1, va_up s.2.1 c f, s.2.2)
def cs_pa (s : cs_S) (c j : Nat) (v : Int32) : cs_S := cs_pf s c (upd (s.2.1 c) j v)
def cs_pl (s : cs_S) (r j : Nat) (v : Int64) : cs_S := (s.1, s.2.1, va_up s.2.2.1 r (vp_updL (s.2.2.1 r) j v), s.2.2.2)
def cs_pt (s : cs_S) (c : Nat) (l : List Tr) (q : Nat × Int32) : cs_S := (s.1, s.2.1, s.2.2.1, va_up s.2.2.2.1 c l, va_up s.2.2.2.2.1 c q, s.2.2.2.2.2)
def cs_pp (s : cs_S) (j : Nat) (t : Tr) : cs_S := (s.1, s.2.1, s.2.2.1, s.2.2.2.1, s.2.2.2.2.1, va_up s.2.2.2.2.2.1 j t, s.2.2.2.2.2.2)
def cs_py (s : cs_S) (y : List Nat) : cs_S := (s.1, s.2.1, s.2.2.1, s.2.2.2.1, s.2.2.2.2.1, s.2.2.2.2.2.1, y, s.2.2.2.2.2.2.2)
def cs_mk (s : cs_S) (a b : Nat) : cs_S := (s.1, s.2.1, s.2.2.1, s.2.2.2.1, s.2.2.2.2.1, s.2.2.2.2.2.1, s.2.2.2.2.2.2.1, s.2.2.2.2.2.2.2.1 + a, s.2.2.2.2.2.2.2.2 + b)
def tr_nd : Tr → Bool
  | .leaf => false
  | .inner _ k _ _ _ => Nat.ble k 9
def tr_in (lo hi : Nat) : Tr → Bool
  | .leaf => false
  | .inner _ k _ _ _ => Nat.ble lo k && Nat.ble k hi
/-- Words, lists that stand -/
def cs_isW (w : Nat) : Bool := Nat.beq w 103 || Nat.beq w 104
def cs_isL (w : Nat) : Bool := Nat.beq w 100 || Nat.beq w 106
/-- the object's int fields -/
def cs_isI (j : Nat) : Bool := Nat.beq j 1 || Nat.beq j 9 || Nat.beq j 11 || Nat.beq j 12 || Nat.beq j 13 || Nat.beq j 17
/-- arrays: length, kind (0 int, 1 boolean, 3 byte) -/
def cs_A : List (Nat × Nat × Nat) := [(102, 8, 0), (107, 6, 0), (108, 20, 3), (114, 20, 3), (116, 41, 1), (123, 80, 3), (124, 80, 3)]
/-! fields -/
def cs_g_i (j : Nat) : cs_ft := fun st s kx k => match st with
  | .inl (.ref 0) :: r => k (.inl (.int (cs_i s j)) :: r) s
  | _ => none
def cs_g_r (j : Nat) : cs_ft := fun st s kx k => match st with
  | .inl (.ref 0) :: r => k (.inl (.ref (100 + j)) :: r) s
  | _ => none
def cs_g_at : cs_ft := fun st s kx k => match st with
  | .inl (.ref w) :: r => bif cs_isW w then k (.inl (.ref (w + 20)) :: r) s else none
  | _ => none
def cs_g_sz : cs_ft := fun st s kx k => match st with
  | .inl (.ref w) :: r => bif cs_isW w then k (.inl (.int (cs_i s w)) :: r) s else none
  | _ => none
def cs_g_en : cs_ft := fun st s kx k => match st with
  | .inl (.ref w) :: r => bif cs_isW w then k (.inl (.ref (w + 40)) :: r) s else none
  | _ => none
def cs_g_m (j : Nat) : cs_ft := fun st s kx k => match st with
  | .inl (.ref w) :: r => bif Nat.beq w 105 then k (.inl (.int (cs_i s j)) :: r) s else none
  | _ => none
def cs_g_n (f : Tr → Nat) : cs_ft := fun st s kx k => match st with
  | .inr t :: r => bif tr_nd t then k (.inl (.int (nI (f t))) :: r) s else none
  | _ => none
def cs_g_v (lo hi : Nat) : cs_ft := fun st s kx k => match st with
  | .inr t :: r => bif tr_in lo hi t then k (.inl (.int (nI (tr_v t))) :: r) s else none
  | _ => none
def cs_g_t (lo hi : Nat) (f : Tr → Tr) : cs_ft := fun st s kx k => match st with
  | .inr t :: r => bif tr_in lo hi t then k (.inr (f t) :: r) s else none
  | _ => none
def cs_no : cs_ft := fun _ _ _ _ => none
def cs_getf (fc : Nat) : cs_ft := match fc with
  | 20 => cs_g_at
  | 21 => cs_g_sz
  | 22 => cs_g_en
  | 30 => cs_g_m 105
  | 31 => cs_g_m 125
  | 40 => cs_g_n tr_n
  | 41 => cs_g_n tr_k
  | 42 => cs_g_n tr_sz
  | 43 => cs_g_n tr_dp
  | 44 => cs_g_v 0 1
  | 45 => cs_g_t 2 6 tr_x
  | 46 => cs_g_t 2 6 tr_y
  | 47 => cs_g_t 7 9 tr_x
  | 48 => cs_g_v 9 9
  | j => bif Nat.ble 19 j then cs_no else bif cs_isI j then cs_g_i j else cs_g_r j
def cs_s_i (j : Nat) : cs_ft := fun st s kx k => match st with
  | .inl (.int v) :: .inl (.ref 0) :: r => k r (cs_pi s j v)
  | _ => none
def cs_s_sz : cs_ft := fun st s kx k => match st with
  | .inl (.int v) :: .inl (.ref w) :: r => bif cs_isW w then k r (cs_pi s w v) else none
  | _ => none
def cs_s_m (j : Nat) : cs_ft := fun st s kx k => match st with
  | .inl (.int v) :: .inl (.ref w) :: r => bif Nat.beq w 105 then k r (cs_pi s j v) else none
  | _ => none
def cs_putf (fc : Nat) : cs_ft := match fc with
  | 21 => cs_s_sz
  | 30 => cs_s_m 105
  | 31 => cs_s_m 125
  | j => bif cs_isI j then cs_s_i j else cs_no
/-! arrays -/
def cs_ix (c : Nat) (b : Bool) (i : Int32) (k : Nat → am_R cs_S) : am_R cs_S := match am_lk cs_A c with
  | some (n, 0) => bif b then none else am_ix i n k
  | some (n, _) => bif b then am_ix i n k else none
  | none => none
def cs_nar (c : Nat) (v : Int32) : Int32 := match am_lk cs_A c with
  | some (_, 1) => v &&& 1
  | some (_, 3) => v.toInt8.toInt32
  | _ => v
def cs_ld (b : Bool) : cs_ft := fun st s kx k => match st with
  | .inl (.int i) :: .inl (.ref c) :: r => cs_ix c b i fun j => k (.inl (.int (cs_a s c j)) :: r) s
  | _ => none
def cs_st (b : Bool) : cs_ft := fun st s kx k => match st with
  | .inl (.int v) :: .inl (.int i) :: .inl (.ref c) :: r => cs_ix c b i fun j => k r (cs_pa s c j (cs_nar c v))
  | _ => none
def cs_aal : cs_ft := fun st s kx k => match st with
  | .inl (.int i) :: .inl (.ref c) :: r => bif Nat.beq c 115 then am_ix i 41 fun j => k (.inr (cs_p s j) :: r) s
    else bif Nat.beq c 110 then am_ix i 21 fun j => k (.inr (.inner j 50 0 .leaf .leaf) :: r) s else none
  | _ => none
def cs_aas : cs_ft := fun st s kx k => match st with
  | .inr t :: .inl (.int i) :: .inl (.ref c) :: r => bif Nat.beq c 115 && tr_nd t then am_ix i 41 fun j => k r (cs_pp s j t) else none
  | _ => none
def cs_lal : cs_ft := fun st s kx k => match st with
  | .inl (.int i) :: .inr (.inner q 50 _ _ _) :: r => am_ix i 21 fun j => k (.inl (.long (cs_l s q j)) :: r) s
  | _ => none
def cs_las : cs_ft := fun st s kx k => match st with
  | .inl (.long v) :: .inl (.int i) :: .inr (.inner q 50 _ _ _) :: r => am_ix i 21 fun j => k r (cs_pl s q j v)
  | _ => none
/-! others -/
def cs_cast : cs_ft := fun st s kx k => match st with
  | .inr t :: r => bif tr_nd t then k (.inr t :: r) s else none
  | _ => none
def cs_new : cs_ft := fun st s kx k => bif Nat.ble (cs_y s).length 500 then k (.inr (.inner (cs_y s).length 52 0 .leaf .leaf) :: st) (cs_mk (cs_py s (cs_y s ++ [0])) 1 3) else none
def cs_isX (x : Nat) : Bool := Nat.beq x 143 || Nat.beq x 144
def cs_thr : cs_ft := fun st s kx k => match st with
  | .inl (.ref x) :: _ => bif cs_isX x then kx x s else none
  | _ => none
def cs_long (v : Int64) : cs_ft := fun st s kx k => k (.inl (.long v) :: st) s
/-- bytes are copied, if they are there -/
def cs_cp (c0 : Nat) (sp : Int32) (c1 : Nat) (dp n : Int32) (s : cs_S) (k : cs_S → am_R cs_S) : am_R cs_S := match am_lk cs_A c0, am_lk cs_A c1 with
  | some (n0, 3), some (n1, 3) => if sp < 0 ∨ dp < 0 ∨ n < 0 ∨ n0 < sp.toNatClampNeg + n.toNatClampNeg ∨ n1 < dp.toNatClampNeg + n.toNatClampNeg ∨ c0 = c1 then none else k (cs_pf s c1 (va_cpy (s.2.1 c0) (s.2.1 c1) sp.toNatClampNeg dp.toNatClampNeg n.toNatClampNeg))
  | _, _ => none
def cs_copy : cs_ft := fun st s kx k => match st with
  | .inl (.int n) :: .inl (.int dp) :: .inl (.ref c1) :: .inl (.int sp) :: .inl (.ref c0) :: r => bif Nat.ble (am_wt r) 8 then cs_cp c0 sp c1 dp n s fun s => k r s else none
  | _ => none
def cs_minl : cs_ft := fun st s kx k => match st with
  | .inl (.long y) :: .inl (.long x) :: r => bif Nat.ble (am_wt r) 8 then k (.inl (.long (if y < x then y else x)) :: r) s else none
  | _ => none
def cs_maxl : cs_ft := fun st s kx k => match st with
  | .inl (.long y) :: .inl (.long x) :: r => bif Nat.ble (am_wt r) 8 then k (.inl (.long (if y < x then x else y)) :: r) s else none
  | _ => none
def cs_mini : cs_ft := fun st s kx k => match st with
  | .inl (.int y) :: .inl (.int x) :: r => bif Nat.ble (am_wt r) 8 then k (.inl (.int (if y < x then y else x)) :: r) s else none
  | _ => none
/-! calls: so many arguments; the receiver must be one of a class (0: none asked, 1: the object, 2: Words, 3: Manner, 4: a list) -/
def cs_rc (m : Nat) (as : List am_V) : Bool := match m with
  | 0 => true
  | 1 => (match as with | .inl (.ref c) :: _ => Nat.beq c 0 | _ => false)
  | 2 => (match as with | .inl (.ref c) :: _ => cs_isW c | _ => false)
  | 3 => (match as with | .inl (.ref c) :: _ => Nat.beq c 105 | _ => false)
  | 4 => (match as with | .inl (.ref c) :: _ => cs_isL c | .inr (.inner _ 52 _ _ _) :: _ => true | _ => false)
  | _ => false
def cs_cl (call : cs_ct) (m mt n rk : Nat) : cs_ft := fun st s kx k => am_tk n st [] fun as r => bif Nat.ble (am_wt r) 8 && cs_rc m as then am_cr rk (call mt as s) kx k r else none
/-- what a node's class selects: by the kind -/
def cs_sel (ms : List Nat) (k : Nat) : Nat := ms.getD k 0
def cs_vt (call : cs_ct) (ms : List Nat) (n rk : Nat) : cs_ft := fun st s kx k => am_tk n st [] fun as r => match as with
  | .inr t :: _ => bif Nat.ble (am_wt r) 8 && tr_nd t then am_cr rk (call (cs_sel ms (tr_k t)) as s) kx k r else none
  | _ => none
/-- a superclass's method, on a node of these kinds -/
def cs_su (call : cs_ct) (lo hi mt n rk : Nat) : cs_ft := fun st s kx k => am_tk n st [] fun as r => match as with
  | .inr t :: _ => bif Nat.ble (am_wt r) 8 && tr_in lo hi t then am_cr rk (call mt as s) kx k r else none
  | _ => none
/-! what isn't run by the machine: lists, new nodes -/
def cs_lid (s : cs_S) (v : am_V) (k : Nat → am_R cs_S) : am_R cs_S := match v with
  | .inl (.ref c) => bif cs_isL c then k c else none
  | .inr (.inner n 52 _ _ _) => (match (cs_y s)[n]? with
    | some 1 => k (400 + n)
    | _ => none)
  | _ => none
def cs_cap (n : Nat) : Nat := if n = 0 then 10 else n + n / 2
def cs_add (s : cs_S) (c : Nat) (t : Tr) : cs_S := if (cs_t s c).length < (cs_c s c).1 then cs_pt s c (cs_t s c ++ [t]) ((cs_c s c).1, (cs_c s c).2 + 1)
  else cs_mk (cs_pt s c (cs_t s c ++ [t]) (cs_cap (cs_c s c).1, (cs_c s c).2 + 1)) 1 (cs_cap (cs_c s c).1)
def cs_made (n k v : Int32) (x y : Tr) : Option Tr :=
  if n < 0 then none
  else if k = 0 ∨ k = 1 then (if v < 0 then none else bif tr_lf x && tr_lf y then some (.inner n.toNatClampNeg k.toNatClampNeg v.toNatClampNeg .leaf .leaf) else none)
  else if 2 ≤ k ∧ k ≤ 6 then (bif tr_nd x && tr_nd y && Nat.ble (tr_dp x) 1000 && Nat.ble (tr_dp y) 1000 then some (.inner n.toNatClampNeg k.toNatClampNeg 0 x y) else none)
  else if k = 7 ∨ k = 8 then (bif tr_nd x && tr_lf y then some (.inner n.toNatClampNeg k.toNatClampNeg 0 x .leaf) else none)
  else if k = 9 then (if v < 0 then none else bif tr_nd x && tr_lf y then some (.inner n.toNatClampNeg 9 v.toNatClampNeg x .leaf) else none)
  else none
/-- a node's fields -/
def cs_nf (k : Nat) : Nat := if 2 ≤ k ∧ k ≤ 6 ∨ k = 9 then 6 else 5
def cs_prim (f mt : Nat) (as : List am_V) (s : cs_S) : am_R cs_S := bif Nat.ble 9 f then (match mt, as with
  | 200, [v] => cs_lid s v fun c => some (.inl (some (.inl (.int (nI (cs_t s c).length)))), s)
  | 201, [v, .inl (.int i)] => cs_lid s v fun c => am_ix i (cs_t s c).length fun j => some (.inl (some (.inr ((cs_t s c).getD j .leaf))), s)
  | 202, [v, .inr t] => cs_lid s v fun c => bif tr_nd t && Nat.ble (cs_c s c).1 40000 then some (.inl (some (.inl (.int 1))), cs_add s c t) else none
  | 203, [v, .inl (.int i)] => cs_lid s v fun c => (match cs_t s c with
    | [] => none
    | x :: l => if i = nI l.length then some (.inl (some (.inr ((x :: l).getD l.length .leaf))), cs_pt s c (x :: l).dropLast ((cs_c s c).1, (cs_c s c).2 + 1)) else none)
  | 204, [.inr (.inner n 52 _ _ _)] => (match (cs_y s)[n]? with
    | some 0 => some (.inl none, cs_pt (cs_py s ((cs_y s).set n 1)) (400 + n) [] (0, 0))
    | _ => none)
  | 205, [.inl (.int n), .inl (.int k), .inr x, .inr y, .inl (.int v)] => (match cs_made n k v x y with
    | some t => some (.inl (some (.inr t)), cs_mk s 1 (cs_nf (tr_k t)))
    | none => none)
  | _, _ => none) else none
