set_option maxRecDepth 100000
noncomputable def jX1_leaf_26 (back : cs_bt) (call : cs_ct) (s : cs_S) (v1 : Int32) (v2 : Int32) (ws0 : Int64) (ws1 : Int64) (ws2 : Int64) : am_R cs_S := (am_r2 back (gX1_leaf_26 call)).1 [some (.inl (.ref 0)), some (.inl (.int v1)), some (.inl (.int v2))] [.inl (.long ws0), .inl (.long ws1), .inl (.long ws2)] s
noncomputable def jX1_leaf_26_23 (back : cs_bt) (call : cs_ct) (s : cs_S) (v1 : Int32) (v2 : Int32) (ws0 : Int64) (ws1 : Int64) (ws2 : Int64) : am_R cs_S := (am_r2 back (gX1_leaf_23 call)).2 26 [some (.inl (.ref 0)), some (.inl (.int v1)), some (.inl (.int v2))] [.inl (.long ws0), .inl (.long ws1), .inl (.long ws2)] s
theorem jX1_leaf_26_23_eq (back : cs_bt) (call : cs_ct) (s : cs_S) (v1 : Int32) (v2 : Int32) (ws0 : Int64) (ws1 : Int64) (ws2 : Int64) : jX1_leaf_26_23 back call s v1 v2 ws0 ws1 ws2 = jX1_leaf_26 back call s v1 v2 ws0 ws1 ws2 := rfl
theorem jX1_leaf_26_eq (back : cs_bt) (call : cs_ct) (s : cs_S) (v1 : Int32) (v2 : Int32) (ws0 : Int64) (ws1 : Int64) (ws2 : Int64) : jX1_leaf_26 back call s v1 v2 ws0 ws1 ws2 =
  am_ci (call 2 [.inl (.long ws2), .inl (.long ws1), .inl (.long ws0)] s) am_tx fun r14 s13 =>
  if r14 = 0 then
    some (.inl (some (.inl (.int (ic (-1))))), s13)
  else
    am_ci (call 200 [.inl (.ref 100)] s13) am_tx fun r16 s15 =>
    if r16 = (ic 120) then
      some (.inl (some (.inl (.int (ic (-2))))), s15)
    else
      am_ci (call 200 [.inl (.ref 100)] s15) am_tx fun r18 s17 =>
      am_ct (call 205 [.inl (.int r18), .inl (.int v1), .inr .leaf, .inr .leaf, .inl (.int v2)] s17) am_tx fun r20 s19 =>
      am_ci (call 3 [.inl (.ref 0), .inr r20] s19) am_tx fun r22 s21 =>
      some (.inl (some (.inl (.int r22))), s21) := rfl
noncomputable def dX1_leaf (back : cs_bt) (call : cs_ct) (s : cs_S) (x1 : Int32) (x2 : Int32) : am_R cs_S :=
  am_ci (call 2 [.inl (.long x1.toInt64), .inl (.long (lN 0)), .inl (.long (lN 1))] s) am_tx fun r24 s23 =>
  if r24 = 0 then
    some (.inl (some (.inl (.int (ic (-1))))), s23)
  else
    if x1 = 0 then
      jX1_leaf_26_23 back call s23 x1 x2 (9) (lN 0) x2.toInt64
    else
      jX1_leaf_26 back call s23 x1 x2 (9999) (lN 0) x2.toInt64
theorem dX1_leaf_rs (back : cs_bt) (call : cs_ct) (s : cs_S) (x1 : Int32) (x2 : Int32) : (am_r2 back (gX1_leaf call)).1 [some (.inl (.ref 0)), some (.inl (.int x1)), some (.inl (.int x2))] [] s = dX1_leaf back call s x1 x2 := rfl
theorem dX1_leaf_eq (N f : Nat) (s : cs_S) (x1 : Int32) (x2 : Int32) : cs_call N (f + 1) 1 [.inl (.ref 0), .inl (.int x1), .inl (.int x2)] s = dX1_leaf (am_bk (cs_hop 1 (cs_call N f)) am_no (some .int) kX1_leaf N) (cs_call N f) s x1 x2 := (cs_call_of (mt := 1) (nL := 3) (rt := (some .int)) (code := kX1_leaf) rfl rfl rfl rfl rfl gX1_leaf_ok ⟨_, _, _, _, rfl⟩).trans (dX1_leaf_rs _ _ s x1 x2)
noncomputable def dX1_isIn (back : cs_bt) (call : cs_ct) (s : cs_S) (x1 : Int64) (x2 : Int64) (x3 : Int64) : am_R cs_S :=
  if (lg_cmp x1 x2) < 0 then
    some (.inl (some (.inl (.int ((ic 0) &&& 1)))), s)
  else
    if 0 < (lg_cmp x1 x3) then
      some (.inl (some (.inl (.int ((ic 0) &&& 1)))), s)
    else
      some (.inl (some (.inl (.int ((ic 1) &&& 1)))), s)
theorem dX1_isIn_rs (back : cs_bt) (call : cs_ct) (s : cs_S) (x1 : Int64) (x2 : Int64) (x3 : Int64) : (am_r2 back (gX1_isIn call)).1 [some (.inl (.long x1)), none, some (.inl (.long x2)), none, some (.inl (.long x3)), none] [] s = dX1_isIn back call s x1 x2 x3 := rfl
theorem dX1_isIn_eq (N f : Nat) (s : cs_S) (x1 : Int64) (x2 : Int64) (x3 : Int64) : cs_call N (f + 1) 2 [.inl (.long x1), .inl (.long x2), .inl (.long x3)] s = dX1_isIn (am_bk (cs_hop 1 (cs_call N f)) am_no (some .boolean) kX1_isIn N) (cs_call N f) s x1 x2 x3 := (cs_call_of (mt := 2) (nL := 6) (rt := (some .boolean)) (code := kX1_isIn) rfl rfl rfl rfl rfl gX1_isIn_ok ⟨_, _, _, _, rfl⟩).trans (dX1_isIn_rs _ _ s x1 x2 x3)
noncomputable def dX1_adds (back : cs_bt) (call : cs_ct) (s : cs_S) (x1 : Tr) : am_R cs_S :=
  am_ci (call 202 [.inl (.ref 100), .inr x1] s) am_tx fun r6 s5 =>
  am_ci (call 200 [.inl (.ref 100)] s5) am_tx fun r8 s7 =>
  some (.inl (some (.inl (.int (r8 - (ic 1))))), s7)
theorem dX1_adds_rs (back : cs_bt) (call : cs_ct) (s : cs_S) (x1 : Tr) : (am_r2 back (gX1_adds call)).1 [some (.inl (.ref 0)), some (.inr x1)] [] s = dX1_adds back call s x1 := rfl
theorem dX1_adds_eq (N f : Nat) (s : cs_S) (x1 : Tr) : cs_call N (f + 1) 3 [.inl (.ref 0), .inr x1] s = dX1_adds (am_bk (cs_hop 1 (cs_call N f)) am_no (some .int) kX1_adds N) (cs_call N f) s x1 := (cs_call_of (mt := 3) (nL := 2) (rt := (some .int)) (code := kX1_adds) rfl rfl rfl rfl rfl gX1_adds_ok ⟨_, _, _, _, rfl⟩).trans (dX1_adds_rs _ _ s x1)
noncomputable def jX1_node_124 (back : cs_bt) (call : cs_ct) (s : cs_S) (v1 : Int32) (v2 : Int32) (v3 : Int32) (t4 : Tr) (vs0 : Int32) (vs1 : Int32) : am_R cs_S := (am_r2 back (gX1_node_124 call)).1 [some (.inl (.ref 0)), some (.inl (.int v1)), some (.inl (.int v2)), some (.inl (.int v3)), some (.inr t4)] [.inl (.int vs0), .inl (.int vs1)] s
noncomputable def jX1_node_92 (back : cs_bt) (call : cs_ct) (s : cs_S) (v1 : Int32) (v2 : Int32) (v3 : Int32) (ts0 : Tr) : am_R cs_S := (am_r2 back (gX1_node_92 call)).1 [some (.inl (.ref 0)), some (.inl (.int v1)), some (.inl (.int v2)), some (.inl (.int v3)), none] [.inr ts0] s
noncomputable def jX1_node_56 (back : cs_bt) (call : cs_ct) (s : cs_S) (v1 : Int32) (v2 : Int32) (v3 : Int32) : am_R cs_S := (am_r2 back (gX1_node_56 call)).1 [some (.inl (.ref 0)), some (.inl (.int v1)), some (.inl (.int v2)), some (.inl (.int v3)), none] [] s
noncomputable def jX1_node_36 (back : cs_bt) (call : cs_ct) (s : cs_S) (v1 : Int32) (v2 : Int32) (v3 : Int32) : am_R cs_S := (am_r2 back (gX1_node_36 call)).1 [some (.inl (.ref 0)), some (.inl (.int v1)), some (.inl (.int v2)), some (.inl (.int v3)), none] [] s
noncomputable def jX1_node_36_28 (back : cs_bt) (call : cs_ct) (s : cs_S) (v1 : Int32) (v2 : Int32) (v3 : Int32) : am_R cs_S := (am_r2 back (gX1_node_28 call)).2 36 [some (.inl (.ref 0)), some (.inl (.int v1)), some (.inl (.int v2)), some (.inl (.int v3)), none] [] s
theorem jX1_node_36_28_eq (back : cs_bt) (call : cs_ct) (s : cs_S) (v1 : Int32) (v2 : Int32) (v3 : Int32) : jX1_node_36_28 back call s v1 v2 v3 = jX1_node_36 back call s v1 v2 v3 := rfl
noncomputable def jX1_node_56_42 (back : cs_bt) (call : cs_ct) (s : cs_S) (v1 : Int32) (v2 : Int32) (v3 : Int32) : am_R cs_S := (am_r2 back (gX1_node_42 call)).2 56 [some (.inl (.ref 0)), some (.inl (.int v1)), some (.inl (.int v2)), some (.inl (.int v3)), none] [] s
theorem jX1_node_56_42_eq (back : cs_bt) (call : cs_ct) (s : cs_S) (v1 : Int32) (v2 : Int32) (v3 : Int32) : jX1_node_56_42 back call s v1 v2 v3 = jX1_node_56 back call s v1 v2 v3 := rfl
noncomputable def jX1_node_56_54 (back : cs_bt) (call : cs_ct) (s : cs_S) (v1 : Int32) (v2 : Int32) (v3 : Int32) : am_R cs_S := (am_r2 back (gX1_node_54 call)).2 56 [some (.inl (.ref 0)), some (.inl (.int v1)), some (.inl (.int v2)), some (.inl (.int v3)), none] [] s
theorem jX1_node_56_54_eq (back : cs_bt) (call : cs_ct) (s : cs_S) (v1 : Int32) (v2 : Int32) (v3 : Int32) : jX1_node_56_54 back call s v1 v2 v3 = jX1_node_56 back call s v1 v2 v3 := rfl
noncomputable def jX1_node_92_91 (back : cs_bt) (call : cs_ct) (s : cs_S) (v1 : Int32) (v2 : Int32) (v3 : Int32) (ts0 : Tr) : am_R cs_S := (am_r2 back (gX1_node_91 call)).2 92 [some (.inl (.ref 0)), some (.inl (.int v1)), some (.inl (.int v2)), some (.inl (.int v3)), none] [.inr ts0] s
theorem jX1_node_92_91_eq (back : cs_bt) (call : cs_ct) (s : cs_S) (v1 : Int32) (v2 : Int32) (v3 : Int32) (ts0 : Tr) : jX1_node_92_91 back call s v1 v2 v3 ts0 = jX1_node_92 back call s v1 v2 v3 ts0 := rfl
noncomputable def jX1_node_124_119 (back : cs_bt) (call : cs_ct) (s : cs_S) (v1 : Int32) (v2 : Int32) (v3 : Int32) (t4 : Tr) (vs0 : Int32) (vs1 : Int32) : am_R cs_S := (am_r2 back (gX1_node_119 call)).2 124 [some (.inl (.ref 0)), some (.inl (.int v1)), some (.inl (.int v2)), some (.inl (.int v3)), some (.inr t4)] [.inl (.int vs0), .inl (.int vs1)] s
theorem jX1_node_124_119_eq (back : cs_bt) (call : cs_ct) (s : cs_S) (v1 : Int32) (v2 : Int32) (v3 : Int32) (t4 : Tr) (vs0 : Int32) (vs1 : Int32) : jX1_node_124_119 back call s v1 v2 v3 t4 vs0 vs1 = jX1_node_124 back call s v1 v2 v3 t4 vs0 vs1 := rfl
theorem jX1_node_124_eq (back : cs_bt) (call : cs_ct) (s : cs_S) (v1 : Int32) (v2 : Int32) (v3 : Int32) (t4 : Tr) (vs0 : Int32) (vs1 : Int32) : jX1_node_124 back call s v1 v2 v3 t4 vs0 vs1 =
  if (vs1 + vs0) ≤ (ic 40) then
    am_ci (call 200 [.inl (.ref 100)] s) am_tx fun r24 s23 =>
    am_ct (call 201 [.inl (.ref 100), .inl (.int v2)] s23) am_tx fun r26 s25 =>
    bif tr_nd r26 then
      am_ct (call 205 [.inl (.int r24), .inl (.int v1), .inr r26, .inr t4, .inl (.int v3)] s25) am_tx fun r28 s27 =>
      am_ci (call 3 [.inl (.ref 0), .inr r28] s27) am_tx fun r30 s29 =>
      some (.inl (some (.inl (.int r30))), s29)
    else none
  else
    some (.inl (some (.inl (.int (ic (-3))))), s) := rfl
theorem jX1_node_92_eq (back : cs_bt) (call : cs_ct) (s : cs_S) (v1 : Int32) (v2 : Int32) (v3 : Int32) (ts0 : Tr) : jX1_node_92 back call s v1 v2 v3 ts0 =
  am_ct (call 201 [.inl (.ref 100), .inl (.int v2)] s) am_tx fun r32 s31 =>
  bif tr_nd r32 then
    bif tr_nd r32 then
      bif tr_lf ts0 then
        jX1_node_124_119 back call s31 v1 v2 v3 ts0 (ic 0) ((ic 1) + (nI (tr_sz r32)))
      else
        bif tr_nd ts0 then
          jX1_node_124 back call s31 v1 v2 v3 ts0 (nI (tr_sz ts0)) ((ic 1) + (nI (tr_sz r32)))
        else none
    else none
  else none := rfl
theorem jX1_node_56_eq (back : cs_bt) (call : cs_ct) (s : cs_S) (v1 : Int32) (v2 : Int32) (v3 : Int32) : jX1_node_56 back call s v1 v2 v3 =
  am_ci (call 200 [.inl (.ref 100)] s) am_tx fun r34 s33 =>
  if r34 = (ic 120) then
    some (.inl (some (.inl (.int (ic (-2))))), s33)
  else
    if (ic 6) < v1 then
      jX1_node_92 back call s33 v1 v2 v3 .leaf
    else
      am_ct (call 201 [.inl (.ref 100), .inl (.int v3)] s33) am_tx fun r36 s35 =>
      bif tr_nd r36 then
        jX1_node_92_91 back call s35 v1 v2 v3 r36
      else none := rfl
theorem jX1_node_36_eq (back : cs_bt) (call : cs_ct) (s : cs_S) (v1 : Int32) (v2 : Int32) (v3 : Int32) : jX1_node_36 back call s v1 v2 v3 =
  if v1 = (ic 9) then
    am_ci (call 2 [.inl (.long v3.toInt64), .inl (.long (lN 0)), .inl (.long (9))] s) am_tx fun r38 s37 =>
    if r38 = 0 then
      some (.inl (some (.inl (.int (ic (-1))))), s37)
    else
      jX1_node_56_54 back call s37 v1 v2 v3
  else
    jX1_node_56_42 back call s v1 v2 v3 := rfl
noncomputable def dX1_node (back : cs_bt) (call : cs_ct) (s : cs_S) (x1 : Int32) (x2 : Int32) (x3 : Int32) : am_R cs_S :=
  am_ci (call 2 [.inl (.long x1.toInt64), .inl (.long (2)), .inl (.long (9))] s) am_tx fun r40 s39 =>
  if r40 = 0 then
    some (.inl (some (.inl (.int (ic (-1))))), s39)
  else
    am_ci (call 5 [.inl (.ref 0), .inl (.int x2)] s39) am_tx fun r42 s41 =>
    if r42 = 0 then
      some (.inl (some (.inl (.int (ic (-1))))), s41)
    else
      if (ic 6) < x1 then
        jX1_node_36_28 back call s41 x1 x2 x3
      else
        am_ci (call 5 [.inl (.ref 0), .inl (.int x3)] s41) am_tx fun r44 s43 =>
        if r44 = 0 then
          some (.inl (some (.inl (.int (ic (-1))))), s43)
        else
          jX1_node_36 back call s43 x1 x2 x3
theorem dX1_node_rs (back : cs_bt) (call : cs_ct) (s : cs_S) (x1 : Int32) (x2 : Int32) (x3 : Int32) : (am_r2 back (gX1_node call)).1 [some (.inl (.ref 0)), some (.inl (.int x1)), some (.inl (.int x2)), some (.inl (.int x3)), none] [] s = dX1_node back call s x1 x2 x3 := rfl
theorem dX1_node_eq (N f : Nat) (s : cs_S) (x1 : Int32) (x2 : Int32) (x3 : Int32) : cs_call N (f + 1) 4 [.inl (.ref 0), .inl (.int x1), .inl (.int x2), .inl (.int x3)] s = dX1_node (am_bk (cs_hop 1 (cs_call N f)) am_no (some .int) kX1_node N) (cs_call N f) s x1 x2 x3 := (cs_call_of (mt := 4) (nL := 5) (rt := (some .int)) (code := kX1_node) rfl rfl rfl rfl rfl gX1_node_ok ⟨_, _, _, _, rfl⟩).trans (dX1_node_rs _ _ s x1 x2 x3)
noncomputable def dX1_isNode (back : cs_bt) (call : cs_ct) (s : cs_S) (x1 : Int32) : am_R cs_S :=
  am_ci (call 200 [.inl (.ref 100)] s) am_tx fun r6 s5 =>
  am_ci (call 2 [.inl (.long x1.toInt64), .inl (.long (lN 0)), .inl (.long (r6 - (ic 1)).toInt64)] s5) am_tx fun r8 s7 =>
  some (.inl (some (.inl (.int (r8 &&& 1)))), s7)
theorem dX1_isNode_rs (back : cs_bt) (call : cs_ct) (s : cs_S) (x1 : Int32) : (am_r2 back (gX1_isNode call)).1 [some (.inl (.ref 0)), some (.inl (.int x1))] [] s = dX1_isNode back call s x1 := rfl
theorem dX1_isNode_eq (N f : Nat) (s : cs_S) (x1 : Int32) : cs_call N (f + 1) 5 [.inl (.ref 0), .inl (.int x1)] s = dX1_isNode (am_bk (cs_hop 1 (cs_call N f)) am_no (some .boolean) kX1_isNode N) (cs_call N f) s x1 := (cs_call_of (mt := 5) (nL := 2) (rt := (some .boolean)) (code := kX1_isNode) rfl rfl rfl rfl rfl gX1_isNode_ok ⟨_, _, _, _, rfl⟩).trans (dX1_isNode_rs _ _ s x1)
noncomputable def jX1_undo_39 (back : cs_bt) (call : cs_ct) (s : cs_S) (v1 : Int32) : am_R cs_S := (am_r2 back (gX1_undo_39 call)).1 [some (.inl (.ref 0)), some (.inl (.int v1)), none] [] s
noncomputable def jX1_undo_39_23 (back : cs_bt) (call : cs_ct) (s : cs_S) (v1 : Int32) : am_R cs_S := (am_r2 back (gX1_undo_23 call)).2 39 [some (.inl (.ref 0)), some (.inl (.int v1)), none] [] s
theorem jX1_undo_39_23_eq (back : cs_bt) (call : cs_ct) (s : cs_S) (v1 : Int32) : jX1_undo_39_23 back call s v1 = jX1_undo_39 back call s v1 := rfl
noncomputable def jX1_undo_39_36 (back : cs_bt) (call : cs_ct) (s : cs_S) (v1 : Int32) : am_R cs_S := (am_r2 back (gX1_undo_36 call)).2 39 [some (.inl (.ref 0)), some (.inl (.int v1)), none] [] s
theorem jX1_undo_39_36_eq (back : cs_bt) (call : cs_ct) (s : cs_S) (v1 : Int32) : jX1_undo_39_36 back call s v1 = jX1_undo_39 back call s v1 := rfl
theorem jX1_undo_39_eq (back : cs_bt) (call : cs_ct) (s : cs_S) (v1 : Int32) : jX1_undo_39 back call s v1 =
  am_ct (call 203 [.inl (.ref 100), .inl (.int v1)] s) am_tx fun r7 s6 =>
  bif tr_nd r7 then
    some (.inl (some (.inl (.int v1))), s6)
  else none := rfl
noncomputable def dX1_undo (back : cs_bt) (call : cs_ct) (s : cs_S)  : am_R cs_S :=
  am_ci (call 200 [.inl (.ref 100)] s) am_tx fun r9 s8 =>
  if 0 ≤ (r9 - (ic 1)) then
    if (cs_i s8 17) < 0 then
      jX1_undo_39_23 back call s8 (r9 - (ic 1))
    else
      am_ix (ic 0) 41 fun j10 =>
      bif tr_nd (cs_p s8 j10) then
        if (nI (tr_n (cs_p s8 j10))) = (r9 - (ic 1)) then
          some (.inl (some (.inl (.int (ic (-3))))), s8)
        else
          jX1_undo_39_36 back call s8 (r9 - (ic 1))
      else none
  else
    some (.inl (some (.inl (.int (ic (-1))))), s8)
theorem dX1_undo_rs (back : cs_bt) (call : cs_ct) (s : cs_S)  : (am_r2 back (gX1_undo call)).1 [some (.inl (.ref 0)), none, none] [] s = dX1_undo back call s  := rfl
theorem dX1_undo_eq (N f : Nat) (s : cs_S)  : cs_call N (f + 1) 6 [.inl (.ref 0)] s = dX1_undo (am_bk (cs_hop 1 (cs_call N f)) am_no (some .int) kX1_undo N) (cs_call N f) s  := (cs_call_of (mt := 6) (nL := 3) (rt := (some .int)) (code := kX1_undo) rfl rfl rfl rfl rfl gX1_undo_ok ⟨_, _, _, _, rfl⟩).trans (dX1_undo_rs _ _ s )
noncomputable def jX1_means_45 (back : cs_bt) (call : cs_ct) (s : cs_S) (v1 : Int32) (v2 : Int32) (v3 : Int32) (vs0 : Int32) : am_R cs_S := (am_r2 back (gX1_means_45 call)).1 [some (.inl (.ref 0)), some (.inl (.int v1)), some (.inl (.int v2)), some (.inl (.int v3))] [.inl (.int vs0), .inl (.ref 0)] s
noncomputable def jX1_means_45_35 (back : cs_bt) (call : cs_ct) (s : cs_S) (v1 : Int32) (v2 : Int32) (v3 : Int32) (vs0 : Int32) : am_R cs_S := (am_r2 back (gX1_means_35 call)).2 45 [some (.inl (.ref 0)), some (.inl (.int v1)), some (.inl (.int v2)), some (.inl (.int v3))] [.inl (.int vs0), .inl (.ref 0)] s
theorem jX1_means_45_35_eq (back : cs_bt) (call : cs_ct) (s : cs_S) (v1 : Int32) (v2 : Int32) (v3 : Int32) (vs0 : Int32) : jX1_means_45_35 back call s v1 v2 v3 vs0 = jX1_means_45 back call s v1 v2 v3 vs0 := rfl
theorem jX1_means_45_eq (back : cs_bt) (call : cs_ct) (s : cs_S) (v1 : Int32) (v2 : Int32) (v3 : Int32) (vs0 : Int32) : jX1_means_45 back call s v1 v2 v3 vs0 =
  if v3 = (cs_i (cs_pi s 1 vs0) 1) then
    some (.inl (some (.inl (.int (ic 0)))), (cs_pi s 1 vs0))
  else
    some (.inl (some (.inl (.int (ic 1)))), (cs_pi s 1 vs0)) := rfl
noncomputable def dX1_means (back : cs_bt) (call : cs_ct) (s : cs_S) (x1 : Int32) (x2 : Int32) : am_R cs_S :=
  am_ci (call 2 [.inl (.long x1.toInt64), .inl (.long (lN 0)), .inl (.long (9))] s) am_tx fun r4 s3 =>
  if r4 = 0 then
    some (.inl (some (.inl (.int (ic (-1))))), s3)
  else
    if x2 = 0 then
      jX1_means_45 back call s3 x1 x2 (cs_i s3 1) ((cs_i s3 1) &&& (((ic 1) <<< (x1 &&& 31)) ^^^ (ic (-1))))
    else
      jX1_means_45_35 back call s3 x1 x2 (cs_i s3 1) ((cs_i s3 1) ||| ((ic 1) <<< (x1 &&& 31)))
theorem dX1_means_rs (back : cs_bt) (call : cs_ct) (s : cs_S) (x1 : Int32) (x2 : Int32) : (am_r2 back (gX1_means call)).1 [some (.inl (.ref 0)), some (.inl (.int x1)), some (.inl (.int x2)), none] [] s = dX1_means back call s x1 x2 := rfl
theorem dX1_means_eq (N f : Nat) (s : cs_S) (x1 : Int32) (x2 : Int32) : cs_call N (f + 1) 7 [.inl (.ref 0), .inl (.int x1), .inl (.int x2)] s = dX1_means (am_bk (cs_hop 1 (cs_call N f)) am_no (some .int) kX1_means N) (cs_call N f) s x1 x2 := (cs_call_of (mt := 7) (nL := 4) (rt := (some .int)) (code := kX1_means) rfl rfl rfl rfl rfl gX1_means_ok ⟨_, _, _, _, rfl⟩).trans (dX1_means_rs _ _ s x1 x2)
noncomputable def dX1_look (back : cs_bt) (call : cs_ct) (s : cs_S) (x1 : Int32) (x2 : Int32) : am_R cs_S :=
  am_ci (call 5 [.inl (.ref 0), .inl (.int x1)] s) am_tx fun r18 s17 =>
  if r18 = 0 then
    some (.inl (some (.inl (.int (ic (-1))))), s17)
  else
    am_ct (call 201 [.inl (.ref 100), .inl (.int x1)] s17) am_tx fun r20 s19 =>
    bif tr_nd r20 then
      if x2 = nI 0 then
        bif tr_nd r20 then
          some (.inl (some (.inl (.int (nI (tr_k r20))))), s19)
        else none
      else
      if x2 = nI 1 then
        bif tr_nd r20 then
          am_ci (call (cs_sel [74, 74, 67, 67, 67, 67, 67, 67, 67, 87] (tr_k r20)) [.inr r20] s19) am_tx fun r32 s31 =>
          some (.inl (some (.inl (.int r32))), s31)
        else none
      else
      if x2 = nI 2 then
        bif tr_nd r20 then
          am_ct (call (cs_sel [68, 68, 80, 80, 80, 80, 80, 83, 83, 83] (tr_k r20)) [.inr r20] s19) am_tx fun r28 s27 =>
          bif tr_lf r28 then
            some (.inl (some (.inl (.int (ic (-2))))), s27)
          else
            bif tr_nd r20 then
              am_ct (call (cs_sel [68, 68, 80, 80, 80, 80, 80, 83, 83, 83] (tr_k r20)) [.inr r20] s27) am_tx fun r30 s29 =>
              bif tr_nd r30 then
                some (.inl (some (.inl (.int (nI (tr_n r30))))), s29)
              else none
            else none
        else none
      else
      if x2 = nI 3 then
        bif tr_nd r20 then
          am_ct (call (cs_sel [69, 69, 81, 81, 81, 81, 81, 69, 69, 69] (tr_k r20)) [.inr r20] s19) am_tx fun r24 s23 =>
          bif tr_lf r24 then
            some (.inl (some (.inl (.int (ic (-2))))), s23)
          else
            bif tr_nd r20 then
              am_ct (call (cs_sel [69, 69, 81, 81, 81, 81, 81, 69, 69, 69] (tr_k r20)) [.inr r20] s23) am_tx fun r26 s25 =>
              bif tr_nd r26 then
                some (.inl (some (.inl (.int (nI (tr_n r26))))), s25)
              else none
            else none
        else none
      else
      if x2 = nI 4 then
        bif tr_nd r20 then
          some (.inl (some (.inl (.int (nI (tr_sz r20))))), s19)
        else none
      else
      if x2 = nI 5 then
        bif tr_nd r20 then
          some (.inl (some (.inl (.int (nI (tr_dp r20))))), s19)
        else none
      else
      if x2 = nI 6 then
        bif tr_nd r20 then
          am_ci (call (cs_sel [75, 78, 70, 70, 70, 70, 70, 70, 70, 88] (tr_k r20)) [.inr r20, .inl (.int (cs_i s19 1))] s19) am_tx fun r22 s21 =>
          if r22 = 0 then
            some (.inl (some (.inl (.int (ic 0)))), s21)
          else
            some (.inl (some (.inl (.int (ic 1)))), s21)
        else none
      else
      some (.inl (some (.inl (.int (ic (-1))))), s19)
    else none
theorem dX1_look_rs (back : cs_bt) (call : cs_ct) (s : cs_S) (x1 : Int32) (x2 : Int32) : (am_r2 back (gX1_look call)).1 [some (.inl (.ref 0)), some (.inl (.int x1)), some (.inl (.int x2)), none] [] s = dX1_look back call s x1 x2 := rfl
theorem dX1_look_eq (N f : Nat) (s : cs_S) (x1 : Int32) (x2 : Int32) : cs_call N (f + 1) 8 [.inl (.ref 0), .inl (.int x1), .inl (.int x2)] s = dX1_look (am_bk (cs_hop 1 (cs_call N f)) am_no (some .int) kX1_look N) (cs_call N f) s x1 x2 := (cs_call_of (mt := 8) (nL := 4) (rt := (some .int)) (code := kX1_look) rfl rfl rfl rfl rfl gX1_look_ok ⟨_, _, _, _, rfl⟩).trans (dX1_look_rs _ _ s x1 x2)
noncomputable def dX1_alike (back : cs_bt) (call : cs_ct) (s : cs_S) (x1 : Int32) (x2 : Int32) : am_R cs_S :=
  am_ci (call 5 [.inl (.ref 0), .inl (.int x1)] s) am_tx fun r12 s11 =>
  if r12 = 0 then
    some (.inl (some (.inl (.int (ic (-1))))), s11)
  else
    am_ci (call 5 [.inl (.ref 0), .inl (.int x2)] s11) am_tx fun r14 s13 =>
    if r14 = 0 then
      some (.inl (some (.inl (.int (ic (-1))))), s13)
    else
      am_ct (call 201 [.inl (.ref 100), .inl (.int x1)] s13) am_tx fun r16 s15 =>
      bif tr_nd r16 then
        am_ct (call 201 [.inl (.ref 100), .inl (.int x2)] s15) am_tx fun r18 s17 =>
        bif tr_nd r18 then
          bif tr_nd r16 then
            am_ci (call (cs_sel [71, 71, 71, 71, 71, 71, 71, 71, 71, 71] (tr_k r16)) [.inr r16, .inr r18] s17) am_tx fun r20 s19 =>
            if r20 = 0 then
              some (.inl (some (.inl (.int (ic 0)))), s19)
            else
              some (.inl (some (.inl (.int (ic 1)))), s19)
          else none
        else none
      else none
theorem dX1_alike_rs (back : cs_bt) (call : cs_ct) (s : cs_S) (x1 : Int32) (x2 : Int32) : (am_r2 back (gX1_alike call)).1 [some (.inl (.ref 0)), some (.inl (.int x1)), some (.inl (.int x2))] [] s = dX1_alike back call s x1 x2 := rfl
theorem dX1_alike_eq (N f : Nat) (s : cs_S) (x1 : Int32) (x2 : Int32) : cs_call N (f + 1) 9 [.inl (.ref 0), .inl (.int x1), .inl (.int x2)] s = dX1_alike (am_bk (cs_hop 1 (cs_call N f)) am_no (some .int) kX1_alike N) (cs_call N f) s x1 x2 := (cs_call_of (mt := 9) (nL := 3) (rt := (some .int)) (code := kX1_alike) rfl rfl rfl rfl rfl gX1_alike_ok ⟨_, _, _, _, rfl⟩).trans (dX1_alike_rs _ _ s x1 x2)
noncomputable def dX1_times (back : cs_bt) (call : cs_ct) (s : cs_S) (x1 : Int32) (x2 : Int32) : am_R cs_S :=
  am_ci (call 5 [.inl (.ref 0), .inl (.int x1)] s) am_tx fun r12 s11 =>
  if r12 = 0 then
    some (.inl (some (.inl (.int (ic (-1))))), s11)
  else
    am_ci (call 5 [.inl (.ref 0), .inl (.int x2)] s11) am_tx fun r14 s13 =>
    if r14 = 0 then
      some (.inl (some (.inl (.int (ic (-1))))), s13)
    else
      am_ct (call 201 [.inl (.ref 100), .inl (.int x1)] s13) am_tx fun r16 s15 =>
      bif tr_nd r16 then
        am_ct (call 201 [.inl (.ref 100), .inl (.int x2)] s15) am_tx fun r18 s17 =>
        bif tr_nd r18 then
          am_ci (call 11 [.inr r16, .inr r18] s17) am_tx fun r20 s19 =>
          some (.inl (some (.inl (.int r20))), s19)
        else none
      else none
theorem dX1_times_rs (back : cs_bt) (call : cs_ct) (s : cs_S) (x1 : Int32) (x2 : Int32) : (am_r2 back (gX1_times call)).1 [some (.inl (.ref 0)), some (.inl (.int x1)), some (.inl (.int x2))] [] s = dX1_times back call s x1 x2 := rfl
theorem dX1_times_eq (N f : Nat) (s : cs_S) (x1 : Int32) (x2 : Int32) : cs_call N (f + 1) 10 [.inl (.ref 0), .inl (.int x1), .inl (.int x2)] s = dX1_times (am_bk (cs_hop 1 (cs_call N f)) am_no (some .int) kX1_times N) (cs_call N f) s x1 x2 := (cs_call_of (mt := 10) (nL := 3) (rt := (some .int)) (code := kX1_times) rfl rfl rfl rfl rfl gX1_times_ok ⟨_, _, _, _, rfl⟩).trans (dX1_times_rs _ _ s x1 x2)
noncomputable def jX1_timesIn_32 (back : cs_bt) (call : cs_ct) (s : cs_S) (t0 : Tr) (t1 : Tr) (v2 : Int32) : am_R cs_S := (am_r2 back (gX1_timesIn_32 call)).1 [some (.inr t0), some (.inr t1), some (.inl (.int v2))] [] s
noncomputable def jX1_timesIn_13 (back : cs_bt) (call : cs_ct) (s : cs_S) (t0 : Tr) (t1 : Tr) (vs0 : Int32) : am_R cs_S := (am_r2 back (gX1_timesIn_13 call)).1 [some (.inr t0), some (.inr t1), none] [.inl (.int vs0)] s
noncomputable def jX1_timesIn_13_12 (back : cs_bt) (call : cs_ct) (s : cs_S) (t0 : Tr) (t1 : Tr) (vs0 : Int32) : am_R cs_S := (am_r2 back (gX1_timesIn_12 call)).2 13 [some (.inr t0), some (.inr t1), none] [.inl (.int vs0)] s
theorem jX1_timesIn_13_12_eq (back : cs_bt) (call : cs_ct) (s : cs_S) (t0 : Tr) (t1 : Tr) (vs0 : Int32) : jX1_timesIn_13_12 back call s t0 t1 vs0 = jX1_timesIn_13 back call s t0 t1 vs0 := rfl
noncomputable def jX1_timesIn_32_21 (back : cs_bt) (call : cs_ct) (s : cs_S) (t0 : Tr) (t1 : Tr) (v2 : Int32) : am_R cs_S := (am_r2 back (gX1_timesIn_21 call)).2 32 [some (.inr t0), some (.inr t1), some (.inl (.int v2))] [] s
theorem jX1_timesIn_32_21_eq (back : cs_bt) (call : cs_ct) (s : cs_S) (t0 : Tr) (t1 : Tr) (v2 : Int32) : jX1_timesIn_32_21 back call s t0 t1 v2 = jX1_timesIn_32 back call s t0 t1 v2 := rfl
theorem jX1_timesIn_32_eq (back : cs_bt) (call : cs_ct) (s : cs_S) (t0 : Tr) (t1 : Tr) (v2 : Int32) : jX1_timesIn_32 back call s t0 t1 v2 =
  bif tr_nd t0 then
    am_ct (call (cs_sel [69, 69, 81, 81, 81, 81, 81, 69, 69, 69] (tr_k t0)) [.inr t0] s) am_tx fun r16 s15 =>
    bif tr_lf r16 then
      some (.inl (some (.inl (.int v2))), s15)
    else
      bif tr_nd t0 then
        am_ct (call (cs_sel [69, 69, 81, 81, 81, 81, 81, 69, 69, 69] (tr_k t0)) [.inr t0] s15) am_tx fun r18 s17 =>
        am_ci (call 11 [.inr r18, .inr t1] s17) am_tx fun r20 s19 =>
        some (.inl (some (.inl (.int (v2 + r20)))), s19)
      else none
  else none := rfl
theorem jX1_timesIn_13_eq (back : cs_bt) (call : cs_ct) (s : cs_S) (t0 : Tr) (t1 : Tr) (vs0 : Int32) : jX1_timesIn_13 back call s t0 t1 vs0 =
  bif tr_nd t0 then
    am_ct (call (cs_sel [68, 68, 80, 80, 80, 80, 80, 83, 83, 83] (tr_k t0)) [.inr t0] s) am_tx fun r22 s21 =>
    bif tr_lf r22 then
      jX1_timesIn_32_21 back call s21 t0 t1 vs0
    else
      bif tr_nd t0 then
        am_ct (call (cs_sel [68, 68, 80, 80, 80, 80, 80, 83, 83, 83] (tr_k t0)) [.inr t0] s21) am_tx fun r24 s23 =>
        am_ci (call 11 [.inr r24, .inr t1] s23) am_tx fun r26 s25 =>
        jX1_timesIn_32 back call s25 t0 t1 (vs0 + r26)
      else none
  else none := rfl
noncomputable def dX1_timesIn (back : cs_bt) (call : cs_ct) (s : cs_S) (x1 : Tr) (x2 : Tr) : am_R cs_S :=
  bif tr_nd x1 then
    am_ci (call (cs_sel [71, 71, 71, 71, 71, 71, 71, 71, 71, 71] (tr_k x1)) [.inr x1, .inr x2] s) am_tx fun r28 s27 =>
    if r28 = 0 then
      jX1_timesIn_13 back call s27 x1 x2 (ic 0)
    else
      jX1_timesIn_13_12 back call s27 x1 x2 (ic 1)
  else none
theorem dX1_timesIn_rs (back : cs_bt) (call : cs_ct) (s : cs_S) (x1 : Tr) (x2 : Tr) : (am_r2 back (gX1_timesIn call)).1 [some (.inr x1), some (.inr x2), none] [] s = dX1_timesIn back call s x1 x2 := rfl
theorem dX1_timesIn_eq (N f : Nat) (s : cs_S) (x1 : Tr) (x2 : Tr) : cs_call N (f + 1) 11 [.inr x1, .inr x2] s = dX1_timesIn (am_bk (cs_hop 1 (cs_call N f)) am_no (some .int) kX1_timesIn N) (cs_call N f) s x1 x2 := (cs_call_of (mt := 11) (nL := 3) (rt := (some .int)) (code := kX1_timesIn) rfl rfl rfl rfl rfl gX1_timesIn_ok ⟨_, _, _, _, rfl⟩).trans (dX1_timesIn_rs _ _ s x1 x2)
noncomputable def jX1_keeps_58 (back : cs_bt) (call : cs_ct) (s : cs_S) (v1 : Int32) (v2 : Int32) (v3 : Int32) (v4 : Int32) (vs0 : Int32) (vs1 : Int32) : am_R cs_S := (am_r2 back (gX1_keeps_58 call)).1 [some (.inl (.ref 0)), some (.inl (.int v1)), some (.inl (.int v2)), some (.inl (.int v3)), some (.inl (.int v4))] [.inl (.int vs0), .inl (.int vs1), .inl (.ref 102)] s
noncomputable def jX1_keeps_58_46 (back : cs_bt) (call : cs_ct) (s : cs_S) (v1 : Int32) (v2 : Int32) (v3 : Int32) (v4 : Int32) (vs0 : Int32) (vs1 : Int32) : am_R cs_S := (am_r2 back (gX1_keeps_46 call)).2 58 [some (.inl (.ref 0)), some (.inl (.int v1)), some (.inl (.int v2)), some (.inl (.int v3)), some (.inl (.int v4))] [.inl (.int vs0), .inl (.int vs1), .inl (.ref 102)] s
theorem jX1_keeps_58_46_eq (back : cs_bt) (call : cs_ct) (s : cs_S) (v1 : Int32) (v2 : Int32) (v3 : Int32) (v4 : Int32) (vs0 : Int32) (vs1 : Int32) : jX1_keeps_58_46 back call s v1 v2 v3 v4 vs0 vs1 = jX1_keeps_58 back call s v1 v2 v3 v4 vs0 vs1 := rfl
theorem jX1_keeps_58_eq (back : cs_bt) (call : cs_ct) (s : cs_S) (v1 : Int32) (v2 : Int32) (v3 : Int32) (v4 : Int32) (vs0 : Int32) (vs1 : Int32) : jX1_keeps_58 back call s v1 v2 v3 v4 vs0 vs1 =
  am_ix vs1 8 fun j10 =>
  am_ix v1 8 fun j11 =>
  if v4 = (cs_a (cs_pa s 102 j10 vs0) 102 j11) then
    some (.inl (some (.inl (.int (ic 0)))), (cs_pa s 102 j10 vs0))
  else
    some (.inl (some (.inl (.int (ic 1)))), (cs_pa s 102 j10 vs0)) := rfl
noncomputable def dX1_keeps (back : cs_bt) (call : cs_ct) (s : cs_S) (x1 : Int32) (x2 : Int32) (x3 : Int32) : am_R cs_S :=
  am_ci (call 13 [.inl (.int x1)] s) am_tx fun r13 s12 =>
  if r13 = 0 then
    some (.inl (some (.inl (.int (ic (-1))))), s12)
  else
    am_ci (call 14 [.inl (.int x2)] s12) am_tx fun r15 s14 =>
    if r15 = 0 then
      some (.inl (some (.inl (.int (ic (-1))))), s14)
    else
      am_ix x1 8 fun j16 =>
      if x3 = 0 then
        am_ix x1 8 fun j17 =>
        jX1_keeps_58 back call s14 x1 x2 x3 (cs_a s14 102 j16) ((cs_a s14 102 j17) &&& (((ic 1) <<< (x2 &&& 31)) ^^^ (ic (-1)))) x1
      else
        am_ix x1 8 fun j18 =>
        jX1_keeps_58_46 back call s14 x1 x2 x3 (cs_a s14 102 j16) ((cs_a s14 102 j18) ||| ((ic 1) <<< (x2 &&& 31))) x1
theorem dX1_keeps_rs (back : cs_bt) (call : cs_ct) (s : cs_S) (x1 : Int32) (x2 : Int32) (x3 : Int32) : (am_r2 back (gX1_keeps call)).1 [some (.inl (.ref 0)), some (.inl (.int x1)), some (.inl (.int x2)), some (.inl (.int x3)), none] [] s = dX1_keeps back call s x1 x2 x3 := rfl
theorem dX1_keeps_eq (N f : Nat) (s : cs_S) (x1 : Int32) (x2 : Int32) (x3 : Int32) : cs_call N (f + 1) 12 [.inl (.ref 0), .inl (.int x1), .inl (.int x2), .inl (.int x3)] s = dX1_keeps (am_bk (cs_hop 1 (cs_call N f)) am_no (some .int) kX1_keeps N) (cs_call N f) s x1 x2 x3 := (cs_call_of (mt := 12) (nL := 5) (rt := (some .int)) (code := kX1_keeps) rfl rfl rfl rfl rfl gX1_keeps_ok ⟨_, _, _, _, rfl⟩).trans (dX1_keeps_rs _ _ s x1 x2 x3)
noncomputable def dX1_isStyle (back : cs_bt) (call : cs_ct) (s : cs_S) (x1 : Int32) : am_R cs_S :=
  am_ci (call 2 [.inl (.long x1.toInt64), .inl (.long (lN 0)), .inl (.long (7))] s) am_tx fun r4 s3 =>
  some (.inl (some (.inl (.int (r4 &&& 1)))), s3)
theorem dX1_isStyle_rs (back : cs_bt) (call : cs_ct) (s : cs_S) (x1 : Int32) : (am_r2 back (gX1_isStyle call)).1 [some (.inl (.int x1))] [] s = dX1_isStyle back call s x1 := rfl
theorem dX1_isStyle_eq (N f : Nat) (s : cs_S) (x1 : Int32) : cs_call N (f + 1) 13 [.inl (.int x1)] s = dX1_isStyle (am_bk (cs_hop 1 (cs_call N f)) am_no (some .boolean) kX1_isStyle N) (cs_call N f) s x1 := (cs_call_of (mt := 13) (nL := 1) (rt := (some .boolean)) (code := kX1_isStyle) rfl rfl rfl rfl rfl gX1_isStyle_ok ⟨_, _, _, _, rfl⟩).trans (dX1_isStyle_rs _ _ s x1)
noncomputable def dX1_isKeeper (back : cs_bt) (call : cs_ct) (s : cs_S) (x1 : Int32) : am_R cs_S :=
  am_ci (call 2 [.inl (.long x1.toInt64), .inl (.long (2)), .inl (.long (7))] s) am_tx fun r4 s3 =>
  if r4 = 0 then
    if x1 = (ic 9) then
      some (.inl (some (.inl (.int ((ic 1) &&& 1)))), s3)
    else
      some (.inl (some (.inl (.int ((ic 0) &&& 1)))), s3)
  else
    some (.inl (some (.inl (.int ((ic 1) &&& 1)))), s3)
theorem dX1_isKeeper_rs (back : cs_bt) (call : cs_ct) (s : cs_S) (x1 : Int32) : (am_r2 back (gX1_isKeeper call)).1 [some (.inl (.int x1))] [] s = dX1_isKeeper back call s x1 := rfl
theorem dX1_isKeeper_eq (N f : Nat) (s : cs_S) (x1 : Int32) : cs_call N (f + 1) 14 [.inl (.int x1)] s = dX1_isKeeper (am_bk (cs_hop 1 (cs_call N f)) am_no (some .boolean) kX1_isKeeper N) (cs_call N f) s x1 := (cs_call_of (mt := 14) (nL := 1) (rt := (some .boolean)) (code := kX1_isKeeper) rfl rfl rfl rfl rfl gX1_isKeeper_ok ⟨_, _, _, _, rfl⟩).trans (dX1_isKeeper_rs _ _ s x1)
noncomputable def dX1_words (back : cs_bt) (call : cs_ct) (s : cs_S) (x1 : Int32) (x2 : Int32) : am_R cs_S :=
  am_ci (call 13 [.inl (.int x1)] s) am_tx fun r10 s9 =>
  if r10 = 0 then
    some (.inl (some (.inl (.int (ic (-1))))), s9)
  else
    am_ci (call 5 [.inl (.ref 0), .inl (.int x2)] s9) am_tx fun r12 s11 =>
    if r12 = 0 then
      some (.inl (some (.inl (.int (ic (-1))))), s11)
    else
      am_ct (call 201 [.inl (.ref 100), .inl (.int x2)] s11) am_tx fun r14 s13 =>
      bif tr_nd r14 then
        am_ci (call 16 [.inl (.ref 0), .inl (.ref 103), .inr r14, .inl (.int x1), .inl (.int (ic 40))] s13) am_tx fun r16 s15 =>
        if r16 = 0 then
          some (.inl (some (.inl (.int (ic (-5))))), s15)
        else
          some (.inl (some (.inl (.int (cs_i s15 103)))), s15)
      else none
theorem dX1_words_rs (back : cs_bt) (call : cs_ct) (s : cs_S) (x1 : Int32) (x2 : Int32) : (am_r2 back (gX1_words call)).1 [some (.inl (.ref 0)), some (.inl (.int x1)), some (.inl (.int x2))] [] s = dX1_words back call s x1 x2 := rfl
theorem dX1_words_eq (N f : Nat) (s : cs_S) (x1 : Int32) (x2 : Int32) : cs_call N (f + 1) 15 [.inl (.ref 0), .inl (.int x1), .inl (.int x2)] s = dX1_words (am_bk (cs_hop 1 (cs_call N f)) am_no (some .int) kX1_words N) (cs_call N f) s x1 x2 := (cs_call_of (mt := 15) (nL := 3) (rt := (some .int)) (code := kX1_words) rfl rfl rfl rfl rfl gX1_words_ok ⟨_, _, _, _, rfl⟩).trans (dX1_words_rs _ _ s x1 x2)
noncomputable def dX1_says (back : cs_bt) (call : cs_ct) (s : cs_S) (x1 : Nat) (x2 : Tr) (x3 : Int32) (x4 : Int32) : am_R cs_S :=
  am_ix x3 8 fun j4 =>
  am_ci (call 17 [.inl (.ref 0), .inl (.ref x1), .inr x2] (cs_pi (cs_pi s 105 (cs_a s 102 j4)) 125 x4)) am_tx fun r6 s5 =>
  some (.inl (some (.inl (.int (r6 &&& 1)))), s5)
theorem dX1_says_rs (back : cs_bt) (call : cs_ct) (s : cs_S) (x1 : Nat) (x2 : Tr) (x3 : Int32) (x4 : Int32) : (am_r2 back (gX1_says call)).1 [some (.inl (.ref 0)), some (.inl (.ref x1)), some (.inr x2), some (.inl (.int x3)), some (.inl (.int x4))] [] s = dX1_says back call s x1 x2 x3 x4 := rfl
theorem dX1_says_eq (N f : Nat) (s : cs_S) (x1 : Nat) (x2 : Tr) (x3 : Int32) (x4 : Int32) : cs_call N (f + 1) 16 [.inl (.ref 0), .inl (.ref x1), .inr x2, .inl (.int x3), .inl (.int x4)] s = dX1_says (am_bk (cs_hop 1 (cs_call N f)) am_no (some .boolean) kX1_says N) (cs_call N f) s x1 x2 x3 x4 := (cs_call_of (mt := 16) (nL := 5) (rt := (some .boolean)) (code := kX1_says) rfl rfl rfl rfl rfl gX1_says_ok ⟨_, _, _, _, rfl⟩).trans (dX1_says_rs _ _ s x1 x2 x3 x4)
noncomputable def dX1_word (back : cs_bt) (call : cs_ct) (s : cs_S) (x1 : Int32) (x2 : Int32) (x3 : Int32) : am_R cs_S :=
  am_ci (call 13 [.inl (.int x1)] s) am_tx fun r11 s10 =>
  if r11 = 0 then
    some (.inl (some (.inl (.int (ic (-1))))), s10)
  else
    am_ci (call 5 [.inl (.ref 0), .inl (.int x2)] s10) am_tx fun r13 s12 =>
    if r13 = 0 then
      some (.inl (some (.inl (.int (ic (-1))))), s12)
    else
      if 0 ≤ x3 then
        am_ct (call 201 [.inl (.ref 100), .inl (.int x2)] s12) am_tx fun r15 s14 =>
        bif tr_nd r15 then
          am_ci (call 16 [.inl (.ref 0), .inl (.ref 103), .inr r15, .inl (.int x1), .inl (.int (ic 40))] s14) am_tx fun r17 s16 =>
          if r17 = 0 then
            some (.inl (some (.inl (.int (ic (-5))))), s16)
          else
            if (cs_i s16 103) ≤ x3 then
              some (.inl (some (.inl (.int (ic (-2))))), s16)
            else
              am_ix x3 80 fun j18 =>
              some (.inl (some (.inl (.int (cs_a s16 123 j18)))), s16)
        else none
      else
        some (.inl (some (.inl (.int (ic (-1))))), s12)
theorem dX1_word_rs (back : cs_bt) (call : cs_ct) (s : cs_S) (x1 : Int32) (x2 : Int32) (x3 : Int32) : (am_r2 back (gX1_word call)).1 [some (.inl (.ref 0)), some (.inl (.int x1)), some (.inl (.int x2)), some (.inl (.int x3))] [] s = dX1_word back call s x1 x2 x3 := rfl
theorem dX1_word_eq (N f : Nat) (s : cs_S) (x1 : Int32) (x2 : Int32) (x3 : Int32) : cs_call N (f + 1) 18 [.inl (.ref 0), .inl (.int x1), .inl (.int x2), .inl (.int x3)] s = dX1_word (am_bk (cs_hop 1 (cs_call N f)) am_no (some .int) kX1_word N) (cs_call N f) s x1 x2 x3 := (cs_call_of (mt := 18) (nL := 4) (rt := (some .int)) (code := kX1_word) rfl rfl rfl rfl rfl gX1_word_ok ⟨_, _, _, _, rfl⟩).trans (dX1_word_rs _ _ s x1 x2 x3)
noncomputable def dX1_sound (back : cs_bt) (call : cs_ct) (s : cs_S) (x1 : Int32) (x2 : Int32) (x3 : Int32) : am_R cs_S :=
  am_ci (call 13 [.inl (.int x1)] s) am_tx fun r18 s17 =>
  if r18 = 0 then
    some (.inl (some (.inl (.int (ic (-1))))), s17)
  else
    am_ci (call 5 [.inl (.ref 0), .inl (.int x2)] s17) am_tx fun r20 s19 =>
    if r20 = 0 then
      some (.inl (some (.inl (.int (ic (-1))))), s19)
    else
      am_ci (call 5 [.inl (.ref 0), .inl (.int x3)] s19) am_tx fun r22 s21 =>
      if r22 = 0 then
        some (.inl (some (.inl (.int (ic (-1))))), s21)
      else
        am_ct (call 201 [.inl (.ref 100), .inl (.int x2)] s21) am_tx fun r24 s23 =>
        bif tr_nd r24 then
          am_ci (call 16 [.inl (.ref 0), .inl (.ref 103), .inr r24, .inl (.int x1), .inl (.int (ic 40))] s23) am_tx fun r26 s25 =>
          if r26 = 0 then
            some (.inl (some (.inl (.int (ic (-5))))), s25)
          else
            am_ct (call 201 [.inl (.ref 100), .inl (.int x3)] s25) am_tx fun r28 s27 =>
            bif tr_nd r28 then
              am_ci (call 16 [.inl (.ref 0), .inl (.ref 104), .inr r28, .inl (.int x1), .inl (.int (ic 40))] s27) am_tx fun r30 s29 =>
              if r30 = 0 then
                some (.inl (some (.inl (.int (ic (-5))))), s29)
              else
                am_ci (call 65 [.inl (.ref 103), .inl (.ref 104)] s29) am_tx fun r32 s31 =>
                if r32 = 0 then
                  some (.inl (some (.inl (.int (ic 0)))), s31)
                else
                  some (.inl (some (.inl (.int (ic 1)))), s31)
            else none
        else none
theorem dX1_sound_rs (back : cs_bt) (call : cs_ct) (s : cs_S) (x1 : Int32) (x2 : Int32) (x3 : Int32) : (am_r2 back (gX1_sound call)).1 [some (.inl (.ref 0)), some (.inl (.int x1)), some (.inl (.int x2)), some (.inl (.int x3))] [] s = dX1_sound back call s x1 x2 x3 := rfl
theorem dX1_sound_eq (N f : Nat) (s : cs_S) (x1 : Int32) (x2 : Int32) (x3 : Int32) : cs_call N (f + 1) 19 [.inl (.ref 0), .inl (.int x1), .inl (.int x2), .inl (.int x3)] s = dX1_sound (am_bk (cs_hop 1 (cs_call N f)) am_no (some .int) kX1_sound N) (cs_call N f) s x1 x2 x3 := (cs_call_of (mt := 19) (nL := 4) (rt := (some .int)) (code := kX1_sound) rfl rfl rfl rfl rfl gX1_sound_ok ⟨_, _, _, _, rfl⟩).trans (dX1_sound_rs _ _ s x1 x2 x3)
noncomputable def jX1_clear_66 (back : cs_bt) (call : cs_ct) (s : cs_S) (v1 : Int32) (v2 : Int32) (v3 : Int32) (v4 : Int32) (v5 : Int32) (o6 : Option am_V) : am_R cs_S := (am_r2 back (gX1_clear_66 call)).1 [some (.inl (.ref 0)), some (.inl (.int v1)), some (.inl (.int v2)), some (.inl (.int v3)), some (.inl (.int v4)), some (.inl (.int v5)), o6] [] s
noncomputable def jX1_clear_27 (back : cs_bt) (call : cs_ct) (s : cs_S) (v1 : Int32) (v2 : Int32) (v3 : Int32) (o4 : Option am_V) (o5 : Option am_V) (o6 : Option am_V) : am_R cs_S := (am_r2 back (gX1_clear_27 call)).1 [some (.inl (.ref 0)), some (.inl (.int v1)), some (.inl (.int v2)), some (.inl (.int v3)), o4, o5, o6] [] s
theorem jX1_clear_66_eq (back : cs_bt) (call : cs_ct) (s : cs_S) (v1 : Int32) (v2 : Int32) (v3 : Int32) (v4 : Int32) (v5 : Int32) (o6 : Option am_V) : jX1_clear_66 back call s v1 v2 v3 v4 v5 o6 =
  if v3 ≤ v5 then
    back 27 [some (.inl (.ref 0)), some (.inl (.int v1)), some (.inl (.int v2)), some (.inl (.int (v3 + ic 1))), some (.inl (.int v4)), some (.inl (.int v5)), o6] [] s
  else
    am_ct (call 201 [.inl (.ref 106), .inl (.int v5)] s) am_tx fun r29 s28 =>
    bif tr_nd r29 then
      am_ci (call 16 [.inl (.ref 0), .inl (.ref 104), .inr r29, .inl (.int v1), .inl (.int (ic 40))] s28) am_tx fun r31 s30 =>
      am_ci (call 65 [.inl (.ref 103), .inl (.ref 104)] s30) am_tx fun r33 s32 =>
      if r33 = 0 then
        back 66 [some (.inl (.ref 0)), some (.inl (.int v1)), some (.inl (.int v2)), some (.inl (.int v3)), some (.inl (.int v4)), some (.inl (.int (v5 + ic 1))), some (.inl (.int r31))] [] s32
      else
        some (.inl (some (.inl (.int (ic 0)))), s32)
    else none := rfl
theorem jX1_clear_27_eq (back : cs_bt) (call : cs_ct) (s : cs_S) (v1 : Int32) (v2 : Int32) (v3 : Int32) (o4 : Option am_V) (o5 : Option am_V) (o6 : Option am_V) : jX1_clear_27 back call s v1 v2 v3 o4 o5 o6 =
  am_ix (v2 + (ic 1)) 6 fun j34 =>
  if (cs_a s 107 j34) ≤ v3 then
    some (.inl (some (.inl (.int (ic 1)))), s)
  else
    am_ct (call 201 [.inl (.ref 106), .inl (.int v3)] s) am_tx fun r36 s35 =>
    bif tr_nd r36 then
      am_ci (call 16 [.inl (.ref 0), .inl (.ref 103), .inr r36, .inl (.int v1), .inl (.int (ic 40))] s35) am_tx fun r38 s37 =>
      jX1_clear_66 back call s37 v1 v2 v3 r38 (ic 0) o6
    else none := rfl
noncomputable def dX1_clear (back : cs_bt) (call : cs_ct) (s : cs_S) (x1 : Int32) (x2 : Int32) : am_R cs_S :=
  am_ci (call 13 [.inl (.int x1)] s) am_tx fun r40 s39 =>
  if r40 = 0 then
    some (.inl (some (.inl (.int (ic (-1))))), s39)
  else
    am_ci (call 2 [.inl (.long x2.toInt64), .inl (.long (lN 1)), .inl (.long (4))] s39) am_tx fun r42 s41 =>
    if r42 = 0 then
      some (.inl (some (.inl (.int (ic (-1))))), s41)
    else
      am_cv (call 21 [.inl (.ref 0)] s41) am_tx fun s43 =>
      jX1_clear_27 back call s43 x1 x2 (ic 0) none none none
theorem dX1_clear_rs (back : cs_bt) (call : cs_ct) (s : cs_S) (x1 : Int32) (x2 : Int32) : (am_r2 back (gX1_clear call)).1 [some (.inl (.ref 0)), some (.inl (.int x1)), some (.inl (.int x2)), none, none, none, none] [] s = dX1_clear back call s x1 x2 := rfl
theorem dX1_clear_eq (N f : Nat) (s : cs_S) (x1 : Int32) (x2 : Int32) : cs_call N (f + 1) 20 [.inl (.ref 0), .inl (.int x1), .inl (.int x2)] s = dX1_clear (am_bk (cs_hop 1 (cs_call N f)) am_no (some .int) kX1_clear N) (cs_call N f) s x1 x2 := (cs_call_of (mt := 20) (nL := 7) (rt := (some .int)) (code := kX1_clear) rfl rfl rfl rfl rfl gX1_clear_ok ⟨_, _, _, _, rfl⟩).trans (dX1_clear_rs _ _ s x1 x2)
theorem jX1_clear_27_bk (call : cs_ct) (n : Nat) (s : cs_S) (v1 : Int32) (v2 : Int32) (v3 : Int32) (o4 : Option am_V) (o5 : Option am_V) (o6 : Option am_V) : am_bk (cs_hop 1 call) am_no (some .int) kX1_clear (n + 1) 27 [some (.inl (.ref 0)), some (.inl (.int v1)), some (.inl (.int v2)), some (.inl (.int v3)), o4, o5, o6] [] s = jX1_clear_27 (am_bk (cs_hop 1 call) am_no (some .int) kX1_clear n) call s v1 v2 v3 o4 o5 o6 := (am_bk_of rfl (gX1_clear_ok call)).trans rfl
theorem jX1_clear_66_bk (call : cs_ct) (n : Nat) (s : cs_S) (v1 : Int32) (v2 : Int32) (v3 : Int32) (v4 : Int32) (v5 : Int32) (o6 : Option am_V) : am_bk (cs_hop 1 call) am_no (some .int) kX1_clear (n + 1) 66 [some (.inl (.ref 0)), some (.inl (.int v1)), some (.inl (.int v2)), some (.inl (.int v3)), some (.inl (.int v4)), some (.inl (.int v5)), o6] [] s = jX1_clear_66 (am_bk (cs_hop 1 call) am_no (some .int) kX1_clear n) call s v1 v2 v3 v4 v5 o6 := (am_bk_of rfl (gX1_clear_ok call)).trans rfl
noncomputable def jX1_grows_180 (back : cs_bt) (call : cs_ct) (s : cs_S) (v1 : Int32) (v2 : Int32) (v3 : Int32) (v4 : Int32) (v5 : Int32) : am_R cs_S := (am_r2 back (gX1_grows_180 call)).1 [some (.inl (.ref 0)), some (.inl (.int v1)), some (.inl (.int v2)), some (.inl (.int v3)), some (.inl (.int v4)), some (.inl (.int v5))] [] s
noncomputable def jX1_grows_164 (back : cs_bt) (call : cs_ct) (s : cs_S) (v1 : Int32) (v2 : Int32) (v3 : Int32) (v4 : Int32) (o5 : Option am_V) : am_R cs_S := (am_r2 back (gX1_grows_164 call)).1 [some (.inl (.ref 0)), some (.inl (.int v1)), some (.inl (.int v2)), some (.inl (.int v3)), some (.inl (.int v4)), o5] [] s
noncomputable def jX1_grows_140 (back : cs_bt) (call : cs_ct) (s : cs_S) (v1 : Int32) (v2 : Int32) (v3 : Int32) (o4 : Option am_V) (o5 : Option am_V) : am_R cs_S := (am_r2 back (gX1_grows_140 call)).1 [some (.inl (.ref 0)), some (.inl (.int v1)), some (.inl (.int v2)), some (.inl (.int v3)), o4, o5] [] s
noncomputable def jX1_grows_126 (back : cs_bt) (call : cs_ct) (s : cs_S) (v1 : Int32) (v2 : Int32) (o3 : Option am_V) (o4 : Option am_V) (o5 : Option am_V) : am_R cs_S := (am_r2 back (gX1_grows_126 call)).1 [some (.inl (.ref 0)), some (.inl (.int v1)), some (.inl (.int v2)), o3, o4, o5] [] s
noncomputable def jX1_grows_79 (back : cs_bt) (call : cs_ct) (s : cs_S) (v1 : Int32) (v2 : Int32) (v3 : Int32) (o4 : Option am_V) (o5 : Option am_V) : am_R cs_S := (am_r2 back (gX1_grows_79 call)).1 [some (.inl (.ref 0)), some (.inl (.int v1)), some (.inl (.int v2)), some (.inl (.int v3)), o4, o5] [] s
noncomputable def jX1_grows_66 (back : cs_bt) (call : cs_ct) (s : cs_S) (v1 : Int32) (v2 : Int32) (o3 : Option am_V) (o4 : Option am_V) (o5 : Option am_V) : am_R cs_S := (am_r2 back (gX1_grows_66 call)).1 [some (.inl (.ref 0)), some (.inl (.int v1)), some (.inl (.int v2)), o3, o4, o5] [] s
noncomputable def jX1_grows_52 (back : cs_bt) (call : cs_ct) (s : cs_S) (v1 : Int32) (o2 : Option am_V) (o3 : Option am_V) (o4 : Option am_V) (o5 : Option am_V) : am_R cs_S := (am_r2 back (gX1_grows_52 call)).1 [some (.inl (.ref 0)), some (.inl (.int v1)), o2, o3, o4, o5] [] s
noncomputable def jX1_grows_43 (back : cs_bt) (call : cs_ct) (s : cs_S)  : am_R cs_S := (am_r2 back (gX1_grows_43 call)).1 [some (.inl (.ref 0)), none, none, none, none, none] [] s
theorem jX1_grows_180_eq (back : cs_bt) (call : cs_ct) (s : cs_S) (v1 : Int32) (v2 : Int32) (v3 : Int32) (v4 : Int32) (v5 : Int32) : jX1_grows_180 back call s v1 v2 v3 v4 v5 =
  if (ic 6) < v5 then
    back 164 [some (.inl (.ref 0)), some (.inl (.int v1)), some (.inl (.int v2)), some (.inl (.int v3)), some (.inl (.int (v4 + ic 1))), some (.inl (.int v5))] [] s
  else
    am_ct (call 201 [.inl (.ref 106), .inl (.int v3)] s) am_tx fun r52 s51 =>
    bif tr_nd r52 then
      am_ct (call 201 [.inl (.ref 106), .inl (.int v4)] s51) am_tx fun r54 s53 =>
      bif tr_nd r54 then
        am_ct (call 205 [.inl (.int (ic 0)), .inl (.int v5), .inr r52, .inr r54, .inl (.int (ic 0))] s53) am_tx fun r56 s55 =>
        am_ci (call 202 [.inl (.ref 106), .inr r56] s55) am_tx fun r58 s57 =>
        back 180 [some (.inl (.ref 0)), some (.inl (.int v1)), some (.inl (.int v2)), some (.inl (.int v3)), some (.inl (.int v4)), some (.inl (.int (v5 + ic 1)))] [] s57
      else none
    else none := rfl
theorem jX1_grows_164_eq (back : cs_bt) (call : cs_ct) (s : cs_S) (v1 : Int32) (v2 : Int32) (v3 : Int32) (v4 : Int32) (o5 : Option am_V) : jX1_grows_164 back call s v1 v2 v3 v4 o5 =
  am_ix (v1 - v2) 6 fun j59 =>
  if (cs_a s 107 j59) ≤ v4 then
    back 140 [some (.inl (.ref 0)), some (.inl (.int v1)), some (.inl (.int v2)), some (.inl (.int (v3 + ic 1))), some (.inl (.int v4)), o5] [] s
  else
    jX1_grows_180 back call s v1 v2 v3 v4 (ic 2) := rfl
theorem jX1_grows_140_eq (back : cs_bt) (call : cs_ct) (s : cs_S) (v1 : Int32) (v2 : Int32) (v3 : Int32) (o4 : Option am_V) (o5 : Option am_V) : jX1_grows_140 back call s v1 v2 v3 o4 o5 =
  am_ix (v2 + (ic 1)) 6 fun j60 =>
  if (cs_a s 107 j60) ≤ v3 then
    back 126 [some (.inl (.ref 0)), some (.inl (.int v1)), some (.inl (.int (v2 + ic 1))), some (.inl (.int v3)), o4, o5] [] s
  else
    am_ix ((v1 - (ic 1)) - v2) 6 fun j61 =>
    jX1_grows_164 back call s v1 v2 v3 (cs_a s 107 j61) o5 := rfl
theorem jX1_grows_126_eq (back : cs_bt) (call : cs_ct) (s : cs_S) (v1 : Int32) (v2 : Int32) (o3 : Option am_V) (o4 : Option am_V) (o5 : Option am_V) : jX1_grows_126 back call s v1 v2 o3 o4 o5 =
  if (v1 - (ic 1)) ≤ v2 then
    am_ci (call 200 [.inl (.ref 106)] s) am_tx fun r63 s62 =>
    am_ix (v1 + (ic 1)) 6 fun j64 =>
    back 52 [some (.inl (.ref 0)), some (.inl (.int (v1 + ic 1))), some (.inl (.int v2)), o3, o4, o5] [] (cs_pa s62 107 j64 r63)
  else
    am_ix v2 6 fun j65 =>
    jX1_grows_140 back call s v1 v2 (cs_a s 107 j65) o4 o5 := rfl
theorem jX1_grows_79_eq (back : cs_bt) (call : cs_ct) (s : cs_S) (v1 : Int32) (v2 : Int32) (v3 : Int32) (o4 : Option am_V) (o5 : Option am_V) : jX1_grows_79 back call s v1 v2 v3 o4 o5 =
  if (ic 9) < v3 then
    back 66 [some (.inl (.ref 0)), some (.inl (.int v1)), some (.inl (.int (v2 + ic 1))), some (.inl (.int v3)), o4, o5] [] s
  else
    am_ct (call 201 [.inl (.ref 106), .inl (.int v2)] s) am_tx fun r67 s66 =>
    bif tr_nd r67 then
      am_ct (call 205 [.inl (.int (ic 0)), .inl (.int v3), .inr r67, .inr .leaf, .inl (.int (ic 9))] s66) am_tx fun r69 s68 =>
      am_ci (call 202 [.inl (.ref 106), .inr r69] s68) am_tx fun r71 s70 =>
      back 79 [some (.inl (.ref 0)), some (.inl (.int v1)), some (.inl (.int v2)), some (.inl (.int (v3 + ic 1))), o4, o5] [] s70
    else none := rfl
theorem jX1_grows_66_eq (back : cs_bt) (call : cs_ct) (s : cs_S) (v1 : Int32) (v2 : Int32) (o3 : Option am_V) (o4 : Option am_V) (o5 : Option am_V) : jX1_grows_66 back call s v1 v2 o3 o4 o5 =
  am_ix v1 6 fun j72 =>
  if (cs_a s 107 j72) ≤ v2 then
    jX1_grows_126 back call s v1 (ic 1) o3 o4 o5
  else
    jX1_grows_79 back call s v1 v2 (ic 7) o4 o5 := rfl
theorem jX1_grows_52_eq (back : cs_bt) (call : cs_ct) (s : cs_S) (v1 : Int32) (o2 : Option am_V) (o3 : Option am_V) (o4 : Option am_V) (o5 : Option am_V) : jX1_grows_52 back call s v1 o2 o3 o4 o5 =
  if (ic 4) < v1 then
    some (.inl none, s)
  else
    am_ix (v1 - (ic 1)) 6 fun j73 =>
    jX1_grows_66 back call s v1 (cs_a s 107 j73) o3 o4 o5 := rfl
theorem jX1_grows_43_eq (back : cs_bt) (call : cs_ct) (s : cs_S)  : jX1_grows_43 back call s  =
  am_ix (ic 2) 6 fun j74 =>
  jX1_grows_52 back call (cs_pa s 107 j74 (ic 2)) (ic 2) none none none none := by
  have h : ∀ (w w' : Int32) (g : am_G cs_S), (am_r2 back ((43, af_lda 0) :: (44, ca_h (cs_g_r 7)) :: (47, af_ic w) :: (48, af_ic w') :: (49, ca_h (cs_st false)) :: g)).1 [some (.inl (.ref 0)), none, none, none, none, none] [] s = am_ix w 6 fun j => (am_r2 back g).1 [some (.inl (.ref 0)), none, none, none, none, none] [] (cs_pa s 107 j w') := fun _ _ _ => rfl
  have h2 : ∀ (w : Int32) (g : am_G cs_S) (s : cs_S), (am_r2 back ((50, af_ic w) :: (51, af_sti 1) :: g)).1 [some (.inl (.ref 0)), none, none, none, none, none] [] s = (am_r2 back g).1 [some (.inl (.ref 0)), some (.inl (.int w)), none, none, none, none] [] s := fun _ _ _ => rfl
  unfold jX1_grows_43 gX1_grows_43 jX1_grows_52
  rw [h]
  simp only [h2]
noncomputable def dX1_grows (back : cs_bt) (call : cs_ct) (s : cs_S)  : am_R cs_S :=
  am_ci (call 200 [.inl (.ref 106)] s) am_tx fun r76 s75 =>
  if r76 ≤ 0 then
    am_ct (call 205 [.inl (.int (ic 0)), .inl (.int (ic 0)), .inr .leaf, .inr .leaf, .inl (.int (ic 0))] s75) am_tx fun r78 s77 =>
    am_ci (call 202 [.inl (.ref 106), .inr r78] s77) am_tx fun r80 s79 =>
    am_ct (call 205 [.inl (.int (ic 0)), .inl (.int (ic 1)), .inr .leaf, .inr .leaf, .inl (.int (ic 1))] s79) am_tx fun r82 s81 =>
    am_ci (call 202 [.inl (.ref 106), .inr r82] s81) am_tx fun r84 s83 =>
    jX1_grows_43 back call s83
  else
    some (.inl none, s75)
theorem dX1_grows_rs (back : cs_bt) (call : cs_ct) (s : cs_S)  : (am_r2 back (gX1_grows call)).1 [some (.inl (.ref 0)), none, none, none, none, none] [] s = dX1_grows back call s  := by
  have h : ∀ (g : am_G cs_S), (am_r2 back ((0, af_lda 0) :: (1, ca_h (cs_g_r 6)) :: (4, ca_h (cs_cl call 4 200 1 1)) :: (7, af_iff .le 11) :: (10, af_rv none) :: (11, af_lda 0) :: (12, ca_h (cs_g_r 6)) :: (15, af_ic (ic 0)) :: (16, af_ic (ic 0)) :: (17, af_nul) :: (18, af_nul) :: (19, af_ic (ic 0)) :: (20, ca_h (cs_cl call 0 205 5 3)) :: (23, ca_h (cs_cl call 4 202 2 1)) :: (26, af_pop) :: (27, af_lda 0) :: (28, ca_h (cs_g_r 6)) :: (31, af_ic (ic 0)) :: (32, af_ic (ic 1)) :: (33, af_nul) :: (34, af_nul) :: (35, af_ic (ic 1)) :: (36, ca_h (cs_cl call 0 205 5 3)) :: (39, ca_h (cs_cl call 4 202 2 1)) :: (42, af_pop) :: g)).1 [some (.inl (.ref 0)), none, none, none, none, none] [] s =
    (
      am_ci (call 200 [.inl (.ref 106)] s) am_tx fun r76 s75 =>
      if r76 ≤ 0 then
        am_ct (call 205 [.inl (.int (ic 0)), .inl (.int (ic 0)), .inr .leaf, .inr .leaf, .inl (.int (ic 0))] s75) am_tx fun r78 s77 =>
        am_ci (call 202 [.inl (.ref 106), .inr r78] s77) am_tx fun r80 s79 =>
        am_ct (call 205 [.inl (.int (ic 0)), .inl (.int (ic 1)), .inr .leaf, .inr .leaf, .inl (.int (ic 1))] s79) am_tx fun r82 s81 =>
        am_ci (call 202 [.inl (.ref 106), .inr r82] s81) am_tx fun r84 s83 =>
        (am_r2 back g).1 [some (.inl (.ref 0)), none, none, none, none, none] [] s83
      else
        some (.inl none, s75)) := fun _ => rfl
  unfold gX1_grows dX1_grows jX1_grows_43
  exact h _
theorem dX1_grows_eq (N f : Nat) (s : cs_S)  : cs_call N (f + 1) 21 [.inl (.ref 0)] s = dX1_grows (am_bk (cs_hop 1 (cs_call N f)) am_no none kX1_grows N) (cs_call N f) s  := (cs_call_of (mt := 21) (nL := 6) (rt := none) (code := kX1_grows) rfl rfl rfl rfl rfl gX1_grows_ok ⟨_, _, _, _, rfl⟩).trans (dX1_grows_rs _ _ s )
theorem jX1_grows_52_bk (call : cs_ct) (n : Nat) (s : cs_S) (v1 : Int32) (o2 : Option am_V) (o3 : Option am_V) (o4 : Option am_V) (o5 : Option am_V) : am_bk (cs_hop 1 call) am_no none kX1_grows (n + 1) 52 [some (.inl (.ref 0)), some (.inl (.int v1)), o2, o3, o4, o5] [] s = jX1_grows_52 (am_bk (cs_hop 1 call) am_no none kX1_grows n) call s v1 o2 o3 o4 o5 := (am_bk_of rfl (gX1_grows_ok call)).trans rfl
theorem jX1_grows_66_bk (call : cs_ct) (n : Nat) (s : cs_S) (v1 : Int32) (v2 : Int32) (o3 : Option am_V) (o4 : Option am_V) (o5 : Option am_V) : am_bk (cs_hop 1 call) am_no none kX1_grows (n + 1) 66 [some (.inl (.ref 0)), some (.inl (.int v1)), some (.inl (.int v2)), o3, o4, o5] [] s = jX1_grows_66 (am_bk (cs_hop 1 call) am_no none kX1_grows n) call s v1 v2 o3 o4 o5 := (am_bk_of rfl (gX1_grows_ok call)).trans rfl
theorem jX1_grows_79_bk (call : cs_ct) (n : Nat) (s : cs_S) (v1 : Int32) (v2 : Int32) (v3 : Int32) (o4 : Option am_V) (o5 : Option am_V) : am_bk (cs_hop 1 call) am_no none kX1_grows (n + 1) 79 [some (.inl (.ref 0)), some (.inl (.int v1)), some (.inl (.int v2)), some (.inl (.int v3)), o4, o5] [] s = jX1_grows_79 (am_bk (cs_hop 1 call) am_no none kX1_grows n) call s v1 v2 v3 o4 o5 := (am_bk_of rfl (gX1_grows_ok call)).trans rfl
theorem jX1_grows_126_bk (call : cs_ct) (n : Nat) (s : cs_S) (v1 : Int32) (v2 : Int32) (o3 : Option am_V) (o4 : Option am_V) (o5 : Option am_V) : am_bk (cs_hop 1 call) am_no none kX1_grows (n + 1) 126 [some (.inl (.ref 0)), some (.inl (.int v1)), some (.inl (.int v2)), o3, o4, o5] [] s = jX1_grows_126 (am_bk (cs_hop 1 call) am_no none kX1_grows n) call s v1 v2 o3 o4 o5 := (am_bk_of rfl (gX1_grows_ok call)).trans rfl
theorem jX1_grows_140_bk (call : cs_ct) (n : Nat) (s : cs_S) (v1 : Int32) (v2 : Int32) (v3 : Int32) (o4 : Option am_V) (o5 : Option am_V) : am_bk (cs_hop 1 call) am_no none kX1_grows (n + 1) 140 [some (.inl (.ref 0)), some (.inl (.int v1)), some (.inl (.int v2)), some (.inl (.int v3)), o4, o5] [] s = jX1_grows_140 (am_bk (cs_hop 1 call) am_no none kX1_grows n) call s v1 v2 v3 o4 o5 := (am_bk_of rfl (gX1_grows_ok call)).trans rfl
theorem jX1_grows_164_bk (call : cs_ct) (n : Nat) (s : cs_S) (v1 : Int32) (v2 : Int32) (v3 : Int32) (v4 : Int32) (o5 : Option am_V) : am_bk (cs_hop 1 call) am_no none kX1_grows (n + 1) 164 [some (.inl (.ref 0)), some (.inl (.int v1)), some (.inl (.int v2)), some (.inl (.int v3)), some (.inl (.int v4)), o5] [] s = jX1_grows_164 (am_bk (cs_hop 1 call) am_no none kX1_grows n) call s v1 v2 v3 v4 o5 := (am_bk_of rfl (gX1_grows_ok call)).trans rfl
theorem jX1_grows_180_bk (call : cs_ct) (n : Nat) (s : cs_S) (v1 : Int32) (v2 : Int32) (v3 : Int32) (v4 : Int32) (v5 : Int32) : am_bk (cs_hop 1 call) am_no none kX1_grows (n + 1) 180 [some (.inl (.ref 0)), some (.inl (.int v1)), some (.inl (.int v2)), some (.inl (.int v3)), some (.inl (.int v4)), some (.inl (.int v5))] [] s = jX1_grows_180 (am_bk (cs_hop 1 call) am_no none kX1_grows n) call s v1 v2 v3 v4 v5 := (am_bk_of rfl (gX1_grows_ok call)).trans rfl
noncomputable def jX1_hear_61 (back : cs_bt) (call : cs_ct) (s : cs_S) (v1 : Int32) (v2 : Int32) (v3 : Int32) : am_R cs_S := (am_r2 back (gX1_hear_61 call)).1 [some (.inl (.ref 0)), some (.inl (.int v1)), some (.inl (.int v2)), some (.inl (.int v3))] [] s
noncomputable def jX1_hear_16 (back : cs_bt) (call : cs_ct) (s : cs_S) (v1 : Int32) (v2 : Int32) (v3 : Int32) : am_R cs_S := (am_r2 back (gX1_hear_16 call)).1 [some (.inl (.ref 0)), some (.inl (.int v1)), some (.inl (.int v2)), some (.inl (.int v3))] [] s
theorem jX1_hear_61_eq (back : cs_bt) (call : cs_ct) (s : cs_S) (v1 : Int32) (v2 : Int32) (v3 : Int32) : jX1_hear_61 back call s v1 v2 v3 =
  if v3 < 0 then
    some (.inl (some (.inl (.int (cs_i s 9)))), s)
  else
    am_ix (cs_i s 9) 20 fun j6 =>
    back 61 [some (.inl (.ref 0)), some (.inl (.int v1)), some (.inl (.int v2)), some (.inl (.int (v3 + ic (-1))))] [] (cs_pi (cs_pa s 108 j6 ((v2 >>> (((ic 5) * v3) &&& 31)) &&& (ic 31)).toInt8.toInt32.toInt8.toInt32) 9 ((cs_i (cs_pa s 108 j6 ((v2 >>> (((ic 5) * v3) &&& 31)) &&& (ic 31)).toInt8.toInt32.toInt8.toInt32) 9) + (ic 1))) := rfl
theorem jX1_hear_16_eq (back : cs_bt) (call : cs_ct) (s : cs_S) (v1 : Int32) (v2 : Int32) (v3 : Int32) : jX1_hear_16 back call s v1 v2 v3 =
  if v1 ≤ v3 then
    if ((cs_i s 9) + v1) ≤ (ic 20) then
      jX1_hear_61 back call s v1 v2 (v1 - (ic 1))
    else
      some (.inl (some (.inl (.int (ic (-2))))), s)
  else
    am_ci (call 23 [.inl (.int ((v2 >>> (((ic 5) * v3) &&& 31)) &&& (ic 31)))] s) am_tx fun r8 s7 =>
    if r8 = 0 then
      some (.inl (some (.inl (.int (ic (-1))))), s7)
    else
      back 16 [some (.inl (.ref 0)), some (.inl (.int v1)), some (.inl (.int v2)), some (.inl (.int (v3 + ic 1)))] [] s7 := rfl
noncomputable def dX1_hear (back : cs_bt) (call : cs_ct) (s : cs_S) (x1 : Int32) (x2 : Int32) : am_R cs_S :=
  am_ci (call 2 [.inl (.long x1.toInt64), .inl (.long (lN 1)), .inl (.long (5))] s) am_tx fun r10 s9 =>
  if r10 = 0 then
    some (.inl (some (.inl (.int (ic (-1))))), s9)
  else
    jX1_hear_16 back call s9 x1 x2 (ic 0)
theorem dX1_hear_rs (back : cs_bt) (call : cs_ct) (s : cs_S) (x1 : Int32) (x2 : Int32) : (am_r2 back (gX1_hear call)).1 [some (.inl (.ref 0)), some (.inl (.int x1)), some (.inl (.int x2)), none] [] s = dX1_hear back call s x1 x2 := rfl
theorem dX1_hear_eq (N f : Nat) (s : cs_S) (x1 : Int32) (x2 : Int32) : cs_call N (f + 1) 22 [.inl (.ref 0), .inl (.int x1), .inl (.int x2)] s = dX1_hear (am_bk (cs_hop 1 (cs_call N f)) am_no (some .int) kX1_hear N) (cs_call N f) s x1 x2 := (cs_call_of (mt := 22) (nL := 4) (rt := (some .int)) (code := kX1_hear) rfl rfl rfl rfl rfl gX1_hear_ok ⟨_, _, _, _, rfl⟩).trans (dX1_hear_rs _ _ s x1 x2)
theorem jX1_hear_16_bk (call : cs_ct) (n : Nat) (s : cs_S) (v1 : Int32) (v2 : Int32) (v3 : Int32) : am_bk (cs_hop 1 call) am_no (some .int) kX1_hear (n + 1) 16 [some (.inl (.ref 0)), some (.inl (.int v1)), some (.inl (.int v2)), some (.inl (.int v3))] [] s = jX1_hear_16 (am_bk (cs_hop 1 call) am_no (some .int) kX1_hear n) call s v1 v2 v3 := (am_bk_of rfl (gX1_hear_ok call)).trans rfl
theorem jX1_hear_61_bk (call : cs_ct) (n : Nat) (s : cs_S) (v1 : Int32) (v2 : Int32) (v3 : Int32) : am_bk (cs_hop 1 call) am_no (some .int) kX1_hear (n + 1) 61 [some (.inl (.ref 0)), some (.inl (.int v1)), some (.inl (.int v2)), some (.inl (.int v3))] [] s = jX1_hear_61 (am_bk (cs_hop 1 call) am_no (some .int) kX1_hear n) call s v1 v2 v3 := (am_bk_of rfl (gX1_hear_ok call)).trans rfl
noncomputable def dX1_isWord (back : cs_bt) (call : cs_ct) (s : cs_S) (x1 : Int32) : am_R cs_S :=
  am_ci (call 2 [.inl (.long x1.toInt64), .inl (.long (lN 0)), .inl (.long (30))] s) am_tx fun r4 s3 =>
  some (.inl (some (.inl (.int (r4 &&& 1)))), s3)
theorem dX1_isWord_rs (back : cs_bt) (call : cs_ct) (s : cs_S) (x1 : Int32) : (am_r2 back (gX1_isWord call)).1 [some (.inl (.int x1))] [] s = dX1_isWord back call s x1 := rfl
theorem dX1_isWord_eq (N f : Nat) (s : cs_S) (x1 : Int32) : cs_call N (f + 1) 23 [.inl (.int x1)] s = dX1_isWord (am_bk (cs_hop 1 (cs_call N f)) am_no (some .boolean) kX1_isWord N) (cs_call N f) s x1 := (cs_call_of (mt := 23) (nL := 1) (rt := (some .boolean)) (code := kX1_isWord) rfl rfl rfl rfl rfl gX1_isWord_ok ⟨_, _, _, _, rfl⟩).trans (dX1_isWord_rs _ _ s x1)
noncomputable def jX1_listen_59 (back : cs_bt) (call : cs_ct) (s : cs_S) (v1 : Int32) (v2 : Int32) (v3 : Int32) : am_R cs_S := (am_r2 back (gX1_listen_59 call)).1 [some (.inl (.ref 0)), some (.inl (.int v1)), some (.inl (.int v2)), some (.inl (.int v3))] [] s
noncomputable def jX1_listen_59_44 (back : cs_bt) (call : cs_ct) (s : cs_S) (v1 : Int32) (v2 : Int32) (v3 : Int32) : am_R cs_S := (am_r2 back (gX1_listen_44 call)).2 59 [some (.inl (.ref 0)), some (.inl (.int v1)), some (.inl (.int v2)), some (.inl (.int v3))] [] s
theorem jX1_listen_59_44_eq (back : cs_bt) (call : cs_ct) (s : cs_S) (v1 : Int32) (v2 : Int32) (v3 : Int32) : jX1_listen_59_44 back call s v1 v2 v3 = jX1_listen_59 back call s v1 v2 v3 := rfl
noncomputable def jX1_listen_59_56 (back : cs_bt) (call : cs_ct) (s : cs_S) (v1 : Int32) (v2 : Int32) (v3 : Int32) : am_R cs_S := (am_r2 back (gX1_listen_56 call)).2 59 [some (.inl (.ref 0)), some (.inl (.int v1)), some (.inl (.int v2)), some (.inl (.int v3))] [] s
theorem jX1_listen_59_56_eq (back : cs_bt) (call : cs_ct) (s : cs_S) (v1 : Int32) (v2 : Int32) (v3 : Int32) : jX1_listen_59_56 back call s v1 v2 v3 = jX1_listen_59 back call s v1 v2 v3 := rfl
theorem jX1_listen_59_eq (back : cs_bt) (call : cs_ct) (s : cs_S) (v1 : Int32) (v2 : Int32) (v3 : Int32) : jX1_listen_59 back call s v1 v2 v3 =
  if v3 = 0 then
    some (.inl (some (.inl (.int (ic (-5))))), s)
  else
    am_cv (call 25 [.inl (.ref 0), .inl (.ref 103)] s) am_tx fun s10 =>
    some (.inl (some (.inl (.int (cs_i s10 9)))), s10) := rfl
noncomputable def dX1_listen (back : cs_bt) (call : cs_ct) (s : cs_S) (x1 : Int32) (x2 : Int32) : am_R cs_S :=
  am_ci (call 13 [.inl (.int x1)] s) am_tx fun r12 s11 =>
  if r12 = 0 then
    some (.inl (some (.inl (.int (ic (-1))))), s11)
  else
    am_ci (call 5 [.inl (.ref 0), .inl (.int x2)] s11) am_tx fun r14 s13 =>
    if r14 = 0 then
      some (.inl (some (.inl (.int (ic (-1))))), s13)
    else
      am_ct (call 201 [.inl (.ref 100), .inl (.int x2)] s13) am_tx fun r16 s15 =>
      bif tr_nd r16 then
        am_ci (call 16 [.inl (.ref 0), .inl (.ref 103), .inr r16, .inl (.int x1), .inl (.int (ic 40))] s15) am_tx fun r18 s17 =>
        if r18 = 0 then
          jX1_listen_59_44 back call s17 x1 x2 r18
        else
          if (cs_i s17 103) ≤ (ic 20) then
            jX1_listen_59_56 back call s17 x1 x2 r18
          else
            some (.inl (some (.inl (.int (ic (-2))))), s17)
      else none
theorem dX1_listen_rs (back : cs_bt) (call : cs_ct) (s : cs_S) (x1 : Int32) (x2 : Int32) : (am_r2 back (gX1_listen call)).1 [some (.inl (.ref 0)), some (.inl (.int x1)), some (.inl (.int x2)), none] [] s = dX1_listen back call s x1 x2 := rfl
theorem dX1_listen_eq (N f : Nat) (s : cs_S) (x1 : Int32) (x2 : Int32) : cs_call N (f + 1) 24 [.inl (.ref 0), .inl (.int x1), .inl (.int x2)] s = dX1_listen (am_bk (cs_hop 1 (cs_call N f)) am_no (some .int) kX1_listen N) (cs_call N f) s x1 x2 := (cs_call_of (mt := 24) (nL := 4) (rt := (some .int)) (code := kX1_listen) rfl rfl rfl rfl rfl gX1_listen_ok ⟨_, _, _, _, rfl⟩).trans (dX1_listen_rs _ _ s x1 x2)
noncomputable def dX1_takes (back : cs_bt) (call : cs_ct) (s : cs_S) (x1 : Nat) : am_R cs_S :=
  bif cs_isW x1 then
    bif cs_isW x1 then
      cs_cp (x1 + 20) (ic 0) 108 (ic 0) (cs_i s x1) s fun s2 =>
      bif cs_isW x1 then
        some (.inl none, (cs_pi s2 9 (cs_i s2 x1)))
      else none
    else none
  else none
theorem dX1_takes_rs (back : cs_bt) (call : cs_ct) (s : cs_S) (x1 : Nat) : (am_r2 back (gX1_takes call)).1 [some (.inl (.ref 0)), some (.inl (.ref x1))] [] s = dX1_takes back call s x1 := rfl
theorem dX1_takes_eq (N f : Nat) (s : cs_S) (x1 : Nat) : cs_call N (f + 1) 25 [.inl (.ref 0), .inl (.ref x1)] s = dX1_takes (am_bk (cs_hop 1 (cs_call N f)) am_no none kX1_takes N) (cs_call N f) s x1 := (cs_call_of (mt := 25) (nL := 2) (rt := none) (code := kX1_takes) rfl rfl rfl rfl rfl gX1_takes_ok ⟨_, _, _, _, rfl⟩).trans (dX1_takes_rs _ _ s x1)
noncomputable def dX1_hush (back : cs_bt) (call : cs_ct) (s : cs_S)  : am_R cs_S :=
  some (.inl (some (.inl (.int (cs_i s 9)))), (cs_pi s 9 (ic 0)))
theorem dX1_hush_rs (back : cs_bt) (call : cs_ct) (s : cs_S)  : (am_r2 back (gX1_hush call)).1 [some (.inl (.ref 0)), none] [] s = dX1_hush back call s  := rfl
theorem dX1_hush_eq (N f : Nat) (s : cs_S)  : cs_call N (f + 1) 26 [.inl (.ref 0)] s = dX1_hush (am_bk (cs_hop 1 (cs_call N f)) am_no (some .int) kX1_hush N) (cs_call N f) s  := (cs_call_of (mt := 26) (nL := 2) (rt := (some .int)) (code := kX1_hush) rfl rfl rfl rfl rfl gX1_hush_ok ⟨_, _, _, _, rfl⟩).trans (dX1_hush_rs _ _ s )
noncomputable def dX1_ear (back : cs_bt) (call : cs_ct) (s : cs_S) (x1 : Int32) : am_R cs_S :=
  am_ci (call 2 [.inl (.long x1.toInt64), .inl (.long (lN 0)), .inl (.long ((cs_i s 9) - (ic 1)).toInt64)] s) am_tx fun r5 s4 =>
  if r5 = 0 then
    some (.inl (some (.inl (.int (ic (-1))))), s4)
  else
    am_ix x1 20 fun j6 =>
    some (.inl (some (.inl (.int (cs_a s4 108 j6)))), s4)
theorem dX1_ear_rs (back : cs_bt) (call : cs_ct) (s : cs_S) (x1 : Int32) : (am_r2 back (gX1_ear call)).1 [some (.inl (.ref 0)), some (.inl (.int x1))] [] s = dX1_ear back call s x1 := rfl
theorem dX1_ear_eq (N f : Nat) (s : cs_S) (x1 : Int32) : cs_call N (f + 1) 27 [.inl (.ref 0), .inl (.int x1)] s = dX1_ear (am_bk (cs_hop 1 (cs_call N f)) am_no (some .int) kX1_ear N) (cs_call N f) s x1 := (cs_call_of (mt := 27) (nL := 2) (rt := (some .int)) (code := kX1_ear) rfl rfl rfl rfl rfl gX1_ear_ok ⟨_, _, _, _, rfl⟩).trans (dX1_ear_rs _ _ s x1)
noncomputable def jX1_write_75 (back : cs_bt) (call : cs_ct) (s : cs_S) (v1 : Int32) (w2 : Int64) (t4 : Tr) (t5 : Tr) (v6 : Int32) : am_R cs_S := (am_r2 back (gX1_write_75 call)).1 [some (.inl (.ref 0)), some (.inl (.int v1)), some (.inl (.long w2)), none, some (.inr t4), some (.inr t5), some (.inl (.int v6))] [] s
theorem jX1_write_75_eq (back : cs_bt) (call : cs_ct) (s : cs_S) (v1 : Int32) (w2 : Int64) (t4 : Tr) (t5 : Tr) (v6 : Int32) : jX1_write_75 back call s v1 w2 t4 t5 v6 =
  bif cs_rc 4 [.inr t4] then
    am_ci (call 200 [.inr t4] s) am_tx fun r19 s18 =>
    if r19 ≤ v6 then
      bif tr_nd t5 then
        some (.inl (some (.inl (.int (nI (tr_n t5))))), s18)
      else none
    else
      bif cs_rc 4 [.inr t4, .inl (.int v6)] then
        am_ct (call 201 [.inr t4, .inl (.int v6)] s18) am_tx fun r21 s20 =>
        bif tr_nd r21 then
          am_ci (call 202 [.inl (.ref 100), .inr r21] s20) am_tx fun r23 s22 =>
          back 75 [some (.inl (.ref 0)), some (.inl (.int v1)), some (.inl (.long w2)), none, some (.inr t4), some (.inr t5), some (.inl (.int (v6 + ic 1)))] [] s22
        else none
      else none
  else none := rfl
noncomputable def dX1_write (back : cs_bt) (call : cs_ct) (s : cs_S) (x1 : Int32) (x2 : Int64) : am_R cs_S :=
  am_ci (call 29 [.inl (.int x1)] s) am_tx fun r25 s24 =>
  if r25 = 0 then
    some (.inl (some (.inl (.int (ic (-1))))), s24)
  else
    if 0 ≤ (lg_cmp x2 (lN 0)) then
      am_cl (call 30 [.inl (.ref 0), .inl (.int x1)] s24) am_tx fun r27 s26 =>
      if (lg_cmp x2 r27) < 0 then
        bif Nat.ble (cs_y s26).length 500 then
          am_cv (call 204 [.inr (.inner (cs_y s26).length 52 0 .leaf .leaf)] (cs_mk (cs_py s26 (cs_y s26 ++ [0])) 1 3)) am_tx fun s28 =>
          am_ct (call 38 [.inl (.ref 0), .inl (.int (ic 0)), .inl (.int (cs_i s28 9)), .inl (.long x2), .inr (.inner (cs_y s26).length 52 0 .leaf .leaf)] s28) am_tx fun r30 s29 =>
          am_ci (call 200 [.inl (.ref 100)] s29) am_tx fun r32 s31 =>
          am_ci (call 200 [.inr (.inner (cs_y s26).length 52 0 .leaf .leaf)] s31) am_tx fun r34 s33 =>
          if (r32 + r34) ≤ (ic 120) then
            jX1_write_75 back call s33 x1 x2 (.inner (cs_y s26).length 52 0 .leaf .leaf) r30 (ic 0)
          else
            some (.inl (some (.inl (.int (ic (-2))))), s33)
        else none
      else
        some (.inl (some (.inl (.int (ic (-4))))), s26)
    else
      some (.inl (some (.inl (.int (ic (-1))))), s24)
theorem dX1_write_rs (back : cs_bt) (call : cs_ct) (s : cs_S) (x1 : Int32) (x2 : Int64) : (am_r2 back (gX1_write call)).1 [some (.inl (.ref 0)), some (.inl (.int x1)), some (.inl (.long x2)), none, none, none, none] [] s = dX1_write back call s x1 x2 := rfl
theorem dX1_write_eq (N f : Nat) (s : cs_S) (x1 : Int32) (x2 : Int64) : cs_call N (f + 1) 28 [.inl (.ref 0), .inl (.int x1), .inl (.long x2)] s = dX1_write (am_bk (cs_hop 1 (cs_call N f)) am_no (some .int) kX1_write N) (cs_call N f) s x1 x2 := (cs_call_of (mt := 28) (nL := 7) (rt := (some .int)) (code := kX1_write) rfl rfl rfl rfl rfl gX1_write_ok ⟨_, _, _, _, rfl⟩).trans (dX1_write_rs _ _ s x1 x2)
theorem jX1_write_75_bk (call : cs_ct) (n : Nat) (s : cs_S) (v1 : Int32) (w2 : Int64) (t4 : Tr) (t5 : Tr) (v6 : Int32) : am_bk (cs_hop 1 call) am_no (some .int) kX1_write (n + 1) 75 [some (.inl (.ref 0)), some (.inl (.int v1)), some (.inl (.long w2)), none, some (.inr t4), some (.inr t5), some (.inl (.int v6))] [] s = jX1_write_75 (am_bk (cs_hop 1 call) am_no (some .int) kX1_write n) call s v1 w2 t4 t5 v6 := (am_bk_of rfl (gX1_write_ok call)).trans rfl
noncomputable def dX1_isEar (back : cs_bt) (call : cs_ct) (s : cs_S) (x1 : Int32) : am_R cs_S :=
  am_ci (call 2 [.inl (.long x1.toInt64), .inl (.long (lN 0)), .inl (.long (8))] s) am_tx fun r4 s3 =>
  some (.inl (some (.inl (.int (r4 &&& 1)))), s3)
theorem dX1_isEar_rs (back : cs_bt) (call : cs_ct) (s : cs_S) (x1 : Int32) : (am_r2 back (gX1_isEar call)).1 [some (.inl (.int x1))] [] s = dX1_isEar back call s x1 := rfl
theorem dX1_isEar_eq (N f : Nat) (s : cs_S) (x1 : Int32) : cs_call N (f + 1) 29 [.inl (.int x1)] s = dX1_isEar (am_bk (cs_hop 1 (cs_call N f)) am_no (some .boolean) kX1_isEar N) (cs_call N f) s x1 := (cs_call_of (mt := 29) (nL := 1) (rt := (some .boolean)) (code := kX1_isEar) rfl rfl rfl rfl rfl gX1_isEar_ok ⟨_, _, _, _, rfl⟩).trans (dX1_isEar_rs _ _ s x1)
noncomputable def jX1_listens_17 (back : cs_bt) (call : cs_ct) (s : cs_S) (v1 : Int32) (v2 : Int32) (v3 : Int32) : am_R cs_S := (am_r2 back (gX1_listens_17 call)).1 [some (.inl (.ref 0)), some (.inl (.int v1)), some (.inl (.int v2)), some (.inl (.int v3))] [] s
noncomputable def jX1_listens_7 (back : cs_bt) (call : cs_ct) (s : cs_S) (v1 : Int32) (v2 : Int32) (o3 : Option am_V) : am_R cs_S := (am_r2 back (gX1_listens_7 call)).1 [some (.inl (.ref 0)), some (.inl (.int v1)), some (.inl (.int v2)), o3] [] s
theorem jX1_listens_17_eq (back : cs_bt) (call : cs_ct) (s : cs_S) (v1 : Int32) (v2 : Int32) (v3 : Int32) : jX1_listens_17 back call s v1 v2 v3 =
  if (cs_i s 9) < (v3 + v2) then
    back 7 [some (.inl (.ref 0)), some (.inl (.int v1)), some (.inl (.int (v2 + ic 1))), some (.inl (.int v3))] [] s
  else
    am_ix v3 21 fun j9 =>
    am_cl (call 31 [.inl (.ref 0), .inl (.int v3), .inl (.int (v3 + v2))] s) am_tx fun r11 s10 =>
    am_ix (v3 + v2) 21 fun j12 =>
    back 17 [some (.inl (.ref 0)), some (.inl (.int v1)), some (.inl (.int v2)), some (.inl (.int (v3 + ic 1)))] [] (cs_pl s10 j9 j12 r11) := rfl
theorem jX1_listens_7_eq (back : cs_bt) (call : cs_ct) (s : cs_S) (v1 : Int32) (v2 : Int32) (o3 : Option am_V) : jX1_listens_7 back call s v1 v2 o3 =
  if (cs_i s 9) < v2 then
    if (cs_i s 9) = 0 then
      some (.inl (some (.inl (.long (lN 0)))), s)
    else
      am_ix (ic 0) 21 fun j13 =>
      am_ix (cs_i s 9) 21 fun j14 =>
      some (.inl (some (.inl (.long (cs_l s j13 j14)))), s)
  else
    jX1_listens_17 back call s v1 v2 (ic 0) := rfl
noncomputable def dX1_listens (back : cs_bt) (call : cs_ct) (s : cs_S) (x1 : Int32) : am_R cs_S :=
  jX1_listens_7 back call (cs_pi s 11 x1) x1 (ic 1) none
theorem dX1_listens_rs (back : cs_bt) (call : cs_ct) (s : cs_S) (x1 : Int32) : (am_r2 back (gX1_listens call)).1 [some (.inl (.ref 0)), some (.inl (.int x1)), none, none] [] s = dX1_listens back call s x1 := rfl
theorem dX1_listens_eq (N f : Nat) (s : cs_S) (x1 : Int32) : cs_call N (f + 1) 30 [.inl (.ref 0), .inl (.int x1)] s = dX1_listens (am_bk (cs_hop 1 (cs_call N f)) am_no (some .long) kX1_listens N) (cs_call N f) s x1 := (cs_call_of (mt := 30) (nL := 4) (rt := (some .long)) (code := kX1_listens) rfl rfl rfl rfl rfl gX1_listens_ok ⟨_, _, _, _, rfl⟩).trans (dX1_listens_rs _ _ s x1)
theorem jX1_listens_7_bk (call : cs_ct) (n : Nat) (s : cs_S) (v1 : Int32) (v2 : Int32) (o3 : Option am_V) : am_bk (cs_hop 1 call) am_no (some .long) kX1_listens (n + 1) 7 [some (.inl (.ref 0)), some (.inl (.int v1)), some (.inl (.int v2)), o3] [] s = jX1_listens_7 (am_bk (cs_hop 1 call) am_no (some .long) kX1_listens n) call s v1 v2 o3 := (am_bk_of rfl (gX1_listens_ok call)).trans rfl
theorem jX1_listens_17_bk (call : cs_ct) (n : Nat) (s : cs_S) (v1 : Int32) (v2 : Int32) (v3 : Int32) : am_bk (cs_hop 1 call) am_no (some .long) kX1_listens (n + 1) 17 [some (.inl (.ref 0)), some (.inl (.int v1)), some (.inl (.int v2)), some (.inl (.int v3))] [] s = jX1_listens_17 (am_bk (cs_hop 1 call) am_no (some .long) kX1_listens n) call s v1 v2 v3 := (am_bk_of rfl (gX1_listens_ok call)).trans rfl
noncomputable def jX1_span_5 (back : cs_bt) (call : cs_ct) (s : cs_S) (v1 : Int32) (v2 : Int32) (w3 : Int64) (v5 : Int32) : am_R cs_S := (am_r2 back (gX1_span_5 call)).1 [some (.inl (.ref 0)), some (.inl (.int v1)), some (.inl (.int v2)), some (.inl (.long w3)), none, some (.inl (.int v5))] [] s
theorem jX1_span_5_eq (back : cs_bt) (call : cs_ct) (s : cs_S) (v1 : Int32) (v2 : Int32) (w3 : Int64) (v5 : Int32) : jX1_span_5 back call s v1 v2 w3 v5 =
  if (ic 9) < v5 then
    some (.inl (some (.inl (.long w3))), s)
  else
    am_cl (call 32 [.inl (.ref 0), .inl (.int v5), .inl (.int (ic 0)), .inl (.int v1), .inl (.int v2), .inl (.int (ic 0))] s) am_tx fun r6 s5 =>
    am_cl (call 32 [.inl (.ref 0), .inl (.int v5), .inl (.int (ic 1)), .inl (.int v1), .inl (.int v2), .inl (.int (ic 0))] s5) am_tx fun r8 s7 =>
    back 5 [some (.inl (.ref 0)), some (.inl (.int v1)), some (.inl (.int v2)), some (.inl (.long (if ((w3 + r6) + r8) < (1000000000000000) then ((w3 + r6) + r8) else (1000000000000000)))), none, some (.inl (.int (v5 + ic 1)))] [] s7 := rfl
noncomputable def dX1_span (back : cs_bt) (call : cs_ct) (s : cs_S) (x1 : Int32) (x2 : Int32) : am_R cs_S :=
  jX1_span_5 back call s x1 x2 (lN 0) (ic 0)
theorem dX1_span_rs (back : cs_bt) (call : cs_ct) (s : cs_S) (x1 : Int32) (x2 : Int32) : (am_r2 back (gX1_span call)).1 [some (.inl (.ref 0)), some (.inl (.int x1)), some (.inl (.int x2)), none, none, none] [] s = dX1_span back call s x1 x2 := rfl
theorem dX1_span_eq (N f : Nat) (s : cs_S) (x1 : Int32) (x2 : Int32) : cs_call N (f + 1) 31 [.inl (.ref 0), .inl (.int x1), .inl (.int x2)] s = dX1_span (am_bk (cs_hop 1 (cs_call N f)) am_no (some .long) kX1_span N) (cs_call N f) s x1 x2 := (cs_call_of (mt := 31) (nL := 6) (rt := (some .long)) (code := kX1_span) rfl rfl rfl rfl rfl gX1_span_ok ⟨_, _, _, _, rfl⟩).trans (dX1_span_rs _ _ s x1 x2)
theorem jX1_span_5_bk (call : cs_ct) (n : Nat) (s : cs_S) (v1 : Int32) (v2 : Int32) (w3 : Int64) (v5 : Int32) : am_bk (cs_hop 1 call) am_no (some .long) kX1_span (n + 1) 5 [some (.inl (.ref 0)), some (.inl (.int v1)), some (.inl (.int v2)), some (.inl (.long w3)), none, some (.inl (.int v5))] [] s = jX1_span_5 (am_bk (cs_hop 1 call) am_no (some .long) kX1_span n) call s v1 v2 w3 v5 := (am_bk_of rfl (gX1_span_ok call)).trans rfl
noncomputable def dX1_ofKind (back : cs_bt) (call : cs_ct) (s : cs_S) (x1 : Int32) (x2 : Int32) (x3 : Int32) (x4 : Int32) (x5 : Int32) : am_R cs_S :=
  am_ci (call 33 [.inl (.ref 0), .inl (.int x1), .inl (.int x2)] s) am_tx fun r10 s9 =>
  if r10 = 0 then
    some (.inl (some (.inl (.long (lN 0)))), s9)
  else
    if x2 = 0 then
      am_cl (call 34 [.inl (.ref 0), .inl (.int x1), .inl (.int x3), .inl (.int x4), .inl (.int x5)] s9) am_tx fun r16 s15 =>
      some (.inl (some (.inl (.long r16))), s15)
    else
      if x4 ≤ (x3 + (ic 2)) then
        some (.inl (some (.inl (.long (lN 0)))), s9)
      else
        am_ix x3 20 fun j11 =>
        if (cs_a s9 108 j11) = (ic 29) then
          am_ix (x4 - (ic 1)) 20 fun j12 =>
          if (cs_a s9 108 j12) = (ic 30) then
            am_cl (call 34 [.inl (.ref 0), .inl (.int x1), .inl (.int (x3 + (ic 1))), .inl (.int (x4 - (ic 1))), .inl (.int x5)] s9) am_tx fun r14 s13 =>
            some (.inl (some (.inl (.long r14))), s13)
          else
            some (.inl (some (.inl (.long (lN 0)))), s9)
        else
          some (.inl (some (.inl (.long (lN 0)))), s9)
theorem dX1_ofKind_rs (back : cs_bt) (call : cs_ct) (s : cs_S) (x1 : Int32) (x2 : Int32) (x3 : Int32) (x4 : Int32) (x5 : Int32) : (am_r2 back (gX1_ofKind call)).1 [some (.inl (.ref 0)), some (.inl (.int x1)), some (.inl (.int x2)), some (.inl (.int x3)), some (.inl (.int x4)), some (.inl (.int x5))] [] s = dX1_ofKind back call s x1 x2 x3 x4 x5 := rfl
theorem dX1_ofKind_eq (N f : Nat) (s : cs_S) (x1 : Int32) (x2 : Int32) (x3 : Int32) (x4 : Int32) (x5 : Int32) : cs_call N (f + 1) 32 [.inl (.ref 0), .inl (.int x1), .inl (.int x2), .inl (.int x3), .inl (.int x4), .inl (.int x5)] s = dX1_ofKind (am_bk (cs_hop 1 (cs_call N f)) am_no (some .long) kX1_ofKind N) (cs_call N f) s x1 x2 x3 x4 x5 := (cs_call_of (mt := 32) (nL := 6) (rt := (some .long)) (code := kX1_ofKind) rfl rfl rfl rfl rfl gX1_ofKind_ok ⟨_, _, _, _, rfl⟩).trans (dX1_ofKind_rs _ _ s x1 x2 x3 x4 x5)
noncomputable def jX1_mayBe_48 (back : cs_bt) (call : cs_ct) (s : cs_S) (v1 : Int32) (v2 : Int32) (vs0 : Int32) : am_R cs_S := (am_r2 back (gX1_mayBe_48 call)).1 [some (.inl (.ref 0)), some (.inl (.int v1)), some (.inl (.int v2))] [.inl (.int vs0)] s
noncomputable def jX1_mayBe_48_47 (back : cs_bt) (call : cs_ct) (s : cs_S) (v1 : Int32) (v2 : Int32) (vs0 : Int32) : am_R cs_S := (am_r2 back (gX1_mayBe_47 call)).2 48 [some (.inl (.ref 0)), some (.inl (.int v1)), some (.inl (.int v2))] [.inl (.int vs0)] s
theorem jX1_mayBe_48_47_eq (back : cs_bt) (call : cs_ct) (s : cs_S) (v1 : Int32) (v2 : Int32) (vs0 : Int32) : jX1_mayBe_48_47 back call s v1 v2 vs0 = jX1_mayBe_48 back call s v1 v2 vs0 := rfl
theorem jX1_mayBe_48_eq (back : cs_bt) (call : cs_ct) (s : cs_S) (v1 : Int32) (v2 : Int32) (vs0 : Int32) : jX1_mayBe_48 back call s v1 v2 vs0 =
  if vs0 = v2 then
    some (.inl (some (.inl (.int ((ic 1) &&& 1)))), s)
  else
    some (.inl (some (.inl (.int ((ic 0) &&& 1)))), s) := rfl
noncomputable def dX1_mayBe (back : cs_bt) (call : cs_ct) (s : cs_S) (x1 : Int32) (x2 : Int32) : am_R cs_S :=
  am_ci (call 14 [.inl (.int x1)] s) am_tx fun r5 s4 =>
  if r5 = 0 then
    if x2 = 0 then
      some (.inl (some (.inl (.int ((ic 1) &&& 1)))), s4)
    else
      some (.inl (some (.inl (.int ((ic 0) &&& 1)))), s4)
  else
    if (cs_i s4 11) = (ic 8) then
      some (.inl (some (.inl (.int ((ic 1) &&& 1)))), s4)
    else
      am_ix (cs_i s4 11) 8 fun j6 =>
      if (((cs_a s4 102 j6) >>> (x1 &&& 31)) &&& (ic 1)) = (ic 1) then
        jX1_mayBe_48_47 back call s4 x1 x2 (ic 1)
      else
        jX1_mayBe_48 back call s4 x1 x2 (ic 0)
theorem dX1_mayBe_rs (back : cs_bt) (call : cs_ct) (s : cs_S) (x1 : Int32) (x2 : Int32) : (am_r2 back (gX1_mayBe call)).1 [some (.inl (.ref 0)), some (.inl (.int x1)), some (.inl (.int x2))] [] s = dX1_mayBe back call s x1 x2 := rfl
theorem dX1_mayBe_eq (N f : Nat) (s : cs_S) (x1 : Int32) (x2 : Int32) : cs_call N (f + 1) 33 [.inl (.ref 0), .inl (.int x1), .inl (.int x2)] s = dX1_mayBe (am_bk (cs_hop 1 (cs_call N f)) am_no (some .boolean) kX1_mayBe N) (cs_call N f) s x1 x2 := (cs_call_of (mt := 33) (nL := 3) (rt := (some .boolean)) (code := kX1_mayBe) rfl rfl rfl rfl rfl gX1_mayBe_ok ⟨_, _, _, _, rfl⟩).trans (dX1_mayBe_rs _ _ s x1 x2)
noncomputable def jX1_plain_273 (back : cs_bt) (call : cs_ct) (s : cs_S) (v1 : Int32) (v2 : Int32) (v3 : Int32) (v4 : Int32) (w5 : Int64) (v7 : Int32) : am_R cs_S := (am_r2 back (gX1_plain_273 call)).1 [some (.inl (.ref 0)), some (.inl (.int v1)), some (.inl (.int v2)), some (.inl (.int v3)), some (.inl (.int v4)), some (.inl (.long w5)), none, some (.inl (.int v7))] [] s
noncomputable def jX1_plain_239 (back : cs_bt) (call : cs_ct) (s : cs_S) (v1 : Int32) (v2 : Int32) (v3 : Int32) (v4 : Int32) (w5 : Int64) (v7 : Int32) : am_R cs_S := (am_r2 back (gX1_plain_239 call)).1 [some (.inl (.ref 0)), some (.inl (.int v1)), some (.inl (.int v2)), some (.inl (.int v3)), some (.inl (.int v4)), some (.inl (.long w5)), none, some (.inl (.int v7))] [] s
noncomputable def jX1_plain_198 (back : cs_bt) (call : cs_ct) (s : cs_S) (v1 : Int32) (v2 : Int32) (v3 : Int32) (v4 : Int32) (w5 : Int64) (v7 : Int32) : am_R cs_S := (am_r2 back (gX1_plain_198 call)).1 [some (.inl (.ref 0)), some (.inl (.int v1)), some (.inl (.int v2)), some (.inl (.int v3)), some (.inl (.int v4)), some (.inl (.long w5)), none, some (.inl (.int v7))] [] s
noncomputable def jX1_plain_239_227 (back : cs_bt) (call : cs_ct) (s : cs_S) (v1 : Int32) (v2 : Int32) (v3 : Int32) (v4 : Int32) (w5 : Int64) (v7 : Int32) : am_R cs_S := (am_r2 back (gX1_plain_227 call)).2 239 [some (.inl (.ref 0)), some (.inl (.int v1)), some (.inl (.int v2)), some (.inl (.int v3)), some (.inl (.int v4)), some (.inl (.long w5)), none, some (.inl (.int v7))] [] s
theorem jX1_plain_239_227_eq (back : cs_bt) (call : cs_ct) (s : cs_S) (v1 : Int32) (v2 : Int32) (v3 : Int32) (v4 : Int32) (w5 : Int64) (v7 : Int32) : jX1_plain_239_227 back call s v1 v2 v3 v4 w5 v7 = jX1_plain_239 back call s v1 v2 v3 v4 w5 v7 := rfl
noncomputable def jX1_plain_239_236 (back : cs_bt) (call : cs_ct) (s : cs_S) (v1 : Int32) (v2 : Int32) (v3 : Int32) (v4 : Int32) (w5 : Int64) (v7 : Int32) : am_R cs_S := (am_r2 back (gX1_plain_236 call)).2 239 [some (.inl (.ref 0)), some (.inl (.int v1)), some (.inl (.int v2)), some (.inl (.int v3)), some (.inl (.int v4)), some (.inl (.long w5)), none, some (.inl (.int v7))] [] s
theorem jX1_plain_239_236_eq (back : cs_bt) (call : cs_ct) (s : cs_S) (v1 : Int32) (v2 : Int32) (v3 : Int32) (v4 : Int32) (w5 : Int64) (v7 : Int32) : jX1_plain_239_236 back call s v1 v2 v3 v4 w5 v7 = jX1_plain_239 back call s v1 v2 v3 v4 w5 v7 := rfl
noncomputable def jX1_plain_273_222 (back : cs_bt) (call : cs_ct) (s : cs_S) (v1 : Int32) (v2 : Int32) (v3 : Int32) (v4 : Int32) (w5 : Int64) (v7 : Int32) : am_R cs_S := (am_r2 back (gX1_plain_222 call)).2 273 [some (.inl (.ref 0)), some (.inl (.int v1)), some (.inl (.int v2)), some (.inl (.int v3)), some (.inl (.int v4)), some (.inl (.long w5)), none, some (.inl (.int v7))] [] s
theorem jX1_plain_273_222_eq (back : cs_bt) (call : cs_ct) (s : cs_S) (v1 : Int32) (v2 : Int32) (v3 : Int32) (v4 : Int32) (w5 : Int64) (v7 : Int32) : jX1_plain_273_222 back call s v1 v2 v3 v4 w5 v7 = jX1_plain_273 back call s v1 v2 v3 v4 w5 v7 := rfl
noncomputable def jX1_plain_273_239 (back : cs_bt) (call : cs_ct) (s : cs_S) (v1 : Int32) (v2 : Int32) (v3 : Int32) (v4 : Int32) (w5 : Int64) (v7 : Int32) : am_R cs_S := (am_r2 back (gX1_plain_239 call)).2 273 [some (.inl (.ref 0)), some (.inl (.int v1)), some (.inl (.int v2)), some (.inl (.int v3)), some (.inl (.int v4)), some (.inl (.long w5)), none, some (.inl (.int v7))] [] s
theorem jX1_plain_273_239_eq (back : cs_bt) (call : cs_ct) (s : cs_S) (v1 : Int32) (v2 : Int32) (v3 : Int32) (v4 : Int32) (w5 : Int64) (v7 : Int32) : jX1_plain_273_239 back call s v1 v2 v3 v4 w5 v7 = jX1_plain_273 back call s v1 v2 v3 v4 w5 v7 := rfl
theorem jX1_plain_273_eq (back : cs_bt) (call : cs_ct) (s : cs_S) (v1 : Int32) (v2 : Int32) (v3 : Int32) (v4 : Int32) (w5 : Int64) (v7 : Int32) : jX1_plain_273 back call s v1 v2 v3 v4 w5 v7 =
  back 198 [some (.inl (.ref 0)), some (.inl (.int v1)), some (.inl (.int v2)), some (.inl (.int v3)), some (.inl (.int v4)), some (.inl (.long w5)), none, some (.inl (.int (v7 + ic 1)))] [] s := rfl
theorem jX1_plain_239_eq (back : cs_bt) (call : cs_ct) (s : cs_S) (v1 : Int32) (v2 : Int32) (v3 : Int32) (v4 : Int32) (w5 : Int64) (v7 : Int32) : jX1_plain_239 back call s v1 v2 v3 v4 w5 v7 =
  am_ix v2 21 fun j24 =>
  am_ix v7 21 fun j25 =>
  am_ix (v7 + (ic 1)) 21 fun j26 =>
  am_ix v3 21 fun j27 =>
  am_cl (call 37 [.inl (.long (cs_l s j24 j25)), .inl (.long (cs_l s j26 j27))] s) am_tx fun r29 s28 =>
  jX1_plain_273 back call s28 v1 v2 v3 v4 (if (w5 + r29) < (1000000000000000) then (w5 + r29) else (1000000000000000)) v7 := rfl
theorem jX1_plain_198_eq (back : cs_bt) (call : cs_ct) (s : cs_S) (v1 : Int32) (v2 : Int32) (v3 : Int32) (v4 : Int32) (w5 : Int64) (v7 : Int32) : jX1_plain_198 back call s v1 v2 v3 v4 w5 v7 =
  if v3 ≤ (v7 + (ic 1)) then
    some (.inl (some (.inl (.long w5))), s)
  else
    am_ix v7 20 fun j30 =>
    if (cs_a s 108 j30) = (((ic 20) + v1) - (ic 2)) then
      if v4 = 0 then
        jX1_plain_239_227 back call s v1 v2 v3 v4 w5 v7
      else
        if (v7 - v2) = v4 then
          jX1_plain_239_236 back call s v1 v2 v3 v4 w5 v7
        else
          jX1_plain_273_239 back call s v1 v2 v3 v4 w5 v7
    else
      jX1_plain_273_222 back call s v1 v2 v3 v4 w5 v7 := rfl
noncomputable def dX1_plain (back : cs_bt) (call : cs_ct) (s : cs_S) (x1 : Int32) (x2 : Int32) (x3 : Int32) (x4 : Int32) : am_R cs_S :=
  if x1 = 0 then
    if x3 = (x2 + (ic 1)) then
      am_ci (call 35 [.inl (.ref 0), .inl (.int x2), .inl (.int (ic 0))] s) am_tx fun r46 s45 =>
      if r46 = 0 then
        some (.inl (some (.inl (.long (lN 0)))), s45)
      else
        some (.inl (some (.inl (.long (lN 1)))), s45)
    else
      some (.inl (some (.inl (.long (lN 0)))), s)
  else
    if x1 = (ic 1) then
      am_ci (call 36 [.inl (.ref 0), .inl (.int x2), .inl (.int x3)] s) am_tx fun r44 s43 =>
      if r44 = (ic (-1)) then
        some (.inl (some (.inl (.long (lN 0)))), s43)
      else
        some (.inl (some (.inl (.long (lN 1)))), s43)
    else
      if x1 = (ic 7) then
        if x3 ≤ (x2 + (ic 1)) then
          some (.inl (some (.inl (.long (lN 0)))), s)
        else
          am_ix x2 20 fun j40 =>
          if (cs_a s 108 j40) = (ic 25) then
            am_ix (x2 + (ic 1)) 21 fun j41 =>
            am_ix x3 21 fun j42 =>
            some (.inl (some (.inl (.long (cs_l s j41 j42)))), s)
          else
            some (.inl (some (.inl (.long (lN 0)))), s)
      else
        if x1 = (ic 8) then
          if x3 ≤ (x2 + (ic 2)) then
            some (.inl (some (.inl (.long (lN 0)))), s)
          else
            am_ix x2 20 fun j36 =>
            if (cs_a s 108 j36) = (ic 26) then
              am_ix (x3 - (ic 1)) 20 fun j37 =>
              if (cs_a s 108 j37) = (ic 27) then
                am_ix (x2 + (ic 1)) 21 fun j38 =>
                am_ix (x3 - (ic 1)) 21 fun j39 =>
                some (.inl (some (.inl (.long (cs_l s j38 j39)))), s)
              else
                some (.inl (some (.inl (.long (lN 0)))), s)
            else
              some (.inl (some (.inl (.long (lN 0)))), s)
        else
          if x1 = (ic 9) then
            if x3 ≤ (x2 + (ic 2)) then
              some (.inl (some (.inl (.long (lN 0)))), s)
            else
              am_ci (call 35 [.inl (.ref 0), .inl (.int x2), .inl (.int (ic 1))] s) am_tx fun r32 s31 =>
              if r32 = 0 then
                some (.inl (some (.inl (.long (lN 0)))), s31)
              else
                am_ix (x2 + (ic 1)) 20 fun j33 =>
                if (cs_a s31 108 j33) = (ic 28) then
                  am_ix (x2 + (ic 2)) 21 fun j34 =>
                  am_ix x3 21 fun j35 =>
                  some (.inl (some (.inl (.long (cs_l s31 j34 j35)))), s31)
                else
                  some (.inl (some (.inl (.long (lN 0)))), s31)
          else
            jX1_plain_198 back call s x1 x2 x3 x4 (lN 0) (x2 + (ic 1))
theorem dX1_plain_rs (back : cs_bt) (call : cs_ct) (s : cs_S) (x1 : Int32) (x2 : Int32) (x3 : Int32) (x4 : Int32) : (am_r2 back (gX1_plain call)).1 [some (.inl (.ref 0)), some (.inl (.int x1)), some (.inl (.int x2)), some (.inl (.int x3)), some (.inl (.int x4)), none, none, none] [] s = dX1_plain back call s x1 x2 x3 x4 := rfl
theorem dX1_plain_eq (N f : Nat) (s : cs_S) (x1 : Int32) (x2 : Int32) (x3 : Int32) (x4 : Int32) : cs_call N (f + 1) 34 [.inl (.ref 0), .inl (.int x1), .inl (.int x2), .inl (.int x3), .inl (.int x4)] s = dX1_plain (am_bk (cs_hop 1 (cs_call N f)) am_no (some .long) kX1_plain N) (cs_call N f) s x1 x2 x3 x4 := (cs_call_of (mt := 34) (nL := 8) (rt := (some .long)) (code := kX1_plain) rfl rfl rfl rfl rfl gX1_plain_ok ⟨_, _, _, _, rfl⟩).trans (dX1_plain_rs _ _ s x1 x2 x3 x4)
theorem jX1_plain_198_bk (call : cs_ct) (n : Nat) (s : cs_S) (v1 : Int32) (v2 : Int32) (v3 : Int32) (v4 : Int32) (w5 : Int64) (v7 : Int32) : am_bk (cs_hop 1 call) am_no (some .long) kX1_plain (n + 1) 198 [some (.inl (.ref 0)), some (.inl (.int v1)), some (.inl (.int v2)), some (.inl (.int v3)), some (.inl (.int v4)), some (.inl (.long w5)), none, some (.inl (.int v7))] [] s = jX1_plain_198 (am_bk (cs_hop 1 call) am_no (some .long) kX1_plain n) call s v1 v2 v3 v4 w5 v7 := (am_bk_of rfl (gX1_plain_ok call)).trans rfl
noncomputable def jX1_isLetter_33 (back : cs_bt) (call : cs_ct) (s : cs_S) (v1 : Int32) (v2 : Int32) (vs0 : Int32) (vs1 : Int32) : am_R cs_S := (am_r2 back (gX1_isLetter_33 call)).1 [some (.inl (.ref 0)), some (.inl (.int v1)), some (.inl (.int v2))] [.inl (.int vs0), .inl (.int vs1)] s
noncomputable def jX1_isLetter_33_32 (back : cs_bt) (call : cs_ct) (s : cs_S) (v1 : Int32) (v2 : Int32) (vs0 : Int32) (vs1 : Int32) : am_R cs_S := (am_r2 back (gX1_isLetter_32 call)).2 33 [some (.inl (.ref 0)), some (.inl (.int v1)), some (.inl (.int v2))] [.inl (.int vs0), .inl (.int vs1)] s
theorem jX1_isLetter_33_32_eq (back : cs_bt) (call : cs_ct) (s : cs_S) (v1 : Int32) (v2 : Int32) (vs0 : Int32) (vs1 : Int32) : jX1_isLetter_33_32 back call s v1 v2 vs0 vs1 = jX1_isLetter_33 back call s v1 v2 vs0 vs1 := rfl
theorem jX1_isLetter_33_eq (back : cs_bt) (call : cs_ct) (s : cs_S) (v1 : Int32) (v2 : Int32) (vs0 : Int32) (vs1 : Int32) : jX1_isLetter_33 back call s v1 v2 vs0 vs1 =
  if vs1 = vs0 then
    some (.inl (some (.inl (.int ((ic 1) &&& 1)))), s)
  else
    some (.inl (some (.inl (.int ((ic 0) &&& 1)))), s) := rfl
noncomputable def dX1_isLetter (back : cs_bt) (call : cs_ct) (s : cs_S) (x1 : Int32) (x2 : Int32) : am_R cs_S :=
  am_ix x1 20 fun j3 =>
  if (ic 10) ≤ (cs_a s 108 j3) then
    some (.inl (some (.inl (.int ((ic 0) &&& 1)))), s)
  else
    am_ix x1 20 fun j4 =>
    if x2 = 0 then
      jX1_isLetter_33 back call s x1 x2 (ic 0) (((cs_i s 1) >>> ((cs_a s 108 j4) &&& 31)) &&& (ic 1))
    else
      jX1_isLetter_33_32 back call s x1 x2 (ic 1) (((cs_i s 1) >>> ((cs_a s 108 j4) &&& 31)) &&& (ic 1))
theorem dX1_isLetter_rs (back : cs_bt) (call : cs_ct) (s : cs_S) (x1 : Int32) (x2 : Int32) : (am_r2 back (gX1_isLetter call)).1 [some (.inl (.ref 0)), some (.inl (.int x1)), some (.inl (.int x2))] [] s = dX1_isLetter back call s x1 x2 := rfl
theorem dX1_isLetter_eq (N f : Nat) (s : cs_S) (x1 : Int32) (x2 : Int32) : cs_call N (f + 1) 35 [.inl (.ref 0), .inl (.int x1), .inl (.int x2)] s = dX1_isLetter (am_bk (cs_hop 1 (cs_call N f)) am_no (some .boolean) kX1_isLetter N) (cs_call N f) s x1 x2 := (cs_call_of (mt := 35) (nL := 3) (rt := (some .boolean)) (code := kX1_isLetter) rfl rfl rfl rfl rfl gX1_isLetter_ok ⟨_, _, _, _, rfl⟩).trans (dX1_isLetter_rs _ _ s x1 x2)
noncomputable def jX1_numberOf_5 (back : cs_bt) (call : cs_ct) (s : cs_S) (v1 : Int32) (v2 : Int32) (v3 : Int32) (v4 : Int32) : am_R cs_S := (am_r2 back (gX1_numberOf_5 call)).1 [some (.inl (.ref 0)), some (.inl (.int v1)), some (.inl (.int v2)), some (.inl (.int v3)), some (.inl (.int v4))] [] s
theorem jX1_numberOf_5_eq (back : cs_bt) (call : cs_ct) (s : cs_S) (v1 : Int32) (v2 : Int32) (v3 : Int32) (v4 : Int32) : jX1_numberOf_5 back call s v1 v2 v3 v4 =
  if v2 ≤ v4 then
    if (ic 4) < (v2 - v1) then
      some (.inl (some (.inl (.int (ic (-1))))), s)
    else
      if (v2 - v1) ≤ (ic 1) then
        some (.inl (some (.inl (.int v3))), s)
      else
        am_ix v1 20 fun j5 =>
        if (cs_a s 108 j5) = (ic 10) then
          some (.inl (some (.inl (.int (ic (-1))))), s)
        else
          some (.inl (some (.inl (.int v3))), s)
  else
    am_ix v4 20 fun j6 =>
    if (cs_a s 108 j6) < (ic 10) then
      some (.inl (some (.inl (.int (ic (-1))))), s)
    else
      am_ix v4 20 fun j7 =>
      if (cs_a s 108 j7) ≤ (ic 19) then
        am_ix v4 20 fun j8 =>
        back 5 [some (.inl (.ref 0)), some (.inl (.int v1)), some (.inl (.int v2)), some (.inl (.int ((((ic 10) * v3) + (cs_a s 108 j8)) - (ic 10)))), some (.inl (.int (v4 + ic 1)))] [] s
      else
        some (.inl (some (.inl (.int (ic (-1))))), s) := rfl
noncomputable def dX1_numberOf (back : cs_bt) (call : cs_ct) (s : cs_S) (x1 : Int32) (x2 : Int32) : am_R cs_S :=
  jX1_numberOf_5 back call s x1 x2 (ic 0) x1
theorem dX1_numberOf_rs (back : cs_bt) (call : cs_ct) (s : cs_S) (x1 : Int32) (x2 : Int32) : (am_r2 back (gX1_numberOf call)).1 [some (.inl (.ref 0)), some (.inl (.int x1)), some (.inl (.int x2)), none, none] [] s = dX1_numberOf back call s x1 x2 := rfl
theorem dX1_numberOf_eq (N f : Nat) (s : cs_S) (x1 : Int32) (x2 : Int32) : cs_call N (f + 1) 36 [.inl (.ref 0), .inl (.int x1), .inl (.int x2)] s = dX1_numberOf (am_bk (cs_hop 1 (cs_call N f)) am_no (some .int) kX1_numberOf N) (cs_call N f) s x1 x2 := (cs_call_of (mt := 36) (nL := 5) (rt := (some .int)) (code := kX1_numberOf) rfl rfl rfl rfl rfl gX1_numberOf_ok ⟨_, _, _, _, rfl⟩).trans (dX1_numberOf_rs _ _ s x1 x2)
theorem jX1_numberOf_5_bk (call : cs_ct) (n : Nat) (s : cs_S) (v1 : Int32) (v2 : Int32) (v3 : Int32) (v4 : Int32) : am_bk (cs_hop 1 call) am_no (some .int) kX1_numberOf (n + 1) 5 [some (.inl (.ref 0)), some (.inl (.int v1)), some (.inl (.int v2)), some (.inl (.int v3)), some (.inl (.int v4))] [] s = jX1_numberOf_5 (am_bk (cs_hop 1 call) am_no (some .int) kX1_numberOf n) call s v1 v2 v3 v4 := (am_bk_of rfl (gX1_numberOf_ok call)).trans rfl
noncomputable def dX1_times_2 (back : cs_bt) (call : cs_ct) (s : cs_S) (x1 : Int64) (x2 : Int64) : am_R cs_S :=
  if (lg_cmp x1 (lN 0)) = 0 then
    some (.inl (some (.inl (.long (lN 0)))), s)
  else
    if (lg_cmp x2 (lN 0)) = 0 then
      some (.inl (some (.inl (.long (lN 0)))), s)
    else
      am_dzl x2 (if (lg_cmp x1 ((1000000000000000) / x2)) ≤ 0 then
        some (.inl (some (.inl (.long (x1 * x2)))), s)
      else
        some (.inl (some (.inl (.long (1000000000000000)))), s))
theorem dX1_times_2_rs (back : cs_bt) (call : cs_ct) (s : cs_S) (x1 : Int64) (x2 : Int64) : (am_r2 back (gX1_times_2 call)).1 [some (.inl (.long x1)), none, some (.inl (.long x2)), none] [] s = dX1_times_2 back call s x1 x2 := rfl
theorem dX1_times_2_eq (N f : Nat) (s : cs_S) (x1 : Int64) (x2 : Int64) : cs_call N (f + 1) 37 [.inl (.long x1), .inl (.long x2)] s = dX1_times_2 (am_bk (cs_hop 1 (cs_call N f)) am_no (some .long) kX1_times_2 N) (cs_call N f) s x1 x2 := (cs_call_of (mt := 37) (nL := 4) (rt := (some .long)) (code := kX1_times_2) rfl rfl rfl rfl rfl gX1_times_2_ok ⟨_, _, _, _, rfl⟩).trans (dX1_times_2_rs _ _ s x1 x2)
noncomputable def jX1_reading_98 (back : cs_bt) (call : cs_ct) (s : cs_S) (v1 : Int32) (v2 : Int32) (w3 : Int64) (t5 : Tr) (w6 : Int64) (v8 : Int32) (v9 : Int32) (v10 : Int32) (v11 : Int32) (o12 : Option am_V) (ws0 : Int64) : am_R cs_S := (am_r2 back (gX1_reading_98 call)).1 [some (.inl (.ref 0)), some (.inl (.int v1)), some (.inl (.int v2)), some (.inl (.long w3)), none, some (.inr t5), some (.inl (.long w6)), none, some (.inl (.int v8)), some (.inl (.int v9)), some (.inl (.int v10)), some (.inl (.int v11)), o12, none] [.inl (.long ws0)] s
noncomputable def jX1_reading_95 (back : cs_bt) (call : cs_ct) (s : cs_S) (v1 : Int32) (v2 : Int32) (w3 : Int64) (t5 : Tr) (w6 : Int64) (v8 : Int32) (v9 : Int32) (v10 : Int32) (v11 : Int32) (o12 : Option am_V) (vs0 : Int32) (vs1 : Int32) (vs2 : Int32) (vs3 : Int32) (vs4 : Int32) : am_R cs_S := (am_r2 back (gX1_reading_95 call)).1 [some (.inl (.ref 0)), some (.inl (.int v1)), some (.inl (.int v2)), some (.inl (.long w3)), none, some (.inr t5), some (.inl (.long w6)), none, some (.inl (.int v8)), some (.inl (.int v9)), some (.inl (.int v10)), some (.inl (.int v11)), o12, none] [.inl (.int vs0), .inl (.int vs1), .inl (.int vs2), .inl (.int vs3), .inl (.int vs4), .inl (.ref 0)] s
noncomputable def jX1_reading_82 (back : cs_bt) (call : cs_ct) (s : cs_S) (v1 : Int32) (v2 : Int32) (w3 : Int64) (t5 : Tr) (w6 : Int64) (v8 : Int32) (v9 : Int32) (v10 : Int32) (v11 : Int32) (o12 : Option am_V) (vs0 : Int32) (vs1 : Int32) : am_R cs_S := (am_r2 back (gX1_reading_82 call)).1 [some (.inl (.ref 0)), some (.inl (.int v1)), some (.inl (.int v2)), some (.inl (.long w3)), none, some (.inr t5), some (.inl (.long w6)), none, some (.inl (.int v8)), some (.inl (.int v9)), some (.inl (.int v10)), some (.inl (.int v11)), o12, none] [.inl (.int vs0), .inl (.int vs1), .inl (.ref 0)] s
noncomputable def jX1_reading_68 (back : cs_bt) (call : cs_ct) (s : cs_S) (v1 : Int32) (v2 : Int32) (w3 : Int64) (t5 : Tr) (w6 : Int64) (v8 : Int32) (v9 : Int32) (v10 : Int32) (v11 : Int32) (o12 : Option am_V) : am_R cs_S := (am_r2 back (gX1_reading_68 call)).1 [some (.inl (.ref 0)), some (.inl (.int v1)), some (.inl (.int v2)), some (.inl (.long w3)), none, some (.inr t5), some (.inl (.long w6)), none, some (.inl (.int v8)), some (.inl (.int v9)), some (.inl (.int v10)), some (.inl (.int v11)), o12, none] [] s
noncomputable def jX1_reading_51 (back : cs_bt) (call : cs_ct) (s : cs_S) (v1 : Int32) (v2 : Int32) (w3 : Int64) (t5 : Tr) (w6 : Int64) (v8 : Int32) (v9 : Int32) (v10 : Int32) (o11 : Option am_V) (o12 : Option am_V) (vs0 : Int32) : am_R cs_S := (am_r2 back (gX1_reading_51 call)).1 [some (.inl (.ref 0)), some (.inl (.int v1)), some (.inl (.int v2)), some (.inl (.long w3)), none, some (.inr t5), some (.inl (.long w6)), none, some (.inl (.int v8)), some (.inl (.int v9)), some (.inl (.int v10)), o11, o12, none] [.inl (.int vs0)] s
noncomputable def jX1_reading_50 (back : cs_bt) (call : cs_ct) (s : cs_S) (v1 : Int32) (v2 : Int32) (w3 : Int64) (t5 : Tr) (w6 : Int64) (v8 : Int32) (v9 : Int32) (v10 : Int32) (o11 : Option am_V) (o12 : Option am_V) : am_R cs_S := (am_r2 back (gX1_reading_50 call)).1 [some (.inl (.ref 0)), some (.inl (.int v1)), some (.inl (.int v2)), some (.inl (.long w3)), none, some (.inr t5), some (.inl (.long w6)), none, some (.inl (.int v8)), some (.inl (.int v9)), some (.inl (.int v10)), o11, o12, none] [] s
noncomputable def jX1_reading_25 (back : cs_bt) (call : cs_ct) (s : cs_S) (v1 : Int32) (v2 : Int32) (w3 : Int64) (t5 : Tr) (w6 : Int64) (v8 : Int32) (v9 : Int32) (v10 : Int32) (o11 : Option am_V) (o12 : Option am_V) : am_R cs_S := (am_r2 back (gX1_reading_25 call)).1 [some (.inl (.ref 0)), some (.inl (.int v1)), some (.inl (.int v2)), some (.inl (.long w3)), none, some (.inr t5), some (.inl (.long w6)), none, some (.inl (.int v8)), some (.inl (.int v9)), some (.inl (.int v10)), o11, o12, none] [] s
noncomputable def jX1_reading_16 (back : cs_bt) (call : cs_ct) (s : cs_S) (v1 : Int32) (v2 : Int32) (w3 : Int64) (t5 : Tr) (w6 : Int64) (v8 : Int32) (v9 : Int32) (o10 : Option am_V) (o11 : Option am_V) (o12 : Option am_V) : am_R cs_S := (am_r2 back (gX1_reading_16 call)).1 [some (.inl (.ref 0)), some (.inl (.int v1)), some (.inl (.int v2)), some (.inl (.long w3)), none, some (.inr t5), some (.inl (.long w6)), none, some (.inl (.int v8)), some (.inl (.int v9)), o10, o11, o12, none] [] s
noncomputable def jX1_reading_6 (back : cs_bt) (call : cs_ct) (s : cs_S) (v1 : Int32) (v2 : Int32) (w3 : Int64) (t5 : Tr) (w6 : Int64) (v8 : Int32) (o9 : Option am_V) (o10 : Option am_V) (o11 : Option am_V) (o12 : Option am_V) : am_R cs_S := (am_r2 back (gX1_reading_6 call)).1 [some (.inl (.ref 0)), some (.inl (.int v1)), some (.inl (.int v2)), some (.inl (.long w3)), none, some (.inr t5), some (.inl (.long w6)), none, some (.inl (.int v8)), o9, o10, o11, o12, none] [] s
noncomputable def jX1_reading_50_39 (back : cs_bt) (call : cs_ct) (s : cs_S) (v1 : Int32) (v2 : Int32) (w3 : Int64) (t5 : Tr) (w6 : Int64) (v8 : Int32) (v9 : Int32) (v10 : Int32) (o11 : Option am_V) (o12 : Option am_V) : am_R cs_S := (am_r2 back (gX1_reading_39 call)).2 50 [some (.inl (.ref 0)), some (.inl (.int v1)), some (.inl (.int v2)), some (.inl (.long w3)), none, some (.inr t5), some (.inl (.long w6)), none, some (.inl (.int v8)), some (.inl (.int v9)), some (.inl (.int v10)), o11, o12, none] [] s
theorem jX1_reading_50_39_eq (back : cs_bt) (call : cs_ct) (s : cs_S) (v1 : Int32) (v2 : Int32) (w3 : Int64) (t5 : Tr) (w6 : Int64) (v8 : Int32) (v9 : Int32) (v10 : Int32) (o11 : Option am_V) (o12 : Option am_V) : jX1_reading_50_39 back call s v1 v2 w3 t5 w6 v8 v9 v10 o11 o12 = jX1_reading_50 back call s v1 v2 w3 t5 w6 v8 v9 v10 o11 o12 := rfl
noncomputable def jX1_reading_50_46 (back : cs_bt) (call : cs_ct) (s : cs_S) (v1 : Int32) (v2 : Int32) (w3 : Int64) (t5 : Tr) (w6 : Int64) (v8 : Int32) (v9 : Int32) (v10 : Int32) (o11 : Option am_V) (o12 : Option am_V) : am_R cs_S := (am_r2 back (gX1_reading_46 call)).2 50 [some (.inl (.ref 0)), some (.inl (.int v1)), some (.inl (.int v2)), some (.inl (.long w3)), none, some (.inr t5), some (.inl (.long w6)), none, some (.inl (.int v8)), some (.inl (.int v9)), some (.inl (.int v10)), o11, o12, none] [] s
theorem jX1_reading_50_46_eq (back : cs_bt) (call : cs_ct) (s : cs_S) (v1 : Int32) (v2 : Int32) (w3 : Int64) (t5 : Tr) (w6 : Int64) (v8 : Int32) (v9 : Int32) (v10 : Int32) (o11 : Option am_V) (o12 : Option am_V) : jX1_reading_50_46 back call s v1 v2 w3 t5 w6 v8 v9 v10 o11 o12 = jX1_reading_50 back call s v1 v2 w3 t5 w6 v8 v9 v10 o11 o12 := rfl
noncomputable def jX1_reading_51_50 (back : cs_bt) (call : cs_ct) (s : cs_S) (v1 : Int32) (v2 : Int32) (w3 : Int64) (t5 : Tr) (w6 : Int64) (v8 : Int32) (v9 : Int32) (v10 : Int32) (o11 : Option am_V) (o12 : Option am_V) (vs0 : Int32) : am_R cs_S := (am_r2 back (gX1_reading_50 call)).2 51 [some (.inl (.ref 0)), some (.inl (.int v1)), some (.inl (.int v2)), some (.inl (.long w3)), none, some (.inr t5), some (.inl (.long w6)), none, some (.inl (.int v8)), some (.inl (.int v9)), some (.inl (.int v10)), o11, o12, none] [.inl (.int vs0)] s
theorem jX1_reading_51_50_eq (back : cs_bt) (call : cs_ct) (s : cs_S) (v1 : Int32) (v2 : Int32) (w3 : Int64) (t5 : Tr) (w6 : Int64) (v8 : Int32) (v9 : Int32) (v10 : Int32) (o11 : Option am_V) (o12 : Option am_V) (vs0 : Int32) : jX1_reading_51_50 back call s v1 v2 w3 t5 w6 v8 v9 v10 o11 o12 vs0 = jX1_reading_51 back call s v1 v2 w3 t5 w6 v8 v9 v10 o11 o12 vs0 := rfl
noncomputable def jX1_reading_68_59 (back : cs_bt) (call : cs_ct) (s : cs_S) (v1 : Int32) (v2 : Int32) (w3 : Int64) (t5 : Tr) (w6 : Int64) (v8 : Int32) (v9 : Int32) (v10 : Int32) (v11 : Int32) (o12 : Option am_V) : am_R cs_S := (am_r2 back (gX1_reading_59 call)).2 68 [some (.inl (.ref 0)), some (.inl (.int v1)), some (.inl (.int v2)), some (.inl (.long w3)), none, some (.inr t5), some (.inl (.long w6)), none, some (.inl (.int v8)), some (.inl (.int v9)), some (.inl (.int v10)), some (.inl (.int v11)), o12, none] [] s
theorem jX1_reading_68_59_eq (back : cs_bt) (call : cs_ct) (s : cs_S) (v1 : Int32) (v2 : Int32) (w3 : Int64) (t5 : Tr) (w6 : Int64) (v8 : Int32) (v9 : Int32) (v10 : Int32) (v11 : Int32) (o12 : Option am_V) : jX1_reading_68_59 back call s v1 v2 w3 t5 w6 v8 v9 v10 v11 o12 = jX1_reading_68 back call s v1 v2 w3 t5 w6 v8 v9 v10 v11 o12 := rfl
noncomputable def jX1_reading_68_64 (back : cs_bt) (call : cs_ct) (s : cs_S) (v1 : Int32) (v2 : Int32) (w3 : Int64) (t5 : Tr) (w6 : Int64) (v8 : Int32) (v9 : Int32) (v10 : Int32) (v11 : Int32) (o12 : Option am_V) : am_R cs_S := (am_r2 back (gX1_reading_64 call)).2 68 [some (.inl (.ref 0)), some (.inl (.int v1)), some (.inl (.int v2)), some (.inl (.long w3)), none, some (.inr t5), some (.inl (.long w6)), none, some (.inl (.int v8)), some (.inl (.int v9)), some (.inl (.int v10)), some (.inl (.int v11)), o12, none] [] s
theorem jX1_reading_68_64_eq (back : cs_bt) (call : cs_ct) (s : cs_S) (v1 : Int32) (v2 : Int32) (w3 : Int64) (t5 : Tr) (w6 : Int64) (v8 : Int32) (v9 : Int32) (v10 : Int32) (v11 : Int32) (o12 : Option am_V) : jX1_reading_68_64 back call s v1 v2 w3 t5 w6 v8 v9 v10 v11 o12 = jX1_reading_68 back call s v1 v2 w3 t5 w6 v8 v9 v10 v11 o12 := rfl
noncomputable def jX1_reading_82_81 (back : cs_bt) (call : cs_ct) (s : cs_S) (v1 : Int32) (v2 : Int32) (w3 : Int64) (t5 : Tr) (w6 : Int64) (v8 : Int32) (v9 : Int32) (v10 : Int32) (v11 : Int32) (o12 : Option am_V) (vs0 : Int32) (vs1 : Int32) : am_R cs_S := (am_r2 back (gX1_reading_81 call)).2 82 [some (.inl (.ref 0)), some (.inl (.int v1)), some (.inl (.int v2)), some (.inl (.long w3)), none, some (.inr t5), some (.inl (.long w6)), none, some (.inl (.int v8)), some (.inl (.int v9)), some (.inl (.int v10)), some (.inl (.int v11)), o12, none] [.inl (.int vs0), .inl (.int vs1), .inl (.ref 0)] s
theorem jX1_reading_82_81_eq (back : cs_bt) (call : cs_ct) (s : cs_S) (v1 : Int32) (v2 : Int32) (w3 : Int64) (t5 : Tr) (w6 : Int64) (v8 : Int32) (v9 : Int32) (v10 : Int32) (v11 : Int32) (o12 : Option am_V) (vs0 : Int32) (vs1 : Int32) : jX1_reading_82_81 back call s v1 v2 w3 t5 w6 v8 v9 v10 v11 o12 vs0 vs1 = jX1_reading_82 back call s v1 v2 w3 t5 w6 v8 v9 v10 v11 o12 vs0 vs1 := rfl
noncomputable def jX1_reading_95_94 (back : cs_bt) (call : cs_ct) (s : cs_S) (v1 : Int32) (v2 : Int32) (w3 : Int64) (t5 : Tr) (w6 : Int64) (v8 : Int32) (v9 : Int32) (v10 : Int32) (v11 : Int32) (o12 : Option am_V) (vs0 : Int32) (vs1 : Int32) (vs2 : Int32) (vs3 : Int32) (vs4 : Int32) : am_R cs_S := (am_r2 back (gX1_reading_94 call)).2 95 [some (.inl (.ref 0)), some (.inl (.int v1)), some (.inl (.int v2)), some (.inl (.long w3)), none, some (.inr t5), some (.inl (.long w6)), none, some (.inl (.int v8)), some (.inl (.int v9)), some (.inl (.int v10)), some (.inl (.int v11)), o12, none] [.inl (.int vs0), .inl (.int vs1), .inl (.int vs2), .inl (.int vs3), .inl (.int vs4), .inl (.ref 0)] s
theorem jX1_reading_95_94_eq (back : cs_bt) (call : cs_ct) (s : cs_S) (v1 : Int32) (v2 : Int32) (w3 : Int64) (t5 : Tr) (w6 : Int64) (v8 : Int32) (v9 : Int32) (v10 : Int32) (v11 : Int32) (o12 : Option am_V) (vs0 : Int32) (vs1 : Int32) (vs2 : Int32) (vs3 : Int32) (vs4 : Int32) : jX1_reading_95_94 back call s v1 v2 w3 t5 w6 v8 v9 v10 v11 o12 vs0 vs1 vs2 vs3 vs4 = jX1_reading_95 back call s v1 v2 w3 t5 w6 v8 v9 v10 v11 o12 vs0 vs1 vs2 vs3 vs4 := rfl
noncomputable def jX1_reading_98_68 (back : cs_bt) (call : cs_ct) (s : cs_S) (v1 : Int32) (v2 : Int32) (w3 : Int64) (t5 : Tr) (w6 : Int64) (v8 : Int32) (v9 : Int32) (v10 : Int32) (v11 : Int32) (o12 : Option am_V) (ws0 : Int64) : am_R cs_S := (am_r2 back (gX1_reading_68 call)).2 98 [some (.inl (.ref 0)), some (.inl (.int v1)), some (.inl (.int v2)), some (.inl (.long w3)), none, some (.inr t5), some (.inl (.long w6)), none, some (.inl (.int v8)), some (.inl (.int v9)), some (.inl (.int v10)), some (.inl (.int v11)), o12, none] [.inl (.long ws0)] s
theorem jX1_reading_98_68_eq (back : cs_bt) (call : cs_ct) (s : cs_S) (v1 : Int32) (v2 : Int32) (w3 : Int64) (t5 : Tr) (w6 : Int64) (v8 : Int32) (v9 : Int32) (v10 : Int32) (v11 : Int32) (o12 : Option am_V) (ws0 : Int64) : jX1_reading_98_68 back call s v1 v2 w3 t5 w6 v8 v9 v10 v11 o12 ws0 = jX1_reading_98 back call s v1 v2 w3 t5 w6 v8 v9 v10 v11 o12 ws0 := rfl
theorem jX1_reading_98_eq (back : cs_bt) (call : cs_ct) (s : cs_S) (v1 : Int32) (v2 : Int32) (w3 : Int64) (t5 : Tr) (w6 : Int64) (v8 : Int32) (v9 : Int32) (v10 : Int32) (v11 : Int32) (o12 : Option am_V) (ws0 : Int64) : jX1_reading_98 back call s v1 v2 w3 t5 w6 v8 v9 v10 v11 o12 ws0 =
  if 0 ≤ (lg_cmp w6 ws0) then
    back 25 [some (.inl (.ref 0)), some (.inl (.int v1)), some (.inl (.int v2)), some (.inl (.long w3)), none, some (.inr t5), some (.inl (.long (w6 - ws0))), none, some (.inl (.int v8)), some (.inl (.int v9)), some (.inl (.int (v10 + ic 1))), some (.inl (.int v11)), some (.inl (.long ws0)), none] [] s
  else
    am_ct (call 39 [.inl (.ref 0), .inl (.int v8), .inl (.int (v1 + v9)), .inl (.int (v2 - v9)), .inl (.int v10), .inl (.long w6), .inr t5] s) am_tx fun r8 s7 =>
    some (.inl (some (.inr r8)), s7) := rfl
theorem jX1_reading_95_eq (back : cs_bt) (call : cs_ct) (s : cs_S) (v1 : Int32) (v2 : Int32) (w3 : Int64) (t5 : Tr) (w6 : Int64) (v8 : Int32) (v9 : Int32) (v10 : Int32) (v11 : Int32) (o12 : Option am_V) (vs0 : Int32) (vs1 : Int32) (vs2 : Int32) (vs3 : Int32) (vs4 : Int32) : jX1_reading_95 back call s v1 v2 w3 t5 w6 v8 v9 v10 v11 o12 vs0 vs1 vs2 vs3 vs4 =
  am_cl (call 32 [.inl (.ref 0), .inl (.int vs4), .inl (.int vs3), .inl (.int vs2), .inl (.int vs1), .inl (.int vs0)] s) am_tx fun r10 s9 =>
  jX1_reading_98 back call s9 v1 v2 w3 t5 w6 v8 v9 v10 v11 o12 r10 := rfl
theorem jX1_reading_82_eq (back : cs_bt) (call : cs_ct) (s : cs_S) (v1 : Int32) (v2 : Int32) (w3 : Int64) (t5 : Tr) (w6 : Int64) (v8 : Int32) (v9 : Int32) (v10 : Int32) (v11 : Int32) (o12 : Option am_V) (vs0 : Int32) (vs1 : Int32) : jX1_reading_82 back call s v1 v2 w3 t5 w6 v8 v9 v10 v11 o12 vs0 vs1 =
  if v11 = 0 then
    jX1_reading_95 back call s v1 v2 w3 t5 w6 v8 v9 v10 v11 o12 (ic 0) v2 v1 vs0 vs1
  else
    jX1_reading_95_94 back call s v1 v2 w3 t5 w6 v8 v9 v10 v11 o12 v10 v2 v1 vs0 vs1 := rfl
theorem jX1_reading_68_eq (back : cs_bt) (call : cs_ct) (s : cs_S) (v1 : Int32) (v2 : Int32) (w3 : Int64) (t5 : Tr) (w6 : Int64) (v8 : Int32) (v9 : Int32) (v10 : Int32) (v11 : Int32) (o12 : Option am_V) : jX1_reading_68 back call s v1 v2 w3 t5 w6 v8 v9 v10 v11 o12 =
  if v9 = (ic 1) then
    jX1_reading_82_81 back call s v1 v2 w3 t5 w6 v8 v9 v10 v11 o12 (ic 1) v8
  else
    jX1_reading_82 back call s v1 v2 w3 t5 w6 v8 v9 v10 v11 o12 (ic 0) v8 := rfl
theorem jX1_reading_51_eq (back : cs_bt) (call : cs_ct) (s : cs_S) (v1 : Int32) (v2 : Int32) (w3 : Int64) (t5 : Tr) (w6 : Int64) (v8 : Int32) (v9 : Int32) (v10 : Int32) (o11 : Option am_V) (o12 : Option am_V) (vs0 : Int32) : jX1_reading_51 back call s v1 v2 w3 t5 w6 v8 v9 v10 o11 o12 vs0 =
  if v10 ≤ (ic 1) then
    jX1_reading_68_59 back call s v1 v2 w3 t5 w6 v8 v9 v10 vs0 o12
  else
    if vs0 = 0 then
      jX1_reading_98_68 back call s v1 v2 w3 t5 w6 v8 v9 v10 vs0 o12 (lN 0)
    else
      jX1_reading_68_64 back call s v1 v2 w3 t5 w6 v8 v9 v10 vs0 o12 := rfl
theorem jX1_reading_50_eq (back : cs_bt) (call : cs_ct) (s : cs_S) (v1 : Int32) (v2 : Int32) (w3 : Int64) (t5 : Tr) (w6 : Int64) (v8 : Int32) (v9 : Int32) (v10 : Int32) (o11 : Option am_V) (o12 : Option am_V) : jX1_reading_50 back call s v1 v2 w3 t5 w6 v8 v9 v10 o11 o12 =
  jX1_reading_51 back call s v1 v2 w3 t5 w6 v8 v9 v10 o11 o12 (ic 0) := rfl
theorem jX1_reading_25_eq (back : cs_bt) (call : cs_ct) (s : cs_S) (v1 : Int32) (v2 : Int32) (w3 : Int64) (t5 : Tr) (w6 : Int64) (v8 : Int32) (v9 : Int32) (v10 : Int32) (o11 : Option am_V) (o12 : Option am_V) : jX1_reading_25 back call s v1 v2 w3 t5 w6 v8 v9 v10 o11 o12 =
  if (v2 - v1) < v10 then
    back 16 [some (.inl (.ref 0)), some (.inl (.int v1)), some (.inl (.int v2)), some (.inl (.long w3)), none, some (.inr t5), some (.inl (.long w6)), none, some (.inl (.int v8)), some (.inl (.int (v9 + ic 1))), some (.inl (.int v10)), o11, o12, none] [] s
  else
    if v8 < (ic 2) then
      jX1_reading_50_39 back call s v1 v2 w3 t5 w6 v8 v9 v10 o11 o12
    else
      if (ic 6) < v8 then
        jX1_reading_50_46 back call s v1 v2 w3 t5 w6 v8 v9 v10 o11 o12
      else
        jX1_reading_51_50 back call s v1 v2 w3 t5 w6 v8 v9 v10 o11 o12 (ic 1) := rfl
theorem jX1_reading_16_eq (back : cs_bt) (call : cs_ct) (s : cs_S) (v1 : Int32) (v2 : Int32) (w3 : Int64) (t5 : Tr) (w6 : Int64) (v8 : Int32) (v9 : Int32) (o10 : Option am_V) (o11 : Option am_V) (o12 : Option am_V) : jX1_reading_16 back call s v1 v2 w3 t5 w6 v8 v9 o10 o11 o12 =
  if (ic 2) ≤ v9 then
    back 6 [some (.inl (.ref 0)), some (.inl (.int v1)), some (.inl (.int v2)), some (.inl (.long w3)), none, some (.inr t5), some (.inl (.long w6)), none, some (.inl (.int (v8 + ic 1))), some (.inl (.int v9)), o10, o11, o12, none] [] s
  else
    jX1_reading_25 back call s v1 v2 w3 t5 w6 v8 v9 (ic 1) o11 o12 := rfl
theorem jX1_reading_6_eq (back : cs_bt) (call : cs_ct) (s : cs_S) (v1 : Int32) (v2 : Int32) (w3 : Int64) (t5 : Tr) (w6 : Int64) (v8 : Int32) (o9 : Option am_V) (o10 : Option am_V) (o11 : Option am_V) (o12 : Option am_V) : jX1_reading_6 back call s v1 v2 w3 t5 w6 v8 o9 o10 o11 o12 =
  if (ic 9) < v8 then
    some (.inl (some (.inr .leaf)), s)
  else
    jX1_reading_16 back call s v1 v2 w3 t5 w6 v8 (ic 0) o10 o11 o12 := rfl
noncomputable def dX1_reading (back : cs_bt) (call : cs_ct) (s : cs_S) (x1 : Int32) (x2 : Int32) (x3 : Int64) (x4 : Tr) : am_R cs_S :=
  jX1_reading_6 back call s x1 x2 x3 x4 x3 (ic 0) none none none none
theorem dX1_reading_rs (back : cs_bt) (call : cs_ct) (s : cs_S) (x1 : Int32) (x2 : Int32) (x3 : Int64) (x4 : Tr) : (am_r2 back (gX1_reading call)).1 [some (.inl (.ref 0)), some (.inl (.int x1)), some (.inl (.int x2)), some (.inl (.long x3)), none, some (.inr x4), none, none, none, none, none, none, none, none] [] s = dX1_reading back call s x1 x2 x3 x4 := rfl
theorem dX1_reading_eq (N f : Nat) (s : cs_S) (x1 : Int32) (x2 : Int32) (x3 : Int64) (x4 : Tr) : cs_call N (f + 1) 38 [.inl (.ref 0), .inl (.int x1), .inl (.int x2), .inl (.long x3), .inr x4] s = dX1_reading (am_bk (cs_hop 1 (cs_call N f)) am_no (some (.object "FormulaVoice$Node")) kX1_reading N) (cs_call N f) s x1 x2 x3 x4 := (cs_call_of (mt := 38) (nL := 14) (rt := (some (.object "FormulaVoice$Node"))) (code := kX1_reading) rfl rfl rfl rfl rfl gX1_reading_ok ⟨_, _, _, _, rfl⟩).trans (dX1_reading_rs _ _ s x1 x2 x3 x4)
theorem jX1_reading_6_bk (call : cs_ct) (n : Nat) (s : cs_S) (v1 : Int32) (v2 : Int32) (w3 : Int64) (t5 : Tr) (w6 : Int64) (v8 : Int32) (o9 : Option am_V) (o10 : Option am_V) (o11 : Option am_V) (o12 : Option am_V) : am_bk (cs_hop 1 call) am_no (some (.object "FormulaVoice$Node")) kX1_reading (n + 1) 6 [some (.inl (.ref 0)), some (.inl (.int v1)), some (.inl (.int v2)), some (.inl (.long w3)), none, some (.inr t5), some (.inl (.long w6)), none, some (.inl (.int v8)), o9, o10, o11, o12, none] [] s = jX1_reading_6 (am_bk (cs_hop 1 call) am_no (some (.object "FormulaVoice$Node")) kX1_reading n) call s v1 v2 w3 t5 w6 v8 o9 o10 o11 o12 := (am_bk_of rfl (gX1_reading_ok call)).trans rfl
theorem jX1_reading_16_bk (call : cs_ct) (n : Nat) (s : cs_S) (v1 : Int32) (v2 : Int32) (w3 : Int64) (t5 : Tr) (w6 : Int64) (v8 : Int32) (v9 : Int32) (o10 : Option am_V) (o11 : Option am_V) (o12 : Option am_V) : am_bk (cs_hop 1 call) am_no (some (.object "FormulaVoice$Node")) kX1_reading (n + 1) 16 [some (.inl (.ref 0)), some (.inl (.int v1)), some (.inl (.int v2)), some (.inl (.long w3)), none, some (.inr t5), some (.inl (.long w6)), none, some (.inl (.int v8)), some (.inl (.int v9)), o10, o11, o12, none] [] s = jX1_reading_16 (am_bk (cs_hop 1 call) am_no (some (.object "FormulaVoice$Node")) kX1_reading n) call s v1 v2 w3 t5 w6 v8 v9 o10 o11 o12 := (am_bk_of rfl (gX1_reading_ok call)).trans rfl
theorem jX1_reading_25_bk (call : cs_ct) (n : Nat) (s : cs_S) (v1 : Int32) (v2 : Int32) (w3 : Int64) (t5 : Tr) (w6 : Int64) (v8 : Int32) (v9 : Int32) (v10 : Int32) (o11 : Option am_V) (o12 : Option am_V) : am_bk (cs_hop 1 call) am_no (some (.object "FormulaVoice$Node")) kX1_reading (n + 1) 25 [some (.inl (.ref 0)), some (.inl (.int v1)), some (.inl (.int v2)), some (.inl (.long w3)), none, some (.inr t5), some (.inl (.long w6)), none, some (.inl (.int v8)), some (.inl (.int v9)), some (.inl (.int v10)), o11, o12, none] [] s = jX1_reading_25 (am_bk (cs_hop 1 call) am_no (some (.object "FormulaVoice$Node")) kX1_reading n) call s v1 v2 w3 t5 w6 v8 v9 v10 o11 o12 := (am_bk_of rfl (gX1_reading_ok call)).trans rfl
noncomputable def jX1_reading_2_163 (back : cs_bt) (call : cs_ct) (s : cs_S) (v1 : Int32) (v2 : Int32) (v3 : Int32) (v4 : Int32) (w5 : Int64) (t7 : Tr) (t8 : Tr) (t9 : Tr) (v10 : Int32) (o11 : Option am_V) : am_R cs_S := (am_r2 back (gX1_reading_2_163 call)).1 [some (.inl (.ref 0)), some (.inl (.int v1)), some (.inl (.int v2)), some (.inl (.int v3)), some (.inl (.int v4)), some (.inl (.long w5)), none, some (.inr t7), some (.inr t8), some (.inr t9), some (.inl (.int v10)), o11, none] [] s
noncomputable def jX1_reading_2_95 (back : cs_bt) (call : cs_ct) (s : cs_S) (v1 : Int32) (v2 : Int32) (v3 : Int32) (v4 : Int32) (w5 : Int64) (t7 : Tr) (t8 : Tr) (t9 : Tr) (v10 : Int32) : am_R cs_S := (am_r2 back (gX1_reading_2_95 call)).1 [some (.inl (.ref 0)), some (.inl (.int v1)), some (.inl (.int v2)), some (.inl (.int v3)), some (.inl (.int v4)), some (.inl (.long w5)), none, some (.inr t7), some (.inr t8), some (.inr t9), some (.inl (.int v10)), none, none] [] s
noncomputable def jX1_reading_2_26 (back : cs_bt) (call : cs_ct) (s : cs_S) (v1 : Int32) (v2 : Int32) (v3 : Int32) (v4 : Int32) (w5 : Int64) (t7 : Tr) (t8 : Tr) (t9 : Tr) (vs0 : Int32) : am_R cs_S := (am_r2 back (gX1_reading_2_26 call)).1 [some (.inl (.ref 0)), some (.inl (.int v1)), some (.inl (.int v2)), some (.inl (.int v3)), some (.inl (.int v4)), some (.inl (.long w5)), none, some (.inr t7), some (.inr t8), some (.inr t9), none, none, none] [.inl (.int vs0)] s
noncomputable def jX1_reading_2_26_20 (back : cs_bt) (call : cs_ct) (s : cs_S) (v1 : Int32) (v2 : Int32) (v3 : Int32) (v4 : Int32) (w5 : Int64) (t7 : Tr) (t8 : Tr) (t9 : Tr) (vs0 : Int32) : am_R cs_S := (am_r2 back (gX1_reading_2_20 call)).2 26 [some (.inl (.ref 0)), some (.inl (.int v1)), some (.inl (.int v2)), some (.inl (.int v3)), some (.inl (.int v4)), some (.inl (.long w5)), none, some (.inr t7), some (.inr t8), some (.inr t9), none, none, none] [.inl (.int vs0)] s
theorem jX1_reading_2_26_20_eq (back : cs_bt) (call : cs_ct) (s : cs_S) (v1 : Int32) (v2 : Int32) (v3 : Int32) (v4 : Int32) (w5 : Int64) (t7 : Tr) (t8 : Tr) (t9 : Tr) (vs0 : Int32) : jX1_reading_2_26_20 back call s v1 v2 v3 v4 w5 t7 t8 t9 vs0 = jX1_reading_2_26 back call s v1 v2 v3 v4 w5 t7 t8 t9 vs0 := rfl
noncomputable def jX1_reading_2_95_33 (back : cs_bt) (call : cs_ct) (s : cs_S) (v1 : Int32) (v2 : Int32) (v3 : Int32) (v4 : Int32) (w5 : Int64) (t7 : Tr) (t8 : Tr) (t9 : Tr) (v10 : Int32) : am_R cs_S := (am_r2 back (gX1_reading_2_33 call)).2 95 [some (.inl (.ref 0)), some (.inl (.int v1)), some (.inl (.int v2)), some (.inl (.int v3)), some (.inl (.int v4)), some (.inl (.long w5)), none, some (.inr t7), some (.inr t8), some (.inr t9), some (.inl (.int v10)), none, none] [] s
theorem jX1_reading_2_95_33_eq (back : cs_bt) (call : cs_ct) (s : cs_S) (v1 : Int32) (v2 : Int32) (v3 : Int32) (v4 : Int32) (w5 : Int64) (t7 : Tr) (t8 : Tr) (t9 : Tr) (v10 : Int32) : jX1_reading_2_95_33 back call s v1 v2 v3 v4 w5 t7 t8 t9 v10 = jX1_reading_2_95 back call s v1 v2 v3 v4 w5 t7 t8 t9 v10 := rfl
noncomputable def jX1_reading_2_95_39 (back : cs_bt) (call : cs_ct) (s : cs_S) (v1 : Int32) (v2 : Int32) (v3 : Int32) (v4 : Int32) (w5 : Int64) (t7 : Tr) (t8 : Tr) (t9 : Tr) (v10 : Int32) : am_R cs_S := (am_r2 back (gX1_reading_2_39 call)).2 95 [some (.inl (.ref 0)), some (.inl (.int v1)), some (.inl (.int v2)), some (.inl (.int v3)), some (.inl (.int v4)), some (.inl (.long w5)), none, some (.inr t7), some (.inr t8), some (.inr t9), some (.inl (.int v10)), none, none] [] s
theorem jX1_reading_2_95_39_eq (back : cs_bt) (call : cs_ct) (s : cs_S) (v1 : Int32) (v2 : Int32) (v3 : Int32) (v4 : Int32) (w5 : Int64) (t7 : Tr) (t8 : Tr) (t9 : Tr) (v10 : Int32) : jX1_reading_2_95_39 back call s v1 v2 v3 v4 w5 t7 t8 t9 v10 = jX1_reading_2_95 back call s v1 v2 v3 v4 w5 t7 t8 t9 v10 := rfl
noncomputable def jX1_reading_2_163_95 (back : cs_bt) (call : cs_ct) (s : cs_S) (v1 : Int32) (v2 : Int32) (v3 : Int32) (v4 : Int32) (w5 : Int64) (t7 : Tr) (t8 : Tr) (t9 : Tr) (v10 : Int32) (o11 : Option am_V) : am_R cs_S := (am_r2 back (gX1_reading_2_95 call)).2 163 [some (.inl (.ref 0)), some (.inl (.int v1)), some (.inl (.int v2)), some (.inl (.int v3)), some (.inl (.int v4)), some (.inl (.long w5)), none, some (.inr t7), some (.inr t8), some (.inr t9), some (.inl (.int v10)), o11, none] [] s
theorem jX1_reading_2_163_95_eq (back : cs_bt) (call : cs_ct) (s : cs_S) (v1 : Int32) (v2 : Int32) (v3 : Int32) (v4 : Int32) (w5 : Int64) (t7 : Tr) (t8 : Tr) (t9 : Tr) (v10 : Int32) (o11 : Option am_V) : jX1_reading_2_163_95 back call s v1 v2 v3 v4 w5 t7 t8 t9 v10 o11 = jX1_reading_2_163 back call s v1 v2 v3 v4 w5 t7 t8 t9 v10 o11 := rfl
noncomputable def jX1_reading_2_163_118 (back : cs_bt) (call : cs_ct) (s : cs_S) (v1 : Int32) (v2 : Int32) (v3 : Int32) (v4 : Int32) (w5 : Int64) (t7 : Tr) (t8 : Tr) (t9 : Tr) (v10 : Int32) (o11 : Option am_V) : am_R cs_S := (am_r2 back (gX1_reading_2_118 call)).2 163 [some (.inl (.ref 0)), some (.inl (.int v1)), some (.inl (.int v2)), some (.inl (.int v3)), some (.inl (.int v4)), some (.inl (.long w5)), none, some (.inr t7), some (.inr t8), some (.inr t9), some (.inl (.int v10)), o11, none] [] s
theorem jX1_reading_2_163_118_eq (back : cs_bt) (call : cs_ct) (s : cs_S) (v1 : Int32) (v2 : Int32) (v3 : Int32) (v4 : Int32) (w5 : Int64) (t7 : Tr) (t8 : Tr) (t9 : Tr) (v10 : Int32) (o11 : Option am_V) : jX1_reading_2_163_118 back call s v1 v2 v3 v4 w5 t7 t8 t9 v10 o11 = jX1_reading_2_163 back call s v1 v2 v3 v4 w5 t7 t8 t9 v10 o11 := rfl
noncomputable def jX1_reading_2_163_143 (back : cs_bt) (call : cs_ct) (s : cs_S) (v1 : Int32) (v2 : Int32) (v3 : Int32) (v4 : Int32) (w5 : Int64) (t7 : Tr) (t8 : Tr) (t9 : Tr) (v10 : Int32) (o11 : Option am_V) : am_R cs_S := (am_r2 back (gX1_reading_2_143 call)).2 163 [some (.inl (.ref 0)), some (.inl (.int v1)), some (.inl (.int v2)), some (.inl (.int v3)), some (.inl (.int v4)), some (.inl (.long w5)), none, some (.inr t7), some (.inr t8), some (.inr t9), some (.inl (.int v10)), o11, none] [] s
theorem jX1_reading_2_163_143_eq (back : cs_bt) (call : cs_ct) (s : cs_S) (v1 : Int32) (v2 : Int32) (v3 : Int32) (v4 : Int32) (w5 : Int64) (t7 : Tr) (t8 : Tr) (t9 : Tr) (v10 : Int32) (o11 : Option am_V) : jX1_reading_2_163_143 back call s v1 v2 v3 v4 w5 t7 t8 t9 v10 o11 = jX1_reading_2_163 back call s v1 v2 v3 v4 w5 t7 t8 t9 v10 o11 := rfl
noncomputable def jX1_reading_2_163_149 (back : cs_bt) (call : cs_ct) (s : cs_S) (v1 : Int32) (v2 : Int32) (v3 : Int32) (v4 : Int32) (w5 : Int64) (t7 : Tr) (t8 : Tr) (t9 : Tr) (v10 : Int32) (o11 : Option am_V) : am_R cs_S := (am_r2 back (gX1_reading_2_149 call)).2 163 [some (.inl (.ref 0)), some (.inl (.int v1)), some (.inl (.int v2)), some (.inl (.int v3)), some (.inl (.int v4)), some (.inl (.long w5)), none, some (.inr t7), some (.inr t8), some (.inr t9), some (.inl (.int v10)), o11, none] [] s
theorem jX1_reading_2_163_149_eq (back : cs_bt) (call : cs_ct) (s : cs_S) (v1 : Int32) (v2 : Int32) (v3 : Int32) (v4 : Int32) (w5 : Int64) (t7 : Tr) (t8 : Tr) (t9 : Tr) (v10 : Int32) (o11 : Option am_V) : jX1_reading_2_163_149 back call s v1 v2 v3 v4 w5 t7 t8 t9 v10 o11 = jX1_reading_2_163 back call s v1 v2 v3 v4 w5 t7 t8 t9 v10 o11 := rfl
theorem jX1_reading_2_163_eq (back : cs_bt) (call : cs_ct) (s : cs_S) (v1 : Int32) (v2 : Int32) (v3 : Int32) (v4 : Int32) (w5 : Int64) (t7 : Tr) (t8 : Tr) (t9 : Tr) (v10 : Int32) (o11 : Option am_V) : jX1_reading_2_163 back call s v1 v2 v3 v4 w5 t7 t8 t9 v10 o11 =
  am_ci (call 200 [.inl (.ref 100)] s) am_tx fun r33 s32 =>
  bif cs_rc 4 [.inr t7] then
    am_ci (call 200 [.inr t7] s32) am_tx fun r35 s34 =>
    am_ct (call 205 [.inl (.int (r33 + r35)), .inl (.int v1), .inr t8, .inr t9, .inl (.int v10)] s34) am_tx fun r37 s36 =>
    bif cs_rc 4 [.inr t7, .inr r37] then
      am_ci (call 202 [.inr t7, .inr r37] s36) am_tx fun r39 s38 =>
      some (.inl (some (.inr r37)), s38)
    else none
  else none := rfl
theorem jX1_reading_2_95_eq (back : cs_bt) (call : cs_ct) (s : cs_S) (v1 : Int32) (v2 : Int32) (v3 : Int32) (v4 : Int32) (w5 : Int64) (t7 : Tr) (t8 : Tr) (t9 : Tr) (v10 : Int32) : jX1_reading_2_95 back call s v1 v2 v3 v4 w5 t7 t8 t9 v10 =
  if v1 = (ic 7) then
    am_ct (call 38 [.inl (.ref 0), .inl (.int (v2 + (ic 1))), .inl (.int v3), .inl (.long w5), .inr t7] s) am_tx fun r45 s44 =>
    jX1_reading_2_163_118 back call s44 v1 v2 v3 v4 w5 t7 r45 t9 v10 none
  else
    if v1 = (ic 8) then
      am_ct (call 38 [.inl (.ref 0), .inl (.int (v2 + (ic 1))), .inl (.int (v3 - (ic 1))), .inl (.long w5), .inr t7] s) am_tx fun r43 s42 =>
      jX1_reading_2_163_143 back call s42 v1 v2 v3 v4 w5 t7 r43 t9 v10 none
    else
      if v1 = (ic 9) then
        am_ct (call 38 [.inl (.ref 0), .inl (.int (v2 + (ic 2))), .inl (.int v3), .inl (.long w5), .inr t7] s) am_tx fun r41 s40 =>
        jX1_reading_2_163 back call s40 v1 v2 v3 v4 w5 t7 r41 t9 v10 none
      else
        jX1_reading_2_163_149 back call s v1 v2 v3 v4 w5 t7 t8 t9 v10 none := rfl
theorem jX1_reading_2_26_eq (back : cs_bt) (call : cs_ct) (s : cs_S) (v1 : Int32) (v2 : Int32) (v3 : Int32) (v4 : Int32) (w5 : Int64) (t7 : Tr) (t8 : Tr) (t9 : Tr) (vs0 : Int32) : jX1_reading_2_26 back call s v1 v2 v3 v4 w5 t7 t8 t9 vs0 =
  if v1 < (ic 2) then
    jX1_reading_2_95_33 back call s v1 v2 v3 v4 w5 t7 t8 t9 vs0
  else
    if (ic 6) < v1 then
      jX1_reading_2_95_39 back call s v1 v2 v3 v4 w5 t7 t8 t9 vs0
    else
      am_ix ((v2 + v4) + (ic 1)) 21 fun j46 =>
      am_ix v3 21 fun j47 =>
      am_dzl (cs_l s j46 j47) (am_ct (call 38 [.inl (.ref 0), .inl (.int v2), .inl (.int (v2 + v4)), .inl (.long (w5 / (cs_l s j46 j47))), .inr t7] s) am_tx fun r49 s48 =>
      am_dzl (cs_l s j46 j47) (am_ct (call 38 [.inl (.ref 0), .inl (.int ((v2 + v4) + (ic 1))), .inl (.int v3), .inl (.long (w5 - w5 / (cs_l s j46 j47) * (cs_l s j46 j47))), .inr t7] s48) am_tx fun r51 s50 =>
      jX1_reading_2_163_95 back call s50 v1 v2 v3 v4 w5 t7 r49 r51 vs0 (some (.inl (.long (cs_l s j46 j47)))))) := rfl
noncomputable def dX1_reading_2 (back : cs_bt) (call : cs_ct) (s : cs_S) (x1 : Int32) (x2 : Int32) (x3 : Int32) (x4 : Int32) (x5 : Int64) (x6 : Tr) : am_R cs_S :=
  if x1 = (ic 1) then
    am_ci (call 36 [.inl (.ref 0), .inl (.int x2), .inl (.int x3)] s) am_tx fun r54 s53 =>
    jX1_reading_2_26_20 back call s53 x1 x2 x3 x4 x5 x6 .leaf .leaf r54
  else
    am_ix x2 20 fun j52 =>
    jX1_reading_2_26 back call s x1 x2 x3 x4 x5 x6 .leaf .leaf (cs_a s 108 j52)
theorem dX1_reading_2_rs (back : cs_bt) (call : cs_ct) (s : cs_S) (x1 : Int32) (x2 : Int32) (x3 : Int32) (x4 : Int32) (x5 : Int64) (x6 : Tr) : (am_r2 back (gX1_reading_2 call)).1 [some (.inl (.ref 0)), some (.inl (.int x1)), some (.inl (.int x2)), some (.inl (.int x3)), some (.inl (.int x4)), some (.inl (.long x5)), none, some (.inr x6), none, none, none, none, none] [] s = dX1_reading_2 back call s x1 x2 x3 x4 x5 x6 := rfl
theorem dX1_reading_2_eq (N f : Nat) (s : cs_S) (x1 : Int32) (x2 : Int32) (x3 : Int32) (x4 : Int32) (x5 : Int64) (x6 : Tr) : cs_call N (f + 1) 39 [.inl (.ref 0), .inl (.int x1), .inl (.int x2), .inl (.int x3), .inl (.int x4), .inl (.long x5), .inr x6] s = dX1_reading_2 (am_bk (cs_hop 1 (cs_call N f)) am_no (some (.object "FormulaVoice$Node")) kX1_reading_2 N) (cs_call N f) s x1 x2 x3 x4 x5 x6 := (cs_call_of (mt := 39) (nL := 13) (rt := (some (.object "FormulaVoice$Node"))) (code := kX1_reading_2) rfl rfl rfl rfl rfl gX1_reading_2_ok ⟨_, _, _, _, rfl⟩).trans (dX1_reading_2_rs _ _ s x1 x2 x3 x4 x5 x6)
noncomputable def jX1_place_15 (back : cs_bt) (call : cs_ct) (s : cs_S) (v1 : Int32) (v2 : Int32) : am_R cs_S := (am_r2 back (gX1_place_15 call)).1 [some (.inl (.ref 0)), some (.inl (.int v1)), some (.inl (.int v2)), none, none] [] s
noncomputable def jX1_place_15_7 (back : cs_bt) (call : cs_ct) (s : cs_S) (v1 : Int32) (v2 : Int32) : am_R cs_S := (am_r2 back (gX1_place_7 call)).2 15 [some (.inl (.ref 0)), some (.inl (.int v1)), some (.inl (.int v2)), none, none] [] s
theorem jX1_place_15_7_eq (back : cs_bt) (call : cs_ct) (s : cs_S) (v1 : Int32) (v2 : Int32) : jX1_place_15_7 back call s v1 v2 = jX1_place_15 back call s v1 v2 := rfl
theorem jX1_place_15_eq (back : cs_bt) (call : cs_ct) (s : cs_S) (v1 : Int32) (v2 : Int32) : jX1_place_15 back call s v1 v2 =
  some (.inl (some (.inl (.long (-1)))), s) := rfl
noncomputable def dX1_place (back : cs_bt) (call : cs_ct) (s : cs_S) (x1 : Int32) (x2 : Int32) : am_R cs_S :=
  am_ci (call 29 [.inl (.int x1)] s) am_tx fun r12 s11 =>
  if r12 = 0 then
    jX1_place_15_7 back call s11 x1 x2
  else
    am_ci (call 5 [.inl (.ref 0), .inl (.int x2)] s11) am_tx fun r14 s13 =>
    if r14 = 0 then
      jX1_place_15 back call s13 x1 x2
    else
      am_cl (call 30 [.inl (.ref 0), .inl (.int x1)] s13) am_tx fun r16 s15 =>
      if (lg_cmp r16 (lN 0)) = 0 then
        some (.inl (some (.inl (.long (-2)))), s15)
      else
        am_ct (call 201 [.inl (.ref 100), .inl (.int x2)] s15) am_tx fun r18 s17 =>
        bif tr_nd r18 then
          am_cl (call 41 [.inl (.ref 0), .inr r18, .inl (.int (ic 0)), .inl (.int (cs_i s17 9))] s17) am_tx fun r20 s19 =>
          if (lg_cmp r20 (-1)) = 0 then
            some (.inl (some (.inl (.long (-2)))), s19)
          else
            some (.inl (some (.inl (.long r20))), s19)
        else none
theorem dX1_place_rs (back : cs_bt) (call : cs_ct) (s : cs_S) (x1 : Int32) (x2 : Int32) : (am_r2 back (gX1_place call)).1 [some (.inl (.ref 0)), some (.inl (.int x1)), some (.inl (.int x2)), none, none] [] s = dX1_place back call s x1 x2 := rfl
theorem dX1_place_eq (N f : Nat) (s : cs_S) (x1 : Int32) (x2 : Int32) : cs_call N (f + 1) 40 [.inl (.ref 0), .inl (.int x1), .inl (.int x2)] s = dX1_place (am_bk (cs_hop 1 (cs_call N f)) am_no (some .long) kX1_place N) (cs_call N f) s x1 x2 := (cs_call_of (mt := 40) (nL := 5) (rt := (some .long)) (code := kX1_place) rfl rfl rfl rfl rfl gX1_place_ok ⟨_, _, _, _, rfl⟩).trans (dX1_place_rs _ _ s x1 x2)
noncomputable def jX1_placeOf_187 (back : cs_bt) (call : cs_ct) (s : cs_S) (t1 : Tr) (v2 : Int32) (v3 : Int32) (w4 : Int64) (v6 : Int32) (v7 : Int32) (v8 : Int32) (v9 : Int32) (v10 : Int32) (w11 : Int64) (o13 : Option am_V) : am_R cs_S := (am_r2 back (gX1_placeOf_187 call)).1 [some (.inl (.ref 0)), some (.inr t1), some (.inl (.int v2)), some (.inl (.int v3)), some (.inl (.long w4)), none, some (.inl (.int v6)), some (.inl (.int v7)), some (.inl (.int v8)), some (.inl (.int v9)), some (.inl (.int v10)), some (.inl (.long w11)), none, o13, none] [] s
noncomputable def jX1_placeOf_140 (back : cs_bt) (call : cs_ct) (s : cs_S) (t1 : Tr) (v2 : Int32) (v3 : Int32) (w4 : Int64) (v6 : Int32) (v7 : Int32) (v8 : Int32) (v9 : Int32) (v10 : Int32) (o11 : Option am_V) (o13 : Option am_V) (ws0 : Int64) : am_R cs_S := (am_r2 back (gX1_placeOf_140 call)).1 [some (.inl (.ref 0)), some (.inr t1), some (.inl (.int v2)), some (.inl (.int v3)), some (.inl (.long w4)), none, some (.inl (.int v6)), some (.inl (.int v7)), some (.inl (.int v8)), some (.inl (.int v9)), some (.inl (.int v10)), o11, none, o13, none] [.inl (.long ws0)] s
noncomputable def jX1_placeOf_137 (back : cs_bt) (call : cs_ct) (s : cs_S) (t1 : Tr) (v2 : Int32) (v3 : Int32) (w4 : Int64) (v6 : Int32) (v7 : Int32) (v8 : Int32) (v9 : Int32) (v10 : Int32) (o11 : Option am_V) (o13 : Option am_V) (vs0 : Int32) (vs1 : Int32) (vs2 : Int32) (vs3 : Int32) (vs4 : Int32) : am_R cs_S := (am_r2 back (gX1_placeOf_137 call)).1 [some (.inl (.ref 0)), some (.inr t1), some (.inl (.int v2)), some (.inl (.int v3)), some (.inl (.long w4)), none, some (.inl (.int v6)), some (.inl (.int v7)), some (.inl (.int v8)), some (.inl (.int v9)), some (.inl (.int v10)), o11, none, o13, none] [.inl (.int vs0), .inl (.int vs1), .inl (.int vs2), .inl (.int vs3), .inl (.int vs4), .inl (.ref 0)] s
noncomputable def jX1_placeOf_124 (back : cs_bt) (call : cs_ct) (s : cs_S) (t1 : Tr) (v2 : Int32) (v3 : Int32) (w4 : Int64) (v6 : Int32) (v7 : Int32) (v8 : Int32) (v9 : Int32) (v10 : Int32) (o11 : Option am_V) (o13 : Option am_V) (vs0 : Int32) (vs1 : Int32) : am_R cs_S := (am_r2 back (gX1_placeOf_124 call)).1 [some (.inl (.ref 0)), some (.inr t1), some (.inl (.int v2)), some (.inl (.int v3)), some (.inl (.long w4)), none, some (.inl (.int v6)), some (.inl (.int v7)), some (.inl (.int v8)), some (.inl (.int v9)), some (.inl (.int v10)), o11, none, o13, none] [.inl (.int vs0), .inl (.int vs1), .inl (.ref 0)] s
noncomputable def jX1_placeOf_108 (back : cs_bt) (call : cs_ct) (s : cs_S) (t1 : Tr) (v2 : Int32) (v3 : Int32) (w4 : Int64) (v6 : Int32) (v7 : Int32) (v8 : Int32) (v9 : Int32) (v10 : Int32) (o11 : Option am_V) (o13 : Option am_V) : am_R cs_S := (am_r2 back (gX1_placeOf_108 call)).1 [some (.inl (.ref 0)), some (.inr t1), some (.inl (.int v2)), some (.inl (.int v3)), some (.inl (.long w4)), none, some (.inl (.int v6)), some (.inl (.int v7)), some (.inl (.int v8)), some (.inl (.int v9)), some (.inl (.int v10)), o11, none, o13, none] [] s
noncomputable def jX1_placeOf_85 (back : cs_bt) (call : cs_ct) (s : cs_S) (t1 : Tr) (v2 : Int32) (v3 : Int32) (w4 : Int64) (v6 : Int32) (v7 : Int32) (v8 : Int32) (v9 : Int32) (v10 : Int32) (o11 : Option am_V) (o13 : Option am_V) : am_R cs_S := (am_r2 back (gX1_placeOf_85 call)).1 [some (.inl (.ref 0)), some (.inr t1), some (.inl (.int v2)), some (.inl (.int v3)), some (.inl (.long w4)), none, some (.inl (.int v6)), some (.inl (.int v7)), some (.inl (.int v8)), some (.inl (.int v9)), some (.inl (.int v10)), o11, none, o13, none] [] s
noncomputable def jX1_placeOf_80 (back : cs_bt) (call : cs_ct) (s : cs_S) (t1 : Tr) (v2 : Int32) (v3 : Int32) (w4 : Int64) (v6 : Int32) (v7 : Int32) (v8 : Int32) (o9 : Option am_V) (o10 : Option am_V) (o11 : Option am_V) (o13 : Option am_V) (vs0 : Int32) : am_R cs_S := (am_r2 back (gX1_placeOf_80 call)).1 [some (.inl (.ref 0)), some (.inr t1), some (.inl (.int v2)), some (.inl (.int v3)), some (.inl (.long w4)), none, some (.inl (.int v6)), some (.inl (.int v7)), some (.inl (.int v8)), o9, o10, o11, none, o13, none] [.inl (.int vs0)] s
noncomputable def jX1_placeOf_50 (back : cs_bt) (call : cs_ct) (s : cs_S) (t1 : Tr) (v2 : Int32) (v3 : Int32) (w4 : Int64) (v6 : Int32) (o7 : Option am_V) (o8 : Option am_V) (o9 : Option am_V) (o10 : Option am_V) (o11 : Option am_V) (o13 : Option am_V) : am_R cs_S := (am_r2 back (gX1_placeOf_50 call)).1 [some (.inl (.ref 0)), some (.inr t1), some (.inl (.int v2)), some (.inl (.int v3)), some (.inl (.long w4)), none, some (.inl (.int v6)), o7, o8, o9, o10, o11, none, o13, none] [] s
noncomputable def jX1_placeOf_6 (back : cs_bt) (call : cs_ct) (s : cs_S) (t1 : Tr) (v2 : Int32) (v3 : Int32) (w4 : Int64) (v6 : Int32) : am_R cs_S := (am_r2 back (gX1_placeOf_6 call)).1 [some (.inl (.ref 0)), some (.inr t1), some (.inl (.int v2)), some (.inl (.int v3)), some (.inl (.long w4)), none, some (.inl (.int v6)), none, none, none, none, none, none, none, none] [] s
noncomputable def jX1_placeOf_80_79 (back : cs_bt) (call : cs_ct) (s : cs_S) (t1 : Tr) (v2 : Int32) (v3 : Int32) (w4 : Int64) (v6 : Int32) (v7 : Int32) (v8 : Int32) (o9 : Option am_V) (o10 : Option am_V) (o11 : Option am_V) (o13 : Option am_V) (vs0 : Int32) : am_R cs_S := (am_r2 back (gX1_placeOf_79 call)).2 80 [some (.inl (.ref 0)), some (.inr t1), some (.inl (.int v2)), some (.inl (.int v3)), some (.inl (.long w4)), none, some (.inl (.int v6)), some (.inl (.int v7)), some (.inl (.int v8)), o9, o10, o11, none, o13, none] [.inl (.int vs0)] s
theorem jX1_placeOf_80_79_eq (back : cs_bt) (call : cs_ct) (s : cs_S) (t1 : Tr) (v2 : Int32) (v3 : Int32) (w4 : Int64) (v6 : Int32) (v7 : Int32) (v8 : Int32) (o9 : Option am_V) (o10 : Option am_V) (o11 : Option am_V) (o13 : Option am_V) (vs0 : Int32) : jX1_placeOf_80_79 back call s t1 v2 v3 w4 v6 v7 v8 o9 o10 o11 o13 vs0 = jX1_placeOf_80 back call s t1 v2 v3 w4 v6 v7 v8 o9 o10 o11 o13 vs0 := rfl
noncomputable def jX1_placeOf_108_99 (back : cs_bt) (call : cs_ct) (s : cs_S) (t1 : Tr) (v2 : Int32) (v3 : Int32) (w4 : Int64) (v6 : Int32) (v7 : Int32) (v8 : Int32) (v9 : Int32) (v10 : Int32) (o11 : Option am_V) (o13 : Option am_V) : am_R cs_S := (am_r2 back (gX1_placeOf_99 call)).2 108 [some (.inl (.ref 0)), some (.inr t1), some (.inl (.int v2)), some (.inl (.int v3)), some (.inl (.long w4)), none, some (.inl (.int v6)), some (.inl (.int v7)), some (.inl (.int v8)), some (.inl (.int v9)), some (.inl (.int v10)), o11, none, o13, none] [] s
theorem jX1_placeOf_108_99_eq (back : cs_bt) (call : cs_ct) (s : cs_S) (t1 : Tr) (v2 : Int32) (v3 : Int32) (w4 : Int64) (v6 : Int32) (v7 : Int32) (v8 : Int32) (v9 : Int32) (v10 : Int32) (o11 : Option am_V) (o13 : Option am_V) : jX1_placeOf_108_99 back call s t1 v2 v3 w4 v6 v7 v8 v9 v10 o11 o13 = jX1_placeOf_108 back call s t1 v2 v3 w4 v6 v7 v8 v9 v10 o11 o13 := rfl
noncomputable def jX1_placeOf_108_104 (back : cs_bt) (call : cs_ct) (s : cs_S) (t1 : Tr) (v2 : Int32) (v3 : Int32) (w4 : Int64) (v6 : Int32) (v7 : Int32) (v8 : Int32) (v9 : Int32) (v10 : Int32) (o11 : Option am_V) (o13 : Option am_V) : am_R cs_S := (am_r2 back (gX1_placeOf_104 call)).2 108 [some (.inl (.ref 0)), some (.inr t1), some (.inl (.int v2)), some (.inl (.int v3)), some (.inl (.long w4)), none, some (.inl (.int v6)), some (.inl (.int v7)), some (.inl (.int v8)), some (.inl (.int v9)), some (.inl (.int v10)), o11, none, o13, none] [] s
theorem jX1_placeOf_108_104_eq (back : cs_bt) (call : cs_ct) (s : cs_S) (t1 : Tr) (v2 : Int32) (v3 : Int32) (w4 : Int64) (v6 : Int32) (v7 : Int32) (v8 : Int32) (v9 : Int32) (v10 : Int32) (o11 : Option am_V) (o13 : Option am_V) : jX1_placeOf_108_104 back call s t1 v2 v3 w4 v6 v7 v8 v9 v10 o11 o13 = jX1_placeOf_108 back call s t1 v2 v3 w4 v6 v7 v8 v9 v10 o11 o13 := rfl
noncomputable def jX1_placeOf_124_123 (back : cs_bt) (call : cs_ct) (s : cs_S) (t1 : Tr) (v2 : Int32) (v3 : Int32) (w4 : Int64) (v6 : Int32) (v7 : Int32) (v8 : Int32) (v9 : Int32) (v10 : Int32) (o11 : Option am_V) (o13 : Option am_V) (vs0 : Int32) (vs1 : Int32) : am_R cs_S := (am_r2 back (gX1_placeOf_123 call)).2 124 [some (.inl (.ref 0)), some (.inr t1), some (.inl (.int v2)), some (.inl (.int v3)), some (.inl (.long w4)), none, some (.inl (.int v6)), some (.inl (.int v7)), some (.inl (.int v8)), some (.inl (.int v9)), some (.inl (.int v10)), o11, none, o13, none] [.inl (.int vs0), .inl (.int vs1), .inl (.ref 0)] s
theorem jX1_placeOf_124_123_eq (back : cs_bt) (call : cs_ct) (s : cs_S) (t1 : Tr) (v2 : Int32) (v3 : Int32) (w4 : Int64) (v6 : Int32) (v7 : Int32) (v8 : Int32) (v9 : Int32) (v10 : Int32) (o11 : Option am_V) (o13 : Option am_V) (vs0 : Int32) (vs1 : Int32) : jX1_placeOf_124_123 back call s t1 v2 v3 w4 v6 v7 v8 v9 v10 o11 o13 vs0 vs1 = jX1_placeOf_124 back call s t1 v2 v3 w4 v6 v7 v8 v9 v10 o11 o13 vs0 vs1 := rfl
noncomputable def jX1_placeOf_137_136 (back : cs_bt) (call : cs_ct) (s : cs_S) (t1 : Tr) (v2 : Int32) (v3 : Int32) (w4 : Int64) (v6 : Int32) (v7 : Int32) (v8 : Int32) (v9 : Int32) (v10 : Int32) (o11 : Option am_V) (o13 : Option am_V) (vs0 : Int32) (vs1 : Int32) (vs2 : Int32) (vs3 : Int32) (vs4 : Int32) : am_R cs_S := (am_r2 back (gX1_placeOf_136 call)).2 137 [some (.inl (.ref 0)), some (.inr t1), some (.inl (.int v2)), some (.inl (.int v3)), some (.inl (.long w4)), none, some (.inl (.int v6)), some (.inl (.int v7)), some (.inl (.int v8)), some (.inl (.int v9)), some (.inl (.int v10)), o11, none, o13, none] [.inl (.int vs0), .inl (.int vs1), .inl (.int vs2), .inl (.int vs3), .inl (.int vs4), .inl (.ref 0)] s
theorem jX1_placeOf_137_136_eq (back : cs_bt) (call : cs_ct) (s : cs_S) (t1 : Tr) (v2 : Int32) (v3 : Int32) (w4 : Int64) (v6 : Int32) (v7 : Int32) (v8 : Int32) (v9 : Int32) (v10 : Int32) (o11 : Option am_V) (o13 : Option am_V) (vs0 : Int32) (vs1 : Int32) (vs2 : Int32) (vs3 : Int32) (vs4 : Int32) : jX1_placeOf_137_136 back call s t1 v2 v3 w4 v6 v7 v8 v9 v10 o11 o13 vs0 vs1 vs2 vs3 vs4 = jX1_placeOf_137 back call s t1 v2 v3 w4 v6 v7 v8 v9 v10 o11 o13 vs0 vs1 vs2 vs3 vs4 := rfl
noncomputable def jX1_placeOf_140_108 (back : cs_bt) (call : cs_ct) (s : cs_S) (t1 : Tr) (v2 : Int32) (v3 : Int32) (w4 : Int64) (v6 : Int32) (v7 : Int32) (v8 : Int32) (v9 : Int32) (v10 : Int32) (o11 : Option am_V) (o13 : Option am_V) (ws0 : Int64) : am_R cs_S := (am_r2 back (gX1_placeOf_108 call)).2 140 [some (.inl (.ref 0)), some (.inr t1), some (.inl (.int v2)), some (.inl (.int v3)), some (.inl (.long w4)), none, some (.inl (.int v6)), some (.inl (.int v7)), some (.inl (.int v8)), some (.inl (.int v9)), some (.inl (.int v10)), o11, none, o13, none] [.inl (.long ws0)] s
theorem jX1_placeOf_140_108_eq (back : cs_bt) (call : cs_ct) (s : cs_S) (t1 : Tr) (v2 : Int32) (v3 : Int32) (w4 : Int64) (v6 : Int32) (v7 : Int32) (v8 : Int32) (v9 : Int32) (v10 : Int32) (o11 : Option am_V) (o13 : Option am_V) (ws0 : Int64) : jX1_placeOf_140_108 back call s t1 v2 v3 w4 v6 v7 v8 v9 v10 o11 o13 ws0 = jX1_placeOf_140 back call s t1 v2 v3 w4 v6 v7 v8 v9 v10 o11 o13 ws0 := rfl
noncomputable def jX1_placeOf_187_152 (back : cs_bt) (call : cs_ct) (s : cs_S) (t1 : Tr) (v2 : Int32) (v3 : Int32) (w4 : Int64) (v6 : Int32) (v7 : Int32) (v8 : Int32) (v9 : Int32) (v10 : Int32) (w11 : Int64) (o13 : Option am_V) : am_R cs_S := (am_r2 back (gX1_placeOf_152 call)).2 187 [some (.inl (.ref 0)), some (.inr t1), some (.inl (.int v2)), some (.inl (.int v3)), some (.inl (.long w4)), none, some (.inl (.int v6)), some (.inl (.int v7)), some (.inl (.int v8)), some (.inl (.int v9)), some (.inl (.int v10)), some (.inl (.long w11)), none, o13, none] [] s
theorem jX1_placeOf_187_152_eq (back : cs_bt) (call : cs_ct) (s : cs_S) (t1 : Tr) (v2 : Int32) (v3 : Int32) (w4 : Int64) (v6 : Int32) (v7 : Int32) (v8 : Int32) (v9 : Int32) (v10 : Int32) (w11 : Int64) (o13 : Option am_V) : jX1_placeOf_187_152 back call s t1 v2 v3 w4 v6 v7 v8 v9 v10 w11 o13 = jX1_placeOf_187 back call s t1 v2 v3 w4 v6 v7 v8 v9 v10 w11 o13 := rfl
theorem jX1_placeOf_187_eq (back : cs_bt) (call : cs_ct) (s : cs_S) (t1 : Tr) (v2 : Int32) (v3 : Int32) (w4 : Int64) (v6 : Int32) (v7 : Int32) (v8 : Int32) (v9 : Int32) (v10 : Int32) (w11 : Int64) (o13 : Option am_V) : jX1_placeOf_187 back call s t1 v2 v3 w4 v6 v7 v8 v9 v10 w11 o13 =
  back 85 [some (.inl (.ref 0)), some (.inr t1), some (.inl (.int v2)), some (.inl (.int v3)), some (.inl (.long w4)), none, some (.inl (.int v6)), some (.inl (.int v7)), some (.inl (.int v8)), some (.inl (.int v9)), some (.inl (.int (v10 + ic 1))), some (.inl (.long w11)), none, o13, none] [] s := rfl
theorem jX1_placeOf_140_eq (back : cs_bt) (call : cs_ct) (s : cs_S) (t1 : Tr) (v2 : Int32) (v3 : Int32) (w4 : Int64) (v6 : Int32) (v7 : Int32) (v8 : Int32) (v9 : Int32) (v10 : Int32) (o11 : Option am_V) (o13 : Option am_V) (ws0 : Int64) : jX1_placeOf_140 back call s t1 v2 v3 w4 v6 v7 v8 v9 v10 o11 o13 ws0 =
  if (lg_cmp ws0 (lN 0)) = 0 then
    jX1_placeOf_187_152 back call s t1 v2 v3 w4 v6 v7 v8 v9 v10 ws0 o13
  else
    am_cl (call 42 [.inl (.ref 0), .inr t1, .inl (.int v7), .inl (.int v8), .inl (.int v10)] s) am_tx fun r16 s15 =>
    if (lg_cmp r16 (-1)) = 0 then
      jX1_placeOf_187 back call s15 t1 v2 v3 (w4 + ws0) v6 v7 v8 v9 v10 ws0 (some (.inl (.long r16)))
    else
      some (.inl (some (.inl (.long (w4 + r16)))), s15) := rfl
theorem jX1_placeOf_137_eq (back : cs_bt) (call : cs_ct) (s : cs_S) (t1 : Tr) (v2 : Int32) (v3 : Int32) (w4 : Int64) (v6 : Int32) (v7 : Int32) (v8 : Int32) (v9 : Int32) (v10 : Int32) (o11 : Option am_V) (o13 : Option am_V) (vs0 : Int32) (vs1 : Int32) (vs2 : Int32) (vs3 : Int32) (vs4 : Int32) : jX1_placeOf_137 back call s t1 v2 v3 w4 v6 v7 v8 v9 v10 o11 o13 vs0 vs1 vs2 vs3 vs4 =
  am_cl (call 32 [.inl (.ref 0), .inl (.int vs4), .inl (.int vs3), .inl (.int vs2), .inl (.int vs1), .inl (.int vs0)] s) am_tx fun r18 s17 =>
  jX1_placeOf_140 back call s17 t1 v2 v3 w4 v6 v7 v8 v9 v10 o11 o13 r18 := rfl
theorem jX1_placeOf_124_eq (back : cs_bt) (call : cs_ct) (s : cs_S) (t1 : Tr) (v2 : Int32) (v3 : Int32) (w4 : Int64) (v6 : Int32) (v7 : Int32) (v8 : Int32) (v9 : Int32) (v10 : Int32) (o11 : Option am_V) (o13 : Option am_V) (vs0 : Int32) (vs1 : Int32) : jX1_placeOf_124 back call s t1 v2 v3 w4 v6 v7 v8 v9 v10 o11 o13 vs0 vs1 =
  if v9 = 0 then
    jX1_placeOf_137 back call s t1 v2 v3 w4 v6 v7 v8 v9 v10 o11 o13 (ic 0) v3 v2 vs0 vs1
  else
    jX1_placeOf_137_136 back call s t1 v2 v3 w4 v6 v7 v8 v9 v10 o11 o13 v10 v3 v2 vs0 vs1 := rfl
theorem jX1_placeOf_108_eq (back : cs_bt) (call : cs_ct) (s : cs_S) (t1 : Tr) (v2 : Int32) (v3 : Int32) (w4 : Int64) (v6 : Int32) (v7 : Int32) (v8 : Int32) (v9 : Int32) (v10 : Int32) (o11 : Option am_V) (o13 : Option am_V) : jX1_placeOf_108 back call s t1 v2 v3 w4 v6 v7 v8 v9 v10 o11 o13 =
  bif tr_nd t1 then
    if v6 = (ic 1) then
      jX1_placeOf_124_123 back call s t1 v2 v3 w4 v6 v7 v8 v9 v10 o11 o13 (ic 1) (nI (tr_k t1))
    else
      jX1_placeOf_124 back call s t1 v2 v3 w4 v6 v7 v8 v9 v10 o11 o13 (ic 0) (nI (tr_k t1))
  else none := rfl
theorem jX1_placeOf_85_eq (back : cs_bt) (call : cs_ct) (s : cs_S) (t1 : Tr) (v2 : Int32) (v3 : Int32) (w4 : Int64) (v6 : Int32) (v7 : Int32) (v8 : Int32) (v9 : Int32) (v10 : Int32) (o11 : Option am_V) (o13 : Option am_V) : jX1_placeOf_85 back call s t1 v2 v3 w4 v6 v7 v8 v9 v10 o11 o13 =
  if (v3 - v2) < v10 then
    back 50 [some (.inl (.ref 0)), some (.inr t1), some (.inl (.int v2)), some (.inl (.int v3)), some (.inl (.long w4)), none, some (.inl (.int (v6 + ic 1))), some (.inl (.int v7)), some (.inl (.int v8)), some (.inl (.int v9)), some (.inl (.int v10)), o11, none, o13, none] [] s
  else
    if v10 ≤ (ic 1) then
      jX1_placeOf_108_99 back call s t1 v2 v3 w4 v6 v7 v8 v9 v10 o11 o13
    else
      if v9 = 0 then
        jX1_placeOf_140_108 back call s t1 v2 v3 w4 v6 v7 v8 v9 v10 o11 o13 (lN 0)
      else
        jX1_placeOf_108_104 back call s t1 v2 v3 w4 v6 v7 v8 v9 v10 o11 o13 := rfl
theorem jX1_placeOf_80_eq (back : cs_bt) (call : cs_ct) (s : cs_S) (t1 : Tr) (v2 : Int32) (v3 : Int32) (w4 : Int64) (v6 : Int32) (v7 : Int32) (v8 : Int32) (o9 : Option am_V) (o10 : Option am_V) (o11 : Option am_V) (o13 : Option am_V) (vs0 : Int32) : jX1_placeOf_80 back call s t1 v2 v3 w4 v6 v7 v8 o9 o10 o11 o13 vs0 =
  jX1_placeOf_85 back call s t1 v2 v3 w4 v6 v7 v8 vs0 (ic 1) o11 o13 := rfl
theorem jX1_placeOf_50_eq (back : cs_bt) (call : cs_ct) (s : cs_S) (t1 : Tr) (v2 : Int32) (v3 : Int32) (w4 : Int64) (v6 : Int32) (o7 : Option am_V) (o8 : Option am_V) (o9 : Option am_V) (o10 : Option am_V) (o11 : Option am_V) (o13 : Option am_V) : jX1_placeOf_50 back call s t1 v2 v3 w4 v6 o7 o8 o9 o10 o11 o13 =
  if (ic 2) ≤ v6 then
    some (.inl (some (.inl (.long (-1)))), s)
  else
    bif tr_nd t1 then
      am_ct (call (cs_sel [69, 69, 81, 81, 81, 81, 81, 69, 69, 69] (tr_k t1)) [.inr t1] s) am_tx fun r20 s19 =>
      bif tr_lf r20 then
        jX1_placeOf_80 back call s19 t1 v2 v3 w4 v6 (v2 + v6) (v3 - v6) o9 o10 o11 o13 (ic 0)
      else
        jX1_placeOf_80_79 back call s19 t1 v2 v3 w4 v6 (v2 + v6) (v3 - v6) o9 o10 o11 o13 (ic 1)
    else none := rfl
theorem jX1_placeOf_6_eq (back : cs_bt) (call : cs_ct) (s : cs_S) (t1 : Tr) (v2 : Int32) (v3 : Int32) (w4 : Int64) (v6 : Int32) : jX1_placeOf_6 back call s t1 v2 v3 w4 v6 =
  bif tr_nd t1 then
    if (nI (tr_k t1)) ≤ v6 then
      jX1_placeOf_50 back call s t1 v2 v3 w4 (ic 0) none none none none none none
    else
      am_cl (call 32 [.inl (.ref 0), .inl (.int v6), .inl (.int (ic 0)), .inl (.int v2), .inl (.int v3), .inl (.int (ic 0))] s) am_tx fun r22 s21 =>
      am_cl (call 32 [.inl (.ref 0), .inl (.int v6), .inl (.int (ic 1)), .inl (.int v2), .inl (.int v3), .inl (.int (ic 0))] s21) am_tx fun r24 s23 =>
      back 6 [some (.inl (.ref 0)), some (.inr t1), some (.inl (.int v2)), some (.inl (.int v3)), some (.inl (.long (w4 + (r22 + r24)))), none, some (.inl (.int (v6 + ic 1))), none, none, none, none, none, none, none, none] [] s23
  else none := rfl
noncomputable def dX1_placeOf (back : cs_bt) (call : cs_ct) (s : cs_S) (x1 : Tr) (x2 : Int32) (x3 : Int32) : am_R cs_S :=
  jX1_placeOf_6 back call s x1 x2 x3 (lN 0) (ic 0)
theorem dX1_placeOf_rs (back : cs_bt) (call : cs_ct) (s : cs_S) (x1 : Tr) (x2 : Int32) (x3 : Int32) : (am_r2 back (gX1_placeOf call)).1 [some (.inl (.ref 0)), some (.inr x1), some (.inl (.int x2)), some (.inl (.int x3)), none, none, none, none, none, none, none, none, none, none, none] [] s = dX1_placeOf back call s x1 x2 x3 := rfl
theorem dX1_placeOf_eq (N f : Nat) (s : cs_S) (x1 : Tr) (x2 : Int32) (x3 : Int32) : cs_call N (f + 1) 41 [.inl (.ref 0), .inr x1, .inl (.int x2), .inl (.int x3)] s = dX1_placeOf (am_bk (cs_hop 1 (cs_call N f)) am_no (some .long) kX1_placeOf N) (cs_call N f) s x1 x2 x3 := (cs_call_of (mt := 41) (nL := 15) (rt := (some .long)) (code := kX1_placeOf) rfl rfl rfl rfl rfl gX1_placeOf_ok ⟨_, _, _, _, rfl⟩).trans (dX1_placeOf_rs _ _ s x1 x2 x3)
theorem jX1_placeOf_6_bk (call : cs_ct) (n : Nat) (s : cs_S) (t1 : Tr) (v2 : Int32) (v3 : Int32) (w4 : Int64) (v6 : Int32) : am_bk (cs_hop 1 call) am_no (some .long) kX1_placeOf (n + 1) 6 [some (.inl (.ref 0)), some (.inr t1), some (.inl (.int v2)), some (.inl (.int v3)), some (.inl (.long w4)), none, some (.inl (.int v6)), none, none, none, none, none, none, none, none] [] s = jX1_placeOf_6 (am_bk (cs_hop 1 call) am_no (some .long) kX1_placeOf n) call s t1 v2 v3 w4 v6 := (am_bk_of rfl (gX1_placeOf_ok call)).trans rfl
theorem jX1_placeOf_50_bk (call : cs_ct) (n : Nat) (s : cs_S) (t1 : Tr) (v2 : Int32) (v3 : Int32) (w4 : Int64) (v6 : Int32) (o7 : Option am_V) (o8 : Option am_V) (o9 : Option am_V) (o10 : Option am_V) (o11 : Option am_V) (o13 : Option am_V) : am_bk (cs_hop 1 call) am_no (some .long) kX1_placeOf (n + 1) 50 [some (.inl (.ref 0)), some (.inr t1), some (.inl (.int v2)), some (.inl (.int v3)), some (.inl (.long w4)), none, some (.inl (.int v6)), o7, o8, o9, o10, o11, none, o13, none] [] s = jX1_placeOf_50 (am_bk (cs_hop 1 call) am_no (some .long) kX1_placeOf n) call s t1 v2 v3 w4 v6 o7 o8 o9 o10 o11 o13 := (am_bk_of rfl (gX1_placeOf_ok call)).trans rfl
theorem jX1_placeOf_85_bk (call : cs_ct) (n : Nat) (s : cs_S) (t1 : Tr) (v2 : Int32) (v3 : Int32) (w4 : Int64) (v6 : Int32) (v7 : Int32) (v8 : Int32) (v9 : Int32) (v10 : Int32) (o11 : Option am_V) (o13 : Option am_V) : am_bk (cs_hop 1 call) am_no (some .long) kX1_placeOf (n + 1) 85 [some (.inl (.ref 0)), some (.inr t1), some (.inl (.int v2)), some (.inl (.int v3)), some (.inl (.long w4)), none, some (.inl (.int v6)), some (.inl (.int v7)), some (.inl (.int v8)), some (.inl (.int v9)), some (.inl (.int v10)), o11, none, o13, none] [] s = jX1_placeOf_85 (am_bk (cs_hop 1 call) am_no (some .long) kX1_placeOf n) call s t1 v2 v3 w4 v6 v7 v8 v9 v10 o11 o13 := (am_bk_of rfl (gX1_placeOf_ok call)).trans rfl
noncomputable def jX1_placeOf_2_207 (back : cs_bt) (call : cs_ct) (s : cs_S) (t1 : Tr) (v2 : Int32) (v3 : Int32) (v4 : Int32) (w5 : Int64) (ws0 : Int64) : am_R cs_S := (am_r2 back (gX1_placeOf_2_207 call)).1 [some (.inl (.ref 0)), some (.inr t1), some (.inl (.int v2)), some (.inl (.int v3)), some (.inl (.int v4)), some (.inl (.long w5)), none, none, none] [.inl (.long ws0)] s
noncomputable def jX1_placeOf_2_207_192 (back : cs_bt) (call : cs_ct) (s : cs_S) (t1 : Tr) (v2 : Int32) (v3 : Int32) (v4 : Int32) (w5 : Int64) (ws0 : Int64) : am_R cs_S := (am_r2 back (gX1_placeOf_2_192 call)).2 207 [some (.inl (.ref 0)), some (.inr t1), some (.inl (.int v2)), some (.inl (.int v3)), some (.inl (.int v4)), some (.inl (.long w5)), none, none, none] [.inl (.long ws0)] s
theorem jX1_placeOf_2_207_192_eq (back : cs_bt) (call : cs_ct) (s : cs_S) (t1 : Tr) (v2 : Int32) (v3 : Int32) (v4 : Int32) (w5 : Int64) (ws0 : Int64) : jX1_placeOf_2_207_192 back call s t1 v2 v3 v4 w5 ws0 = jX1_placeOf_2_207 back call s t1 v2 v3 v4 w5 ws0 := rfl
theorem jX1_placeOf_2_207_eq (back : cs_bt) (call : cs_ct) (s : cs_S) (t1 : Tr) (v2 : Int32) (v3 : Int32) (v4 : Int32) (w5 : Int64) (ws0 : Int64) : jX1_placeOf_2_207 back call s t1 v2 v3 v4 w5 ws0 =
  if (lg_cmp ws0 (-1)) = 0 then
    some (.inl (some (.inl (.long (-1)))), s)
  else
    am_ix ((v2 + v4) + (ic 1)) 21 fun j73 =>
    am_ix v3 21 fun j74 =>
    some (.inl (some (.inl (.long ((w5 * (cs_l s j73 j74)) + ws0)))), s) := rfl
noncomputable def dX1_placeOf_2 (back : cs_bt) (call : cs_ct) (s : cs_S) (x1 : Tr) (x2 : Int32) (x3 : Int32) (x4 : Int32) : am_R cs_S :=
  bif tr_nd x1 then
    if (nI (tr_k x1)) = nI 0 then
      bif tr_nd x1 then
        am_ci (call (cs_sel [74, 74, 67, 67, 67, 67, 67, 67, 67, 87] (tr_k x1)) [.inr x1] s) am_tx fun r143 s142 =>
        am_ix x2 20 fun j144 =>
        if r143 = (cs_a s142 108 j144) then
          some (.inl (some (.inl (.long (lN 0)))), s142)
        else
          some (.inl (some (.inl (.long (-1)))), s142)
      else none
    else
    if (nI (tr_k x1)) = nI 1 then
      bif tr_nd x1 then
        am_ci (call (cs_sel [74, 74, 67, 67, 67, 67, 67, 67, 67, 87] (tr_k x1)) [.inr x1] s) am_tx fun r139 s138 =>
        am_ci (call 36 [.inl (.ref 0), .inl (.int x2), .inl (.int x3)] s138) am_tx fun r141 s140 =>
        if r139 = r141 then
          some (.inl (some (.inl (.long (lN 0)))), s140)
        else
          some (.inl (some (.inl (.long (-1)))), s140)
      else none
    else
    if (nI (tr_k x1)) = nI 2 then
      bif tr_nd x1 then
        am_ct (call (cs_sel [68, 68, 80, 80, 80, 80, 80, 83, 83, 83] (tr_k x1)) [.inr x1] s) am_tx fun r131 s130 =>
        am_cl (call 41 [.inl (.ref 0), .inr r131, .inl (.int x2), .inl (.int (x2 + x4))] s130) am_tx fun r133 s132 =>
        if (lg_cmp r133 (-1)) = 0 then
          jX1_placeOf_2_207_192 back call s132 x1 x2 x3 x4 r133 (-1)
        else
          bif tr_nd x1 then
            am_ct (call (cs_sel [69, 69, 81, 81, 81, 81, 81, 69, 69, 69] (tr_k x1)) [.inr x1] s132) am_tx fun r135 s134 =>
            am_cl (call 41 [.inl (.ref 0), .inr r135, .inl (.int ((x2 + x4) + (ic 1))), .inl (.int x3)] s134) am_tx fun r137 s136 =>
            jX1_placeOf_2_207 back call s136 x1 x2 x3 x4 r133 r137
          else none
      else none
    else
    if (nI (tr_k x1)) = nI 3 then
      bif tr_nd x1 then
        am_ct (call (cs_sel [68, 68, 80, 80, 80, 80, 80, 83, 83, 83] (tr_k x1)) [.inr x1] s) am_tx fun r123 s122 =>
        am_cl (call 41 [.inl (.ref 0), .inr r123, .inl (.int x2), .inl (.int (x2 + x4))] s122) am_tx fun r125 s124 =>
        if (lg_cmp r125 (-1)) = 0 then
          jX1_placeOf_2_207_192 back call s124 x1 x2 x3 x4 r125 (-1)
        else
          bif tr_nd x1 then
            am_ct (call (cs_sel [69, 69, 81, 81, 81, 81, 81, 69, 69, 69] (tr_k x1)) [.inr x1] s124) am_tx fun r127 s126 =>
            am_cl (call 41 [.inl (.ref 0), .inr r127, .inl (.int ((x2 + x4) + (ic 1))), .inl (.int x3)] s126) am_tx fun r129 s128 =>
            jX1_placeOf_2_207 back call s128 x1 x2 x3 x4 r125 r129
          else none
      else none
    else
    if (nI (tr_k x1)) = nI 4 then
      bif tr_nd x1 then
        am_ct (call (cs_sel [68, 68, 80, 80, 80, 80, 80, 83, 83, 83] (tr_k x1)) [.inr x1] s) am_tx fun r115 s114 =>
        am_cl (call 41 [.inl (.ref 0), .inr r115, .inl (.int x2), .inl (.int (x2 + x4))] s114) am_tx fun r117 s116 =>
        if (lg_cmp r117 (-1)) = 0 then
          jX1_placeOf_2_207_192 back call s116 x1 x2 x3 x4 r117 (-1)
        else
          bif tr_nd x1 then
            am_ct (call (cs_sel [69, 69, 81, 81, 81, 81, 81, 69, 69, 69] (tr_k x1)) [.inr x1] s116) am_tx fun r119 s118 =>
            am_cl (call 41 [.inl (.ref 0), .inr r119, .inl (.int ((x2 + x4) + (ic 1))), .inl (.int x3)] s118) am_tx fun r121 s120 =>
            jX1_placeOf_2_207 back call s120 x1 x2 x3 x4 r117 r121
          else none
      else none
    else
    if (nI (tr_k x1)) = nI 5 then
      bif tr_nd x1 then
        am_ct (call (cs_sel [68, 68, 80, 80, 80, 80, 80, 83, 83, 83] (tr_k x1)) [.inr x1] s) am_tx fun r107 s106 =>
        am_cl (call 41 [.inl (.ref 0), .inr r107, .inl (.int x2), .inl (.int (x2 + x4))] s106) am_tx fun r109 s108 =>
        if (lg_cmp r109 (-1)) = 0 then
          jX1_placeOf_2_207_192 back call s108 x1 x2 x3 x4 r109 (-1)
        else
          bif tr_nd x1 then
            am_ct (call (cs_sel [69, 69, 81, 81, 81, 81, 81, 69, 69, 69] (tr_k x1)) [.inr x1] s108) am_tx fun r111 s110 =>
            am_cl (call 41 [.inl (.ref 0), .inr r111, .inl (.int ((x2 + x4) + (ic 1))), .inl (.int x3)] s110) am_tx fun r113 s112 =>
            jX1_placeOf_2_207 back call s112 x1 x2 x3 x4 r109 r113
          else none
      else none
    else
    if (nI (tr_k x1)) = nI 6 then
      bif tr_nd x1 then
        am_ct (call (cs_sel [68, 68, 80, 80, 80, 80, 80, 83, 83, 83] (tr_k x1)) [.inr x1] s) am_tx fun r99 s98 =>
        am_cl (call 41 [.inl (.ref 0), .inr r99, .inl (.int x2), .inl (.int (x2 + x4))] s98) am_tx fun r101 s100 =>
        if (lg_cmp r101 (-1)) = 0 then
          jX1_placeOf_2_207_192 back call s100 x1 x2 x3 x4 r101 (-1)
        else
          bif tr_nd x1 then
            am_ct (call (cs_sel [69, 69, 81, 81, 81, 81, 81, 69, 69, 69] (tr_k x1)) [.inr x1] s100) am_tx fun r103 s102 =>
            am_cl (call 41 [.inl (.ref 0), .inr r103, .inl (.int ((x2 + x4) + (ic 1))), .inl (.int x3)] s102) am_tx fun r105 s104 =>
            jX1_placeOf_2_207 back call s104 x1 x2 x3 x4 r101 r105
          else none
      else none
    else
    if (nI (tr_k x1)) = nI 7 then
      bif tr_nd x1 then
        am_ct (call (cs_sel [68, 68, 80, 80, 80, 80, 80, 83, 83, 83] (tr_k x1)) [.inr x1] s) am_tx fun r95 s94 =>
        am_cl (call 41 [.inl (.ref 0), .inr r95, .inl (.int (x2 + (ic 1))), .inl (.int x3)] s94) am_tx fun r97 s96 =>
        some (.inl (some (.inl (.long r97))), s96)
      else none
    else
    if (nI (tr_k x1)) = nI 8 then
      bif tr_nd x1 then
        am_ct (call (cs_sel [68, 68, 80, 80, 80, 80, 80, 83, 83, 83] (tr_k x1)) [.inr x1] s) am_tx fun r91 s90 =>
        am_cl (call 41 [.inl (.ref 0), .inr r91, .inl (.int (x2 + (ic 1))), .inl (.int (x3 - (ic 1)))] s90) am_tx fun r93 s92 =>
        some (.inl (some (.inl (.long r93))), s92)
      else none
    else
    if (nI (tr_k x1)) = nI 9 then
      bif tr_nd x1 then
        am_ci (call (cs_sel [74, 74, 67, 67, 67, 67, 67, 67, 67, 87] (tr_k x1)) [.inr x1] s) am_tx fun r84 s83 =>
        am_ix x2 20 fun j85 =>
        if r84 = (cs_a s83 108 j85) then
          bif tr_nd x1 then
            am_ct (call (cs_sel [68, 68, 80, 80, 80, 80, 80, 83, 83, 83] (tr_k x1)) [.inr x1] s83) am_tx fun r87 s86 =>
            am_cl (call 41 [.inl (.ref 0), .inr r87, .inl (.int (x2 + (ic 2))), .inl (.int x3)] s86) am_tx fun r89 s88 =>
            some (.inl (some (.inl (.long r89))), s88)
          else none
        else
          some (.inl (some (.inl (.long (-1)))), s83)
      else none
    else
    bif tr_nd x1 then
      am_ct (call (cs_sel [68, 68, 80, 80, 80, 80, 80, 83, 83, 83] (tr_k x1)) [.inr x1] s) am_tx fun r76 s75 =>
      am_cl (call 41 [.inl (.ref 0), .inr r76, .inl (.int x2), .inl (.int (x2 + x4))] s75) am_tx fun r78 s77 =>
      if (lg_cmp r78 (-1)) = 0 then
        jX1_placeOf_2_207_192 back call s77 x1 x2 x3 x4 r78 (-1)
      else
        bif tr_nd x1 then
          am_ct (call (cs_sel [69, 69, 81, 81, 81, 81, 81, 69, 69, 69] (tr_k x1)) [.inr x1] s77) am_tx fun r80 s79 =>
          am_cl (call 41 [.inl (.ref 0), .inr r80, .inl (.int ((x2 + x4) + (ic 1))), .inl (.int x3)] s79) am_tx fun r82 s81 =>
          jX1_placeOf_2_207 back call s81 x1 x2 x3 x4 r78 r82
        else none
    else none
  else none
theorem dX1_placeOf_2_rs (back : cs_bt) (call : cs_ct) (s : cs_S) (x1 : Tr) (x2 : Int32) (x3 : Int32) (x4 : Int32) : (am_r2 back (gX1_placeOf_2 call)).1 [some (.inl (.ref 0)), some (.inr x1), some (.inl (.int x2)), some (.inl (.int x3)), some (.inl (.int x4)), none, none, none, none] [] s = dX1_placeOf_2 back call s x1 x2 x3 x4 := rfl
theorem dX1_placeOf_2_eq (N f : Nat) (s : cs_S) (x1 : Tr) (x2 : Int32) (x3 : Int32) (x4 : Int32) : cs_call N (f + 1) 42 [.inl (.ref 0), .inr x1, .inl (.int x2), .inl (.int x3), .inl (.int x4)] s = dX1_placeOf_2 (am_bk (cs_hop 1 (cs_call N f)) am_no (some .long) kX1_placeOf_2 N) (cs_call N f) s x1 x2 x3 x4 := (cs_call_of (mt := 42) (nL := 9) (rt := (some .long)) (code := kX1_placeOf_2) rfl rfl rfl rfl rfl gX1_placeOf_2_ok ⟨_, _, _, _, rfl⟩).trans (dX1_placeOf_2_rs _ _ s x1 x2 x3 x4)
noncomputable def jX1_doubt_206 (back : cs_bt) (call : cs_ct) (s : cs_S) (v1 : Int32) (w2 : Int64) (w4 : Int64) (t6 : Tr) (t7 : Tr) (v8 : Int32) (v9 : Int32) (v10 : Int32) (ts0 : Tr) : am_R cs_S := (am_r2 back (gX1_doubt_206 call)).1 [some (.inl (.ref 0)), some (.inl (.int v1)), some (.inl (.long w2)), none, some (.inl (.long w4)), none, some (.inr t6), some (.inr t7), some (.inl (.int v8)), some (.inl (.int v9)), some (.inl (.int v10))] [.inr ts0] s
noncomputable def jX1_doubt_186 (back : cs_bt) (call : cs_ct) (s : cs_S) (v1 : Int32) (w2 : Int64) (w4 : Int64) (t6 : Tr) (t7 : Tr) (v8 : Int32) (v9 : Int32) (v10 : Int32) (ts0 : Tr) : am_R cs_S := (am_r2 back (gX1_doubt_186 call)).1 [some (.inl (.ref 0)), some (.inl (.int v1)), some (.inl (.long w2)), none, some (.inl (.long w4)), none, some (.inr t6), some (.inr t7), some (.inl (.int v8)), some (.inl (.int v9)), some (.inl (.int v10))] [.inr ts0] s
noncomputable def jX1_doubt_158 (back : cs_bt) (call : cs_ct) (s : cs_S) (v1 : Int32) (w2 : Int64) (w4 : Int64) (t6 : Tr) (t7 : Tr) (v8 : Int32) (v9 : Int32) (v10 : Int32) (vs0 : Int32) (vs1 : Int32) (vs2 : Int32) : am_R cs_S := (am_r2 back (gX1_doubt_158 call)).1 [some (.inl (.ref 0)), some (.inl (.int v1)), some (.inl (.long w2)), none, some (.inl (.long w4)), none, some (.inr t6), some (.inr t7), some (.inl (.int v8)), some (.inl (.int v9)), some (.inl (.int v10))] [.inl (.int vs0), .inl (.int vs1), .inl (.int vs2)] s
noncomputable def jX1_doubt_142 (back : cs_bt) (call : cs_ct) (s : cs_S) (v1 : Int32) (w2 : Int64) (w4 : Int64) (t6 : Tr) (t7 : Tr) (v8 : Int32) (v9 : Int32) (o10 : Option am_V) (vs0 : Int32) : am_R cs_S := (am_r2 back (gX1_doubt_142 call)).1 [some (.inl (.ref 0)), some (.inl (.int v1)), some (.inl (.long w2)), none, some (.inl (.long w4)), none, some (.inr t6), some (.inr t7), some (.inl (.int v8)), some (.inl (.int v9)), o10] [.inl (.int vs0)] s
noncomputable def jX1_doubt_95 (back : cs_bt) (call : cs_ct) (s : cs_S) (v1 : Int32) (w2 : Int64) (w4 : Int64) (t6 : Tr) (t7 : Tr) (v8 : Int32) (v9 : Int32) (o10 : Option am_V) : am_R cs_S := (am_r2 back (gX1_doubt_95 call)).1 [some (.inl (.ref 0)), some (.inl (.int v1)), some (.inl (.long w2)), none, some (.inl (.long w4)), none, some (.inr t6), some (.inr t7), some (.inl (.int v8)), some (.inl (.int v9)), o10] [] s
noncomputable def jX1_doubt_142_141 (back : cs_bt) (call : cs_ct) (s : cs_S) (v1 : Int32) (w2 : Int64) (w4 : Int64) (t6 : Tr) (t7 : Tr) (v8 : Int32) (v9 : Int32) (o10 : Option am_V) (vs0 : Int32) : am_R cs_S := (am_r2 back (gX1_doubt_141 call)).2 142 [some (.inl (.ref 0)), some (.inl (.int v1)), some (.inl (.long w2)), none, some (.inl (.long w4)), none, some (.inr t6), some (.inr t7), some (.inl (.int v8)), some (.inl (.int v9)), o10] [.inl (.int vs0)] s
theorem jX1_doubt_142_141_eq (back : cs_bt) (call : cs_ct) (s : cs_S) (v1 : Int32) (w2 : Int64) (w4 : Int64) (t6 : Tr) (t7 : Tr) (v8 : Int32) (v9 : Int32) (o10 : Option am_V) (vs0 : Int32) : jX1_doubt_142_141 back call s v1 w2 w4 t6 t7 v8 v9 o10 vs0 = jX1_doubt_142 back call s v1 w2 w4 t6 t7 v8 v9 o10 vs0 := rfl
noncomputable def jX1_doubt_158_157 (back : cs_bt) (call : cs_ct) (s : cs_S) (v1 : Int32) (w2 : Int64) (w4 : Int64) (t6 : Tr) (t7 : Tr) (v8 : Int32) (v9 : Int32) (v10 : Int32) (vs0 : Int32) (vs1 : Int32) (vs2 : Int32) : am_R cs_S := (am_r2 back (gX1_doubt_157 call)).2 158 [some (.inl (.ref 0)), some (.inl (.int v1)), some (.inl (.long w2)), none, some (.inl (.long w4)), none, some (.inr t6), some (.inr t7), some (.inl (.int v8)), some (.inl (.int v9)), some (.inl (.int v10))] [.inl (.int vs0), .inl (.int vs1), .inl (.int vs2)] s
theorem jX1_doubt_158_157_eq (back : cs_bt) (call : cs_ct) (s : cs_S) (v1 : Int32) (w2 : Int64) (w4 : Int64) (t6 : Tr) (t7 : Tr) (v8 : Int32) (v9 : Int32) (v10 : Int32) (vs0 : Int32) (vs1 : Int32) (vs2 : Int32) : jX1_doubt_158_157 back call s v1 w2 w4 t6 t7 v8 v9 v10 vs0 vs1 vs2 = jX1_doubt_158 back call s v1 w2 w4 t6 t7 v8 v9 v10 vs0 vs1 vs2 := rfl
noncomputable def jX1_doubt_186_181 (back : cs_bt) (call : cs_ct) (s : cs_S) (v1 : Int32) (w2 : Int64) (w4 : Int64) (t6 : Tr) (t7 : Tr) (v8 : Int32) (v9 : Int32) (v10 : Int32) (ts0 : Tr) : am_R cs_S := (am_r2 back (gX1_doubt_181 call)).2 186 [some (.inl (.ref 0)), some (.inl (.int v1)), some (.inl (.long w2)), none, some (.inl (.long w4)), none, some (.inr t6), some (.inr t7), some (.inl (.int v8)), some (.inl (.int v9)), some (.inl (.int v10))] [.inr ts0] s
theorem jX1_doubt_186_181_eq (back : cs_bt) (call : cs_ct) (s : cs_S) (v1 : Int32) (w2 : Int64) (w4 : Int64) (t6 : Tr) (t7 : Tr) (v8 : Int32) (v9 : Int32) (v10 : Int32) (ts0 : Tr) : jX1_doubt_186_181 back call s v1 w2 w4 t6 t7 v8 v9 v10 ts0 = jX1_doubt_186 back call s v1 w2 w4 t6 t7 v8 v9 v10 ts0 := rfl
noncomputable def jX1_doubt_206_201 (back : cs_bt) (call : cs_ct) (s : cs_S) (v1 : Int32) (w2 : Int64) (w4 : Int64) (t6 : Tr) (t7 : Tr) (v8 : Int32) (v9 : Int32) (v10 : Int32) (ts0 : Tr) : am_R cs_S := (am_r2 back (gX1_doubt_201 call)).2 206 [some (.inl (.ref 0)), some (.inl (.int v1)), some (.inl (.long w2)), none, some (.inl (.long w4)), none, some (.inr t6), some (.inr t7), some (.inl (.int v8)), some (.inl (.int v9)), some (.inl (.int v10))] [.inr ts0] s
theorem jX1_doubt_206_201_eq (back : cs_bt) (call : cs_ct) (s : cs_S) (v1 : Int32) (w2 : Int64) (w4 : Int64) (t6 : Tr) (t7 : Tr) (v8 : Int32) (v9 : Int32) (v10 : Int32) (ts0 : Tr) : jX1_doubt_206_201 back call s v1 w2 w4 t6 t7 v8 v9 v10 ts0 = jX1_doubt_206 back call s v1 w2 w4 t6 t7 v8 v9 v10 ts0 := rfl
theorem jX1_doubt_206_eq (back : cs_bt) (call : cs_ct) (s : cs_S) (v1 : Int32) (w2 : Int64) (w4 : Int64) (t6 : Tr) (t7 : Tr) (v8 : Int32) (v9 : Int32) (v10 : Int32) (ts0 : Tr) : jX1_doubt_206 back call s v1 w2 w4 t6 t7 v8 v9 v10 ts0 =
  back 95 [some (.inl (.ref 0)), some (.inl (.int v1)), some (.inl (.long w2)), none, some (.inl (.long w4)), none, some (.inr t6), some (.inr ts0), some (.inl (.int v8)), some (.inl (.int v9)), some (.inl (.int v10))] [] s := rfl
theorem jX1_doubt_186_eq (back : cs_bt) (call : cs_ct) (s : cs_S) (v1 : Int32) (w2 : Int64) (w4 : Int64) (t6 : Tr) (t7 : Tr) (v8 : Int32) (v9 : Int32) (v10 : Int32) (ts0 : Tr) : jX1_doubt_186 back call s v1 w2 w4 t6 t7 v8 v9 v10 ts0 =
  if v10 = 0 then
    bif tr_nd t7 then
      am_ct (call (cs_sel [69, 69, 81, 81, 81, 81, 81, 69, 69, 69] (tr_k t7)) [.inr t7] s) am_tx fun r40 s39 =>
      jX1_doubt_206 back call s39 v1 w2 w4 ts0 t7 v8 v9 v10 r40
    else none
  else
    bif tr_nd t7 then
      am_ct (call (cs_sel [68, 68, 80, 80, 80, 80, 80, 83, 83, 83] (tr_k t7)) [.inr t7] s) am_tx fun r42 s41 =>
      jX1_doubt_206_201 back call s41 v1 w2 w4 ts0 t7 v8 v9 v10 r42
    else none := rfl
theorem jX1_doubt_158_eq (back : cs_bt) (call : cs_ct) (s : cs_S) (v1 : Int32) (w2 : Int64) (w4 : Int64) (t6 : Tr) (t7 : Tr) (v8 : Int32) (v9 : Int32) (v10 : Int32) (vs0 : Int32) (vs1 : Int32) (vs2 : Int32) : jX1_doubt_158 back call s v1 w2 w4 t6 t7 v8 v9 v10 vs0 vs1 vs2 =
  if v10 = 0 then
    bif tr_nd t6 then
      am_ct (call (cs_sel [69, 69, 81, 81, 81, 81, 81, 69, 69, 69] (tr_k t6)) [.inr t6] s) am_tx fun r44 s43 =>
      jX1_doubt_186 back call s43 v1 w2 w4 t6 t7 (vs2 + (vs1 * vs0)) (v9 * (ic 3)) v10 r44
    else none
  else
    bif tr_nd t6 then
      am_ct (call (cs_sel [68, 68, 80, 80, 80, 80, 80, 83, 83, 83] (tr_k t6)) [.inr t6] s) am_tx fun r46 s45 =>
      jX1_doubt_186_181 back call s45 v1 w2 w4 t6 t7 (vs2 + (vs1 * vs0)) (v9 * (ic 3)) v10 r46
    else none := rfl
theorem jX1_doubt_142_eq (back : cs_bt) (call : cs_ct) (s : cs_S) (v1 : Int32) (w2 : Int64) (w4 : Int64) (t6 : Tr) (t7 : Tr) (v8 : Int32) (v9 : Int32) (o10 : Option am_V) (vs0 : Int32) : jX1_doubt_142 back call s v1 w2 w4 t6 t7 v8 v9 o10 vs0 =
  if vs0 = 0 then
    jX1_doubt_158 back call s v1 w2 w4 t6 t7 v8 v9 vs0 (ic 2) v9 v8
  else
    jX1_doubt_158_157 back call s v1 w2 w4 t6 t7 v8 v9 vs0 (ic 1) v9 v8 := rfl
theorem jX1_doubt_95_eq (back : cs_bt) (call : cs_ct) (s : cs_S) (v1 : Int32) (w2 : Int64) (w4 : Int64) (t6 : Tr) (t7 : Tr) (v8 : Int32) (v9 : Int32) (o10 : Option am_V) : jX1_doubt_95 back call s v1 w2 w4 t6 t7 v8 v9 o10 =
  bif tr_nd t6 then
    bif tr_nd t7 then
      if (nI (tr_k t6)) = (nI (tr_k t7)) then
        bif tr_nd t6 then
          am_ci (call (cs_sel [74, 74, 67, 67, 67, 67, 67, 67, 67, 87] (tr_k t6)) [.inr t6] s) am_tx fun r48 s47 =>
          bif tr_nd t7 then
            am_ci (call (cs_sel [74, 74, 67, 67, 67, 67, 67, 67, 67, 87] (tr_k t7)) [.inr t7] s47) am_tx fun r50 s49 =>
            if r48 = r50 then
              bif tr_nd t6 then
                am_ct (call (cs_sel [68, 68, 80, 80, 80, 80, 80, 83, 83, 83] (tr_k t6)) [.inr t6] s49) am_tx fun r52 s51 =>
                bif tr_nd t7 then
                  am_ct (call (cs_sel [68, 68, 80, 80, 80, 80, 80, 83, 83, 83] (tr_k t7)) [.inr t7] s51) am_tx fun r54 s53 =>
                  bif tr_nd r52 then
                    am_ci (call (cs_sel [71, 71, 71, 71, 71, 71, 71, 71, 71, 71] (tr_k r52)) [.inr r52, .inr r54] s53) am_tx fun r56 s55 =>
                    if r56 = 0 then
                      jX1_doubt_142_141 back call s55 v1 w2 w4 t6 t7 v8 v9 o10 (ic 1)
                    else
                      jX1_doubt_142 back call s55 v1 w2 w4 t6 t7 v8 v9 o10 (ic 0)
                  else none
                else none
              else none
            else
              some (.inl (some (.inl (.int v8))), s49)
          else none
        else none
      else
        some (.inl (some (.inl (.int v8))), s)
    else none
  else none := rfl
noncomputable def dX1_doubt (back : cs_bt) (call : cs_ct) (s : cs_S) (x1 : Int32) (x2 : Int64) (x3 : Int64) : am_R cs_S :=
  am_ci (call 29 [.inl (.int x1)] s) am_tx fun r58 s57 =>
  if r58 = 0 then
    some (.inl (some (.inl (.int (ic (-1))))), s57)
  else
    if (lg_cmp x2 (lN 0)) < 0 then
      some (.inl (some (.inl (.int (ic (-1))))), s57)
    else
      if 0 ≤ (lg_cmp x3 (lN 0)) then
        am_cl (call 30 [.inl (.ref 0), .inl (.int x1)] s57) am_tx fun r60 s59 =>
        if (lg_cmp (if x3 < x2 then x2 else x3) r60) < 0 then
          if (lg_cmp x2 x3) = 0 then
            some (.inl (some (.inl (.int (ic (-2))))), s59)
          else
            bif Nat.ble (cs_y s59).length 500 then
              am_cv (call 204 [.inr (.inner (cs_y s59).length 52 0 .leaf .leaf)] (cs_mk (cs_py s59 (cs_y s59 ++ [0])) 1 3)) am_tx fun s61 =>
              am_ct (call 38 [.inl (.ref 0), .inl (.int (ic 0)), .inl (.int (cs_i s59 9)), .inl (.long x2), .inr (.inner (cs_y s59).length 52 0 .leaf .leaf)] s61) am_tx fun r63 s62 =>
              bif Nat.ble (cs_y s62).length 500 then
                am_cv (call 204 [.inr (.inner (cs_y s62).length 52 0 .leaf .leaf)] (cs_mk (cs_py s62 (cs_y s62 ++ [0])) 1 3)) am_tx fun s64 =>
                am_ct (call 38 [.inl (.ref 0), .inl (.int (ic 0)), .inl (.int (cs_i s62 9)), .inl (.long x3), .inr (.inner (cs_y s62).length 52 0 .leaf .leaf)] s64) am_tx fun r66 s65 =>
                jX1_doubt_95 back call s65 x1 x2 x3 r63 r66 (ic 0) (ic 1) none
              else none
            else none
        else
          some (.inl (some (.inl (.int (ic (-4))))), s59)
      else
        some (.inl (some (.inl (.int (ic (-1))))), s57)
theorem dX1_doubt_rs (back : cs_bt) (call : cs_ct) (s : cs_S) (x1 : Int32) (x2 : Int64) (x3 : Int64) : (am_r2 back (gX1_doubt call)).1 [some (.inl (.ref 0)), some (.inl (.int x1)), some (.inl (.long x2)), none, some (.inl (.long x3)), none, none, none, none, none, none] [] s = dX1_doubt back call s x1 x2 x3 := rfl
theorem dX1_doubt_eq (N f : Nat) (s : cs_S) (x1 : Int32) (x2 : Int64) (x3 : Int64) : cs_call N (f + 1) 43 [.inl (.ref 0), .inl (.int x1), .inl (.long x2), .inl (.long x3)] s = dX1_doubt (am_bk (cs_hop 1 (cs_call N f)) am_no (some .int) kX1_doubt N) (cs_call N f) s x1 x2 x3 := (cs_call_of (mt := 43) (nL := 11) (rt := (some .int)) (code := kX1_doubt) rfl rfl rfl rfl rfl gX1_doubt_ok ⟨_, _, _, _, rfl⟩).trans (dX1_doubt_rs _ _ s x1 x2 x3)
theorem jX1_doubt_95_bk (call : cs_ct) (n : Nat) (s : cs_S) (v1 : Int32) (w2 : Int64) (w4 : Int64) (t6 : Tr) (t7 : Tr) (v8 : Int32) (v9 : Int32) (o10 : Option am_V) : am_bk (cs_hop 1 call) am_no (some .int) kX1_doubt (n + 1) 95 [some (.inl (.ref 0)), some (.inl (.int v1)), some (.inl (.long w2)), none, some (.inl (.long w4)), none, some (.inr t6), some (.inr t7), some (.inl (.int v8)), some (.inl (.int v9)), o10] [] s = jX1_doubt_95 (am_bk (cs_hop 1 call) am_no (some .int) kX1_doubt n) call s v1 w2 w4 t6 t7 v8 v9 o10 := (am_bk_of rfl (gX1_doubt_ok call)).trans rfl
noncomputable def jX1_fewest_121 (back : cs_bt) (call : cs_ct) (s : cs_S) (v1 : Int32) (t2 : Tr) (v3 : Int32) (v4 : Int32) (v5 : Int32) : am_R cs_S := (am_r2 back (gX1_fewest_121 call)).1 [some (.inl (.ref 0)), some (.inl (.int v1)), some (.inr t2), some (.inl (.int v3)), some (.inl (.int v4)), some (.inl (.int v5))] [] s
noncomputable def jX1_fewest_85 (back : cs_bt) (call : cs_ct) (s : cs_S) (v1 : Int32) (t2 : Tr) (v3 : Int32) (v4 : Int32) (v5 : Int32) : am_R cs_S := (am_r2 back (gX1_fewest_85 call)).1 [some (.inl (.ref 0)), some (.inl (.int v1)), some (.inr t2), some (.inl (.int v3)), some (.inl (.int v4)), some (.inl (.int v5))] [] s
noncomputable def jX1_fewest_74 (back : cs_bt) (call : cs_ct) (s : cs_S) (v1 : Int32) (t2 : Tr) (v3 : Int32) (v4 : Int32) (v5 : Int32) : am_R cs_S := (am_r2 back (gX1_fewest_74 call)).1 [some (.inl (.ref 0)), some (.inl (.int v1)), some (.inr t2), some (.inl (.int v3)), some (.inl (.int v4)), some (.inl (.int v5))] [] s
noncomputable def jX1_fewest_121_107 (back : cs_bt) (call : cs_ct) (s : cs_S) (v1 : Int32) (t2 : Tr) (v3 : Int32) (v4 : Int32) (v5 : Int32) : am_R cs_S := (am_r2 back (gX1_fewest_107 call)).2 121 [some (.inl (.ref 0)), some (.inl (.int v1)), some (.inr t2), some (.inl (.int v3)), some (.inl (.int v4)), some (.inl (.int v5))] [] s
theorem jX1_fewest_121_107_eq (back : cs_bt) (call : cs_ct) (s : cs_S) (v1 : Int32) (t2 : Tr) (v3 : Int32) (v4 : Int32) (v5 : Int32) : jX1_fewest_121_107 back call s v1 t2 v3 v4 v5 = jX1_fewest_121 back call s v1 t2 v3 v4 v5 := rfl
noncomputable def jX1_fewest_121_116 (back : cs_bt) (call : cs_ct) (s : cs_S) (v1 : Int32) (t2 : Tr) (v3 : Int32) (v4 : Int32) (v5 : Int32) : am_R cs_S := (am_r2 back (gX1_fewest_116 call)).2 121 [some (.inl (.ref 0)), some (.inl (.int v1)), some (.inr t2), some (.inl (.int v3)), some (.inl (.int v4)), some (.inl (.int v5))] [] s
theorem jX1_fewest_121_116_eq (back : cs_bt) (call : cs_ct) (s : cs_S) (v1 : Int32) (t2 : Tr) (v3 : Int32) (v4 : Int32) (v5 : Int32) : jX1_fewest_121_116 back call s v1 t2 v3 v4 v5 = jX1_fewest_121 back call s v1 t2 v3 v4 v5 := rfl
theorem jX1_fewest_121_eq (back : cs_bt) (call : cs_ct) (s : cs_S) (v1 : Int32) (t2 : Tr) (v3 : Int32) (v4 : Int32) (v5 : Int32) : jX1_fewest_121 back call s v1 t2 v3 v4 v5 =
  back 85 [some (.inl (.ref 0)), some (.inl (.int v1)), some (.inr t2), some (.inl (.int v3)), some (.inl (.int v4)), some (.inl (.int v5))] [] (cs_pi s 12 ((cs_i s 12) + (ic 1))) := rfl
theorem jX1_fewest_85_eq (back : cs_bt) (call : cs_ct) (s : cs_S) (v1 : Int32) (t2 : Tr) (v3 : Int32) (v4 : Int32) (v5 : Int32) : jX1_fewest_85 back call s v1 t2 v3 v4 v5 =
  if ((ic 1) <<< (v3 &&& 31)) ≤ (cs_i s 12) then
    back 74 [some (.inl (.ref 0)), some (.inl (.int v1)), some (.inr t2), some (.inl (.int v3)), some (.inl (.int v4)), some (.inl (.int (v5 + ic 1)))] [] s
  else
    am_ci (call 46 [.inl (.int (cs_i s 12))] s) am_tx fun r16 s15 =>
    if r16 = v5 then
      am_ci (call 47 [.inl (.ref 0), .inr t2, .inl (.int v3)] s15) am_tx fun r18 s17 =>
      if r18 = 0 then
        jX1_fewest_121_116 back call s17 v1 t2 v3 v4 v5
      else
        some (.inl (some (.inl (.int (cs_i s17 9)))), s17)
    else
      jX1_fewest_121_107 back call s15 v1 t2 v3 v4 v5 := rfl
theorem jX1_fewest_74_eq (back : cs_bt) (call : cs_ct) (s : cs_S) (v1 : Int32) (t2 : Tr) (v3 : Int32) (v4 : Int32) (v5 : Int32) : jX1_fewest_74 back call s v1 t2 v3 v4 v5 =
  if v3 < v5 then
    cs_cp 114 (ic 0) 108 (ic 0) (ic 20) s fun s19 =>
    some (.inl (some (.inl (.int (ic (-2))))), (cs_pi s19 9 v4))
  else
    jX1_fewest_85 back call (cs_pi s 12 (ic 0)) v1 t2 v3 v4 v5 := rfl
noncomputable def dX1_fewest (back : cs_bt) (call : cs_ct) (s : cs_S) (x1 : Int32) : am_R cs_S :=
  am_ci (call 5 [.inl (.ref 0), .inl (.int x1)] s) am_tx fun r21 s20 =>
  if r21 = 0 then
    some (.inl (some (.inl (.int (ic (-1))))), s20)
  else
    am_ct (call 201 [.inl (.ref 100), .inl (.int x1)] s20) am_tx fun r23 s22 =>
    bif tr_nd r23 then
      am_ci (call 45 [.inr r23] s22) am_tx fun r25 s24 =>
      bif tr_nd r23 then
        am_ci (call (cs_sel [75, 78, 70, 70, 70, 70, 70, 70, 70, 88] (tr_k r23)) [.inr r23, .inl (.int (cs_i s24 1))] s24) am_tx fun r27 s26 =>
        if r27 = 0 then
          some (.inl (some (.inl (.int (ic (-3))))), s26)
        else
          if r25 ≤ (ic 8) then
            cs_cp 108 (ic 0) 114 (ic 0) (ic 20) s26 fun s28 =>
            jX1_fewest_74 back call s28 x1 r23 r25 (cs_i s26 9) (ic 0)
          else
            some (.inl (some (.inl (.int (ic (-5))))), s26)
      else none
    else none
theorem dX1_fewest_rs (back : cs_bt) (call : cs_ct) (s : cs_S) (x1 : Int32) : (am_r2 back (gX1_fewest call)).1 [some (.inl (.ref 0)), some (.inl (.int x1)), none, none, none, none] [] s = dX1_fewest back call s x1 := rfl
theorem dX1_fewest_eq (N f : Nat) (s : cs_S) (x1 : Int32) : cs_call N (f + 1) 44 [.inl (.ref 0), .inl (.int x1)] s = dX1_fewest (am_bk (cs_hop 1 (cs_call N f)) am_no (some .int) kX1_fewest N) (cs_call N f) s x1 := (cs_call_of (mt := 44) (nL := 6) (rt := (some .int)) (code := kX1_fewest) rfl rfl rfl rfl rfl gX1_fewest_ok ⟨_, _, _, _, rfl⟩).trans (dX1_fewest_rs _ _ s x1)
theorem jX1_fewest_74_bk (call : cs_ct) (n : Nat) (s : cs_S) (v1 : Int32) (t2 : Tr) (v3 : Int32) (v4 : Int32) (v5 : Int32) : am_bk (cs_hop 1 call) am_no (some .int) kX1_fewest (n + 1) 74 [some (.inl (.ref 0)), some (.inl (.int v1)), some (.inr t2), some (.inl (.int v3)), some (.inl (.int v4)), some (.inl (.int v5))] [] s = jX1_fewest_74 (am_bk (cs_hop 1 call) am_no (some .int) kX1_fewest n) call s v1 t2 v3 v4 v5 := (am_bk_of rfl (gX1_fewest_ok call)).trans rfl
theorem jX1_fewest_85_bk (call : cs_ct) (n : Nat) (s : cs_S) (v1 : Int32) (t2 : Tr) (v3 : Int32) (v4 : Int32) (v5 : Int32) : am_bk (cs_hop 1 call) am_no (some .int) kX1_fewest (n + 1) 85 [some (.inl (.ref 0)), some (.inl (.int v1)), some (.inr t2), some (.inl (.int v3)), some (.inl (.int v4)), some (.inl (.int v5))] [] s = jX1_fewest_85 (am_bk (cs_hop 1 call) am_no (some .int) kX1_fewest n) call s v1 t2 v3 v4 v5 := (am_bk_of rfl (gX1_fewest_ok call)).trans rfl
noncomputable def jX1_keepers_33 (back : cs_bt) (call : cs_ct) (s : cs_S) (t0 : Tr) (v1 : Int32) : am_R cs_S := (am_r2 back (gX1_keepers_33 call)).1 [some (.inr t0), some (.inl (.int v1))] [] s
noncomputable def jX1_keepers_15 (back : cs_bt) (call : cs_ct) (s : cs_S) (t0 : Tr) (vs0 : Int32) : am_R cs_S := (am_r2 back (gX1_keepers_15 call)).1 [some (.inr t0), none] [.inl (.int vs0)] s
noncomputable def jX1_keepers_15_14 (back : cs_bt) (call : cs_ct) (s : cs_S) (t0 : Tr) (vs0 : Int32) : am_R cs_S := (am_r2 back (gX1_keepers_14 call)).2 15 [some (.inr t0), none] [.inl (.int vs0)] s
theorem jX1_keepers_15_14_eq (back : cs_bt) (call : cs_ct) (s : cs_S) (t0 : Tr) (vs0 : Int32) : jX1_keepers_15_14 back call s t0 vs0 = jX1_keepers_15 back call s t0 vs0 := rfl
noncomputable def jX1_keepers_33_23 (back : cs_bt) (call : cs_ct) (s : cs_S) (t0 : Tr) (v1 : Int32) : am_R cs_S := (am_r2 back (gX1_keepers_23 call)).2 33 [some (.inr t0), some (.inl (.int v1))] [] s
theorem jX1_keepers_33_23_eq (back : cs_bt) (call : cs_ct) (s : cs_S) (t0 : Tr) (v1 : Int32) : jX1_keepers_33_23 back call s t0 v1 = jX1_keepers_33 back call s t0 v1 := rfl
theorem jX1_keepers_33_eq (back : cs_bt) (call : cs_ct) (s : cs_S) (t0 : Tr) (v1 : Int32) : jX1_keepers_33 back call s t0 v1 =
  bif tr_nd t0 then
    am_ct (call (cs_sel [69, 69, 81, 81, 81, 81, 81, 69, 69, 69] (tr_k t0)) [.inr t0] s) am_tx fun r16 s15 =>
    bif tr_lf r16 then
      some (.inl (some (.inl (.int v1))), s15)
    else
      bif tr_nd t0 then
        am_ct (call (cs_sel [69, 69, 81, 81, 81, 81, 81, 69, 69, 69] (tr_k t0)) [.inr t0] s15) am_tx fun r18 s17 =>
        am_ci (call 45 [.inr r18] s17) am_tx fun r20 s19 =>
        some (.inl (some (.inl (.int (v1 + r20)))), s19)
      else none
  else none := rfl
theorem jX1_keepers_15_eq (back : cs_bt) (call : cs_ct) (s : cs_S) (t0 : Tr) (vs0 : Int32) : jX1_keepers_15 back call s t0 vs0 =
  bif tr_nd t0 then
    am_ct (call (cs_sel [68, 68, 80, 80, 80, 80, 80, 83, 83, 83] (tr_k t0)) [.inr t0] s) am_tx fun r22 s21 =>
    bif tr_lf r22 then
      jX1_keepers_33_23 back call s21 t0 vs0
    else
      bif tr_nd t0 then
        am_ct (call (cs_sel [68, 68, 80, 80, 80, 80, 80, 83, 83, 83] (tr_k t0)) [.inr t0] s21) am_tx fun r24 s23 =>
        am_ci (call 45 [.inr r24] s23) am_tx fun r26 s25 =>
        jX1_keepers_33 back call s25 t0 (vs0 + r26)
      else none
  else none := rfl
noncomputable def dX1_keepers (back : cs_bt) (call : cs_ct) (s : cs_S) (x1 : Tr) : am_R cs_S :=
  bif tr_nd x1 then
    am_ci (call 14 [.inl (.int (nI (tr_k x1)))] s) am_tx fun r28 s27 =>
    if r28 = 0 then
      jX1_keepers_15 back call s27 x1 (ic 0)
    else
      jX1_keepers_15_14 back call s27 x1 (ic 1)
  else none
theorem dX1_keepers_rs (back : cs_bt) (call : cs_ct) (s : cs_S) (x1 : Tr) : (am_r2 back (gX1_keepers call)).1 [some (.inr x1), none] [] s = dX1_keepers back call s x1 := rfl
theorem dX1_keepers_eq (N f : Nat) (s : cs_S) (x1 : Tr) : cs_call N (f + 1) 45 [.inr x1] s = dX1_keepers (am_bk (cs_hop 1 (cs_call N f)) am_no (some .int) kX1_keepers N) (cs_call N f) s x1 := (cs_call_of (mt := 45) (nL := 2) (rt := (some .int)) (code := kX1_keepers) rfl rfl rfl rfl rfl gX1_keepers_ok ⟨_, _, _, _, rfl⟩).trans (dX1_keepers_rs _ _ s x1)
noncomputable def jX1_many_4 (back : cs_bt) (call : cs_ct) (s : cs_S) (v0 : Int32) (v1 : Int32) (v2 : Int32) : am_R cs_S := (am_r2 back (gX1_many_4 call)).1 [some (.inl (.int v0)), some (.inl (.int v1)), some (.inl (.int v2))] [] s
theorem jX1_many_4_eq (back : cs_bt) (call : cs_ct) (s : cs_S) (v0 : Int32) (v1 : Int32) (v2 : Int32) : jX1_many_4 back call s v0 v1 v2 =
  if v2 = 0 then
    some (.inl (some (.inl (.int v1))), s)
  else
    back 4 [some (.inl (.int v0)), some (.inl (.int (v1 + ic 1))), some (.inl (.int (v2 &&& (v2 - (ic 1)))))] [] s := rfl
noncomputable def dX1_many (back : cs_bt) (call : cs_ct) (s : cs_S) (x1 : Int32) : am_R cs_S :=
  jX1_many_4 back call s x1 (ic 0) x1
theorem dX1_many_rs (back : cs_bt) (call : cs_ct) (s : cs_S) (x1 : Int32) : (am_r2 back (gX1_many call)).1 [some (.inl (.int x1)), none, none] [] s = dX1_many back call s x1 := rfl
theorem dX1_many_eq (N f : Nat) (s : cs_S) (x1 : Int32) : cs_call N (f + 1) 46 [.inl (.int x1)] s = dX1_many (am_bk (cs_hop 1 (cs_call N f)) am_no (some .int) kX1_many N) (cs_call N f) s x1 := (cs_call_of (mt := 46) (nL := 3) (rt := (some .int)) (code := kX1_many) rfl rfl rfl rfl rfl gX1_many_ok ⟨_, _, _, _, rfl⟩).trans (dX1_many_rs _ _ s x1)
theorem jX1_many_4_bk (call : cs_ct) (n : Nat) (s : cs_S) (v0 : Int32) (v1 : Int32) (v2 : Int32) : am_bk (cs_hop 1 call) am_no (some .int) kX1_many (n + 1) 4 [some (.inl (.int v0)), some (.inl (.int v1)), some (.inl (.int v2))] [] s = jX1_many_4 (am_bk (cs_hop 1 call) am_no (some .int) kX1_many n) call s v0 v1 v2 := (am_bk_of rfl (gX1_many_ok call)).trans rfl
noncomputable def jX1_chooses_210 (back : cs_bt) (call : cs_ct) (s : cs_S) (t1 : Tr) (v2 : Int32) : am_R cs_S := (am_r2 back (gX1_chooses_210 call)).1 [some (.inl (.ref 0)), some (.inr t1), some (.inl (.int v2))] [] s
noncomputable def jX1_chooses_192 (back : cs_bt) (call : cs_ct) (s : cs_S) (t1 : Tr) (v2 : Int32) : am_R cs_S := (am_r2 back (gX1_chooses_192 call)).1 [some (.inl (.ref 0)), some (.inr t1), some (.inl (.int v2))] [] s
noncomputable def jX1_chooses_161 (back : cs_bt) (call : cs_ct) (s : cs_S) (t1 : Tr) (v2 : Int32) : am_R cs_S := (am_r2 back (gX1_chooses_161 call)).1 [some (.inl (.ref 0)), some (.inr t1), some (.inl (.int v2))] [] s
noncomputable def jX1_chooses_130 (back : cs_bt) (call : cs_ct) (s : cs_S) (t1 : Tr) (v2 : Int32) : am_R cs_S := (am_r2 back (gX1_chooses_130 call)).1 [some (.inl (.ref 0)), some (.inr t1), some (.inl (.int v2))] [] s
noncomputable def jX1_chooses_112 (back : cs_bt) (call : cs_ct) (s : cs_S) (t1 : Tr) (v2 : Int32) : am_R cs_S := (am_r2 back (gX1_chooses_112 call)).1 [some (.inl (.ref 0)), some (.inr t1), some (.inl (.int v2))] [] s
noncomputable def jX1_chooses_94 (back : cs_bt) (call : cs_ct) (s : cs_S) (t1 : Tr) (v2 : Int32) : am_R cs_S := (am_r2 back (gX1_chooses_94 call)).1 [some (.inl (.ref 0)), some (.inr t1), some (.inl (.int v2))] [] s
noncomputable def jX1_chooses_76 (back : cs_bt) (call : cs_ct) (s : cs_S) (t1 : Tr) (v2 : Int32) : am_R cs_S := (am_r2 back (gX1_chooses_76 call)).1 [some (.inl (.ref 0)), some (.inr t1), some (.inl (.int v2))] [] s
noncomputable def jX1_chooses_56 (back : cs_bt) (call : cs_ct) (s : cs_S) (t1 : Tr) (v2 : Int32) : am_R cs_S := (am_r2 back (gX1_chooses_56 call)).1 [some (.inl (.ref 0)), some (.inr t1), some (.inl (.int v2))] [] s
noncomputable def jX1_chooses_43 (back : cs_bt) (call : cs_ct) (s : cs_S) (t1 : Tr) (v2 : Int32) : am_R cs_S := (am_r2 back (gX1_chooses_43 call)).1 [some (.inl (.ref 0)), some (.inr t1), some (.inl (.int v2))] [] s
noncomputable def jX1_chooses_42 (back : cs_bt) (call : cs_ct) (s : cs_S) (t1 : Tr) (v2 : Int32) (vs0 : Int32) : am_R cs_S := (am_r2 back (gX1_chooses_42 call)).1 [some (.inl (.ref 0)), some (.inr t1), some (.inl (.int v2))] [.inl (.int vs0)] s
noncomputable def jX1_chooses_42_41 (back : cs_bt) (call : cs_ct) (s : cs_S) (t1 : Tr) (v2 : Int32) (vs0 : Int32) : am_R cs_S := (am_r2 back (gX1_chooses_41 call)).2 42 [some (.inl (.ref 0)), some (.inr t1), some (.inl (.int v2))] [.inl (.int vs0)] s
theorem jX1_chooses_42_41_eq (back : cs_bt) (call : cs_ct) (s : cs_S) (t1 : Tr) (v2 : Int32) (vs0 : Int32) : jX1_chooses_42_41 back call s t1 v2 vs0 = jX1_chooses_42 back call s t1 v2 vs0 := rfl
noncomputable def jX1_chooses_43_12 (back : cs_bt) (call : cs_ct) (s : cs_S) (t1 : Tr) (v2 : Int32) : am_R cs_S := (am_r2 back (gX1_chooses_12 call)).2 43 [some (.inl (.ref 0)), some (.inr t1), some (.inl (.int v2))] [] s
theorem jX1_chooses_43_12_eq (back : cs_bt) (call : cs_ct) (s : cs_S) (t1 : Tr) (v2 : Int32) : jX1_chooses_43_12 back call s t1 v2 = jX1_chooses_43 back call s t1 v2 := rfl
noncomputable def jX1_chooses_56_47 (back : cs_bt) (call : cs_ct) (s : cs_S) (t1 : Tr) (v2 : Int32) : am_R cs_S := (am_r2 back (gX1_chooses_47 call)).2 56 [some (.inl (.ref 0)), some (.inr t1), some (.inl (.int v2))] [] s
theorem jX1_chooses_56_47_eq (back : cs_bt) (call : cs_ct) (s : cs_S) (t1 : Tr) (v2 : Int32) : jX1_chooses_56_47 back call s t1 v2 = jX1_chooses_56 back call s t1 v2 := rfl
noncomputable def jX1_chooses_76_65 (back : cs_bt) (call : cs_ct) (s : cs_S) (t1 : Tr) (v2 : Int32) : am_R cs_S := (am_r2 back (gX1_chooses_65 call)).2 76 [some (.inl (.ref 0)), some (.inr t1), some (.inl (.int v2))] [] s
theorem jX1_chooses_76_65_eq (back : cs_bt) (call : cs_ct) (s : cs_S) (t1 : Tr) (v2 : Int32) : jX1_chooses_76_65 back call s t1 v2 = jX1_chooses_76 back call s t1 v2 := rfl
noncomputable def jX1_chooses_94_85 (back : cs_bt) (call : cs_ct) (s : cs_S) (t1 : Tr) (v2 : Int32) : am_R cs_S := (am_r2 back (gX1_chooses_85 call)).2 94 [some (.inl (.ref 0)), some (.inr t1), some (.inl (.int v2))] [] s
theorem jX1_chooses_94_85_eq (back : cs_bt) (call : cs_ct) (s : cs_S) (t1 : Tr) (v2 : Int32) : jX1_chooses_94_85 back call s t1 v2 = jX1_chooses_94 back call s t1 v2 := rfl
noncomputable def jX1_chooses_112_103 (back : cs_bt) (call : cs_ct) (s : cs_S) (t1 : Tr) (v2 : Int32) : am_R cs_S := (am_r2 back (gX1_chooses_103 call)).2 112 [some (.inl (.ref 0)), some (.inr t1), some (.inl (.int v2))] [] s
theorem jX1_chooses_112_103_eq (back : cs_bt) (call : cs_ct) (s : cs_S) (t1 : Tr) (v2 : Int32) : jX1_chooses_112_103 back call s t1 v2 = jX1_chooses_112 back call s t1 v2 := rfl
noncomputable def jX1_chooses_130_121 (back : cs_bt) (call : cs_ct) (s : cs_S) (t1 : Tr) (v2 : Int32) : am_R cs_S := (am_r2 back (gX1_chooses_121 call)).2 130 [some (.inl (.ref 0)), some (.inr t1), some (.inl (.int v2))] [] s
theorem jX1_chooses_130_121_eq (back : cs_bt) (call : cs_ct) (s : cs_S) (t1 : Tr) (v2 : Int32) : jX1_chooses_130_121 back call s t1 v2 = jX1_chooses_130 back call s t1 v2 := rfl
noncomputable def jX1_chooses_161_153 (back : cs_bt) (call : cs_ct) (s : cs_S) (t1 : Tr) (v2 : Int32) : am_R cs_S := (am_r2 back (gX1_chooses_153 call)).2 161 [some (.inl (.ref 0)), some (.inr t1), some (.inl (.int v2))] [] s
theorem jX1_chooses_161_153_eq (back : cs_bt) (call : cs_ct) (s : cs_S) (t1 : Tr) (v2 : Int32) : jX1_chooses_161_153 back call s t1 v2 = jX1_chooses_161 back call s t1 v2 := rfl
noncomputable def jX1_chooses_192_168 (back : cs_bt) (call : cs_ct) (s : cs_S) (t1 : Tr) (v2 : Int32) : am_R cs_S := (am_r2 back (gX1_chooses_168 call)).2 192 [some (.inl (.ref 0)), some (.inr t1), some (.inl (.int v2))] [] s
theorem jX1_chooses_192_168_eq (back : cs_bt) (call : cs_ct) (s : cs_S) (t1 : Tr) (v2 : Int32) : jX1_chooses_192_168 back call s t1 v2 = jX1_chooses_192 back call s t1 v2 := rfl
noncomputable def jX1_chooses_210_201 (back : cs_bt) (call : cs_ct) (s : cs_S) (t1 : Tr) (v2 : Int32) : am_R cs_S := (am_r2 back (gX1_chooses_201 call)).2 210 [some (.inl (.ref 0)), some (.inr t1), some (.inl (.int v2))] [] s
theorem jX1_chooses_210_201_eq (back : cs_bt) (call : cs_ct) (s : cs_S) (t1 : Tr) (v2 : Int32) : jX1_chooses_210_201 back call s t1 v2 = jX1_chooses_210 back call s t1 v2 := rfl
theorem jX1_chooses_210_eq (back : cs_bt) (call : cs_ct) (s : cs_S) (t1 : Tr) (v2 : Int32) : jX1_chooses_210 back call s t1 v2 =
  if v2 = 0 then
    some (.inl none, s)
  else
    am_cv (call 64 [.inl (.ref 103), .inl (.int (ic 30))] s) am_tx fun s24 =>
    some (.inl none, s24) := rfl
theorem jX1_chooses_192_eq (back : cs_bt) (call : cs_ct) (s : cs_S) (t1 : Tr) (v2 : Int32) : jX1_chooses_192 back call s t1 v2 =
  bif tr_nd t1 then
    if (nI (tr_k t1)) = (ic 8) then
      am_cv (call 64 [.inl (.ref 103), .inl (.int (ic 27))] s) am_tx fun s25 =>
      jX1_chooses_210 back call s25 t1 v2
    else
      jX1_chooses_210_201 back call s t1 v2
  else none := rfl
theorem jX1_chooses_161_eq (back : cs_bt) (call : cs_ct) (s : cs_S) (t1 : Tr) (v2 : Int32) : jX1_chooses_161 back call s t1 v2 =
  bif tr_nd t1 then
    am_ct (call (cs_sel [69, 69, 81, 81, 81, 81, 81, 69, 69, 69] (tr_k t1)) [.inr t1] s) am_tx fun r27 s26 =>
    bif tr_lf r27 then
      jX1_chooses_192_168 back call s26 t1 v2
    else
      bif tr_nd t1 then
        am_cv (call 64 [.inl (.ref 103), .inl (.int (((ic 20) + (nI (tr_k t1))) - (ic 2)))] s26) am_tx fun s28 =>
        bif tr_nd t1 then
          am_ct (call (cs_sel [69, 69, 81, 81, 81, 81, 81, 69, 69, 69] (tr_k t1)) [.inr t1] s28) am_tx fun r30 s29 =>
          am_cv (call 48 [.inl (.ref 0), .inr r30] s29) am_tx fun s31 =>
          jX1_chooses_192 back call s31 t1 v2
        else none
      else none
  else none := rfl
theorem jX1_chooses_130_eq (back : cs_bt) (call : cs_ct) (s : cs_S) (t1 : Tr) (v2 : Int32) : jX1_chooses_130 back call s t1 v2 =
  bif tr_nd t1 then
    am_ct (call (cs_sel [68, 68, 80, 80, 80, 80, 80, 83, 83, 83] (tr_k t1)) [.inr t1] s) am_tx fun r33 s32 =>
    bif tr_lf r33 then
      bif tr_nd t1 then
        am_cv (call (cs_sel [77, 79, 82, 82, 82, 82, 82, 84, 86, 89] (tr_k t1)) [.inr t1, .inl (.ref 103), .inl (.ref 105), .inl (.int (ic 0))] s32) am_tx fun s37 =>
        jX1_chooses_161_153 back call s37 t1 v2
      else none
    else
      bif tr_nd t1 then
        am_ct (call (cs_sel [68, 68, 80, 80, 80, 80, 80, 83, 83, 83] (tr_k t1)) [.inr t1] s32) am_tx fun r35 s34 =>
        am_cv (call 48 [.inl (.ref 0), .inr r35] s34) am_tx fun s36 =>
        jX1_chooses_161 back call s36 t1 v2
      else none
  else none := rfl
theorem jX1_chooses_112_eq (back : cs_bt) (call : cs_ct) (s : cs_S) (t1 : Tr) (v2 : Int32) : jX1_chooses_112 back call s t1 v2 =
  bif tr_nd t1 then
    if (nI (tr_k t1)) = (ic 8) then
      am_cv (call 64 [.inl (.ref 103), .inl (.int (ic 26))] s) am_tx fun s38 =>
      jX1_chooses_130 back call s38 t1 v2
    else
      jX1_chooses_130_121 back call s t1 v2
  else none := rfl
theorem jX1_chooses_94_eq (back : cs_bt) (call : cs_ct) (s : cs_S) (t1 : Tr) (v2 : Int32) : jX1_chooses_94 back call s t1 v2 =
  bif tr_nd t1 then
    if (nI (tr_k t1)) = (ic 7) then
      am_cv (call 64 [.inl (.ref 103), .inl (.int (ic 25))] s) am_tx fun s39 =>
      jX1_chooses_112 back call s39 t1 v2
    else
      jX1_chooses_112_103 back call s t1 v2
  else none := rfl
theorem jX1_chooses_76_eq (back : cs_bt) (call : cs_ct) (s : cs_S) (t1 : Tr) (v2 : Int32) : jX1_chooses_76 back call s t1 v2 =
  bif tr_nd t1 then
    if (nI (tr_k t1)) = (ic 9) then
      am_cv (call 64 [.inl (.ref 103), .inl (.int (ic 28))] s) am_tx fun s40 =>
      jX1_chooses_94 back call s40 t1 v2
    else
      jX1_chooses_94_85 back call s t1 v2
  else none := rfl
theorem jX1_chooses_56_eq (back : cs_bt) (call : cs_ct) (s : cs_S) (t1 : Tr) (v2 : Int32) : jX1_chooses_56 back call s t1 v2 =
  bif tr_nd t1 then
    if (nI (tr_k t1)) = (ic 9) then
      bif tr_nd t1 then
        am_ci (call (cs_sel [74, 74, 67, 67, 67, 67, 67, 67, 67, 87] (tr_k t1)) [.inr t1] s) am_tx fun r42 s41 =>
        am_cv (call 64 [.inl (.ref 103), .inl (.int r42)] s41) am_tx fun s43 =>
        jX1_chooses_76 back call s43 t1 v2
      else none
    else
      jX1_chooses_76_65 back call s t1 v2
  else none := rfl
theorem jX1_chooses_43_eq (back : cs_bt) (call : cs_ct) (s : cs_S) (t1 : Tr) (v2 : Int32) : jX1_chooses_43 back call s t1 v2 =
  if v2 = 0 then
    jX1_chooses_56_47 back call s t1 v2
  else
    am_cv (call 64 [.inl (.ref 103), .inl (.int (ic 29))] s) am_tx fun s44 =>
    jX1_chooses_56 back call s44 t1 v2 := rfl
theorem jX1_chooses_42_eq (back : cs_bt) (call : cs_ct) (s : cs_S) (t1 : Tr) (v2 : Int32) (vs0 : Int32) : jX1_chooses_42 back call s t1 v2 vs0 =
  jX1_chooses_43 back call s t1 vs0 := rfl
noncomputable def dX1_chooses (back : cs_bt) (call : cs_ct) (s : cs_S) (x1 : Tr) : am_R cs_S :=
  bif tr_nd x1 then
    am_ci (call 14 [.inl (.int (nI (tr_k x1)))] s) am_tx fun r46 s45 =>
    if r46 = 0 then
      jX1_chooses_43_12 back call s45 x1 (ic 0)
    else
      if (((cs_i (cs_pi s45 13 ((cs_i s45 13) - (ic 1))) 12) >>> ((cs_i (cs_pi s45 13 ((cs_i s45 13) - (ic 1))) 13) &&& 31)) &&& (ic 1)) = (ic 1) then
        jX1_chooses_42_41 back call (cs_pi s45 13 ((cs_i s45 13) - (ic 1))) x1 (ic 0) (ic 1)
      else
        jX1_chooses_42 back call (cs_pi s45 13 ((cs_i s45 13) - (ic 1))) x1 (ic 0) (ic 0)
  else none
theorem dX1_chooses_rs (back : cs_bt) (call : cs_ct) (s : cs_S) (x1 : Tr) : (am_r2 back (gX1_chooses call)).1 [some (.inl (.ref 0)), some (.inr x1), none] [] s = dX1_chooses back call s x1 := rfl
theorem dX1_chooses_eq (N f : Nat) (s : cs_S) (x1 : Tr) : cs_call N (f + 1) 48 [.inl (.ref 0), .inr x1] s = dX1_chooses (am_bk (cs_hop 1 (cs_call N f)) am_no none kX1_chooses N) (cs_call N f) s x1 := (cs_call_of (mt := 48) (nL := 3) (rt := none) (code := kX1_chooses) rfl rfl rfl rfl rfl gX1_chooses_ok ⟨_, _, _, _, rfl⟩).trans (dX1_chooses_rs _ _ s x1)
noncomputable def dX1_walk (back : cs_bt) (call : cs_ct) (s : cs_S) (x1 : Int32) : am_R cs_S :=
  am_ci (call 5 [.inl (.ref 0), .inl (.int x1)] s) am_tx fun r7 s6 =>
  if r7 = 0 then
    some (.inl (some (.inl (.int (ic (-1))))), s6)
  else
    am_ct (call 201 [.inl (.ref 100), .inl (.int x1)] s6) am_tx fun r9 s8 =>
    bif tr_nd r9 then
      bif tr_nd r9 then
        am_ix (ic 0) 41 fun j10 =>
        some (.inl (some (.inl (.int (ic 0)))), (cs_pi (cs_pp s8 j10 r9) 17 (ic 0)))
      else none
    else none
theorem dX1_walk_rs (back : cs_bt) (call : cs_ct) (s : cs_S) (x1 : Int32) : (am_r2 back (gX1_walk call)).1 [some (.inl (.ref 0)), some (.inl (.int x1))] [] s = dX1_walk back call s x1 := rfl
theorem dX1_walk_eq (N f : Nat) (s : cs_S) (x1 : Int32) : cs_call N (f + 1) 49 [.inl (.ref 0), .inl (.int x1)] s = dX1_walk (am_bk (cs_hop 1 (cs_call N f)) am_no (some .int) kX1_walk N) (cs_call N f) s x1 := (cs_call_of (mt := 49) (nL := 2) (rt := (some .int)) (code := kX1_walk) rfl rfl rfl rfl rfl gX1_walk_ok ⟨_, _, _, _, rfl⟩).trans (dX1_walk_rs _ _ s x1)
noncomputable def jX1_go_135 (back : cs_bt) (call : cs_ct) (s : cs_S) (v1 : Int32) (v2 : Int32) (o3 : Option am_V) : am_R cs_S := (am_r2 back (gX1_go_135 call)).1 [some (.inl (.ref 0)), some (.inl (.int v1)), some (.inl (.int v2)), o3] [] s
noncomputable def jX1_go_131 (back : cs_bt) (call : cs_ct) (s : cs_S) (v1 : Int32) (v2 : Int32) (vs0 : Int32) : am_R cs_S := (am_r2 back (gX1_go_131 call)).1 [some (.inl (.ref 0)), some (.inl (.int v1)), some (.inl (.int v2)), none] [.inl (.int vs0), .inl (.ref 0)] s
noncomputable def jX1_go_96 (back : cs_bt) (call : cs_ct) (s : cs_S) (v1 : Int32) : am_R cs_S := (am_r2 back (gX1_go_96 call)).1 [some (.inl (.ref 0)), some (.inl (.int v1)), none, none] [] s
noncomputable def jX1_go_40 (back : cs_bt) (call : cs_ct) (s : cs_S) (v1 : Int32) (vs0 : Int32) : am_R cs_S := (am_r2 back (gX1_go_40 call)).1 [some (.inl (.ref 0)), some (.inl (.int v1)), none, none] [.inl (.int vs0), .inl (.ref 0)] s
noncomputable def jX1_go_40_39 (back : cs_bt) (call : cs_ct) (s : cs_S) (v1 : Int32) (vs0 : Int32) : am_R cs_S := (am_r2 back (gX1_go_39 call)).2 40 [some (.inl (.ref 0)), some (.inl (.int v1)), none, none] [.inl (.int vs0), .inl (.ref 0)] s
theorem jX1_go_40_39_eq (back : cs_bt) (call : cs_ct) (s : cs_S) (v1 : Int32) (vs0 : Int32) : jX1_go_40_39 back call s v1 vs0 = jX1_go_40 back call s v1 vs0 := rfl
noncomputable def jX1_go_96_76 (back : cs_bt) (call : cs_ct) (s : cs_S) (v1 : Int32) : am_R cs_S := (am_r2 back (gX1_go_76 call)).2 96 [some (.inl (.ref 0)), some (.inl (.int v1)), none, none] [] s
theorem jX1_go_96_76_eq (back : cs_bt) (call : cs_ct) (s : cs_S) (v1 : Int32) : jX1_go_96_76 back call s v1 = jX1_go_96 back call s v1 := rfl
noncomputable def jX1_go_96_93 (back : cs_bt) (call : cs_ct) (s : cs_S) (v1 : Int32) : am_R cs_S := (am_r2 back (gX1_go_93 call)).2 96 [some (.inl (.ref 0)), some (.inl (.int v1)), none, none] [] s
theorem jX1_go_96_93_eq (back : cs_bt) (call : cs_ct) (s : cs_S) (v1 : Int32) : jX1_go_96_93 back call s v1 = jX1_go_96 back call s v1 := rfl
noncomputable def jX1_go_131_130 (back : cs_bt) (call : cs_ct) (s : cs_S) (v1 : Int32) (v2 : Int32) (vs0 : Int32) : am_R cs_S := (am_r2 back (gX1_go_130 call)).2 131 [some (.inl (.ref 0)), some (.inl (.int v1)), some (.inl (.int v2)), none] [.inl (.int vs0), .inl (.ref 0)] s
theorem jX1_go_131_130_eq (back : cs_bt) (call : cs_ct) (s : cs_S) (v1 : Int32) (v2 : Int32) (vs0 : Int32) : jX1_go_131_130 back call s v1 v2 vs0 = jX1_go_131 back call s v1 v2 vs0 := rfl
noncomputable def jX1_go_135_121 (back : cs_bt) (call : cs_ct) (s : cs_S) (v1 : Int32) (v2 : Int32) (o3 : Option am_V) : am_R cs_S := (am_r2 back (gX1_go_121 call)).2 135 [some (.inl (.ref 0)), some (.inl (.int v1)), some (.inl (.int v2)), o3] [] s
theorem jX1_go_135_121_eq (back : cs_bt) (call : cs_ct) (s : cs_S) (v1 : Int32) (v2 : Int32) (o3 : Option am_V) : jX1_go_135_121 back call s v1 v2 o3 = jX1_go_135 back call s v1 v2 o3 := rfl
theorem jX1_go_135_eq (back : cs_bt) (call : cs_ct) (s : cs_S) (v1 : Int32) (v2 : Int32) (o3 : Option am_V) : jX1_go_135 back call s v1 v2 o3 =
  am_ix (cs_i s 17) 41 fun j13 =>
  bif tr_nd (cs_p s j13) then
    some (.inl (some (.inl (.int (nI (tr_n (cs_p s j13)))))), s)
  else none := rfl
theorem jX1_go_131_eq (back : cs_bt) (call : cs_ct) (s : cs_S) (v1 : Int32) (v2 : Int32) (vs0 : Int32) : jX1_go_131 back call s v1 v2 vs0 =
  am_ci (call 51 [.inl (.ref 0), .inl (.int vs0)] s) am_tx fun r15 s14 =>
  jX1_go_135 back call s14 v1 v2 (some (.inl (.int r15))) := rfl
theorem jX1_go_96_eq (back : cs_bt) (call : cs_ct) (s : cs_S) (v1 : Int32) : jX1_go_96 back call s v1 =
  am_ix (cs_i s 17) 41 fun j16 =>
  if v1 = (ic 3) then
    if (cs_a s 116 j16) = 0 then
      jX1_go_131_130 back call (cs_pi s 17 ((cs_i s 17) - (ic 1))) v1 (cs_a s 116 j16) (ic 1)
    else
      jX1_go_131 back call (cs_pi s 17 ((cs_i s 17) - (ic 1))) v1 (cs_a s 116 j16) (ic 0)
  else
    jX1_go_135_121 back call (cs_pi s 17 ((cs_i s 17) - (ic 1))) v1 (cs_a s 116 j16) none := rfl
theorem jX1_go_40_eq (back : cs_bt) (call : cs_ct) (s : cs_S) (v1 : Int32) (vs0 : Int32) : jX1_go_40 back call s v1 vs0 =
  am_ci (call 51 [.inl (.ref 0), .inl (.int vs0)] s) am_tx fun r18 s17 =>
  if r18 = 0 then
    some (.inl (some (.inl (.int (ic (-3))))), s17)
  else
    am_ix (cs_i s17 17) 41 fun j19 =>
    bif tr_nd (cs_p s17 j19) then
      some (.inl (some (.inl (.int (nI (tr_n (cs_p s17 j19)))))), s17)
    else none := rfl
noncomputable def dX1_go (back : cs_bt) (call : cs_ct) (s : cs_S) (x1 : Int32) : am_R cs_S :=
  am_ci (call 2 [.inl (.long x1.toInt64), .inl (.long (lN 0)), .inl (.long (3))] s) am_tx fun r21 s20 =>
  if r21 = 0 then
    some (.inl (some (.inl (.int (ic (-1))))), s20)
  else
    if 0 ≤ (cs_i s20 17) then
      if (ic 2) ≤ x1 then
        if (cs_i s20 17) = 0 then
          some (.inl (some (.inl (.int (ic (-3))))), s20)
        else
          if x1 = (ic 3) then
            am_ix ((cs_i s20 17) - (ic 1)) 41 fun j22 =>
            bif tr_nd (cs_p s20 j22) then
              am_ct (call (cs_sel [69, 69, 81, 81, 81, 81, 81, 69, 69, 69] (tr_k (cs_p s20 j22))) [.inr (cs_p s20 j22)] s20) am_tx fun r24 s23 =>
              bif tr_lf r24 then
                some (.inl (some (.inl (.int (ic (-3))))), s23)
              else
                jX1_go_96_93 back call s23 x1
            else none
          else
            jX1_go_96_76 back call s20 x1
      else
        if x1 = (ic 1) then
          jX1_go_40_39 back call s20 x1 (ic 1)
        else
          jX1_go_40 back call s20 x1 (ic 0)
    else
      some (.inl (some (.inl (.int (ic (-2))))), s20)
theorem dX1_go_rs (back : cs_bt) (call : cs_ct) (s : cs_S) (x1 : Int32) : (am_r2 back (gX1_go call)).1 [some (.inl (.ref 0)), some (.inl (.int x1)), none, none] [] s = dX1_go back call s x1 := rfl
theorem dX1_go_eq (N f : Nat) (s : cs_S) (x1 : Int32) : cs_call N (f + 1) 50 [.inl (.ref 0), .inl (.int x1)] s = dX1_go (am_bk (cs_hop 1 (cs_call N f)) am_no (some .int) kX1_go N) (cs_call N f) s x1 := (cs_call_of (mt := 50) (nL := 4) (rt := (some .int)) (code := kX1_go) rfl rfl rfl rfl rfl gX1_go_ok ⟨_, _, _, _, rfl⟩).trans (dX1_go_rs _ _ s x1)
noncomputable def jX1_goesDown_31 (back : cs_bt) (call : cs_ct) (s : cs_S) (v1 : Int32) (ts0 : Tr) : am_R cs_S := (am_r2 back (gX1_goesDown_31 call)).1 [some (.inl (.ref 0)), some (.inl (.int v1)), none] [.inr ts0] s
noncomputable def jX1_goesDown_31_19 (back : cs_bt) (call : cs_ct) (s : cs_S) (v1 : Int32) (ts0 : Tr) : am_R cs_S := (am_r2 back (gX1_goesDown_19 call)).2 31 [some (.inl (.ref 0)), some (.inl (.int v1)), none] [.inr ts0] s
theorem jX1_goesDown_31_19_eq (back : cs_bt) (call : cs_ct) (s : cs_S) (v1 : Int32) (ts0 : Tr) : jX1_goesDown_31_19 back call s v1 ts0 = jX1_goesDown_31 back call s v1 ts0 := rfl
theorem jX1_goesDown_31_eq (back : cs_bt) (call : cs_ct) (s : cs_S) (v1 : Int32) (ts0 : Tr) : jX1_goesDown_31 back call s v1 ts0 =
  bif tr_lf ts0 then
    some (.inl (some (.inl (.int ((ic 0) &&& 1)))), s)
  else
    bif tr_nd ts0 then
      am_ix (cs_i (cs_pi s 17 ((cs_i s 17) + (ic 1))) 17) 41 fun j9 =>
      am_ix (cs_i (cs_pp (cs_pi s 17 ((cs_i s 17) + (ic 1))) j9 ts0) 17) 41 fun j10 =>
      some (.inl (some (.inl (.int ((ic 1) &&& 1)))), (cs_pa (cs_pp (cs_pi s 17 ((cs_i s 17) + (ic 1))) j9 ts0) 116 j10 (v1 &&& 1)))
    else none := rfl
noncomputable def dX1_goesDown (back : cs_bt) (call : cs_ct) (s : cs_S) (x1 : Int32) : am_R cs_S :=
  if x1 = 0 then
    am_ix (cs_i s 17) 41 fun j11 =>
    bif tr_nd (cs_p s j11) then
      am_ct (call (cs_sel [68, 68, 80, 80, 80, 80, 80, 83, 83, 83] (tr_k (cs_p s j11))) [.inr (cs_p s j11)] s) am_tx fun r13 s12 =>
      jX1_goesDown_31 back call s12 x1 r13
    else none
  else
    am_ix (cs_i s 17) 41 fun j14 =>
    bif tr_nd (cs_p s j14) then
      am_ct (call (cs_sel [69, 69, 81, 81, 81, 81, 81, 69, 69, 69] (tr_k (cs_p s j14))) [.inr (cs_p s j14)] s) am_tx fun r16 s15 =>
      jX1_goesDown_31_19 back call s15 x1 r16
    else none
theorem dX1_goesDown_rs (back : cs_bt) (call : cs_ct) (s : cs_S) (x1 : Int32) : (am_r2 back (gX1_goesDown call)).1 [some (.inl (.ref 0)), some (.inl (.int x1)), none] [] s = dX1_goesDown back call s x1 := rfl
theorem dX1_goesDown_eq (N f : Nat) (s : cs_S) (x1 : Int32) : cs_call N (f + 1) 51 [.inl (.ref 0), .inl (.int x1)] s = dX1_goesDown (am_bk (cs_hop 1 (cs_call N f)) am_no (some .boolean) kX1_goesDown N) (cs_call N f) s x1 := (cs_call_of (mt := 51) (nL := 3) (rt := (some .boolean)) (code := kX1_goesDown) rfl rfl rfl rfl rfl gX1_goesDown_ok ⟨_, _, _, _, rfl⟩).trans (dX1_goesDown_rs _ _ s x1)
noncomputable def jX1_lead_99 (back : cs_bt) (call : cs_ct) (s : cs_S) (v1 : Int32) (t2 : Tr) (v3 : Int32) (o4 : Option am_V) (vs0 : Int32) : am_R cs_S := (am_r2 back (gX1_lead_99 call)).1 [some (.inl (.ref 0)), some (.inl (.int v1)), some (.inr t2), some (.inl (.int v3)), o4] [.inl (.int vs0), .inl (.ref 0)] s
noncomputable def jX1_lead_82 (back : cs_bt) (call : cs_ct) (s : cs_S) (v1 : Int32) (t2 : Tr) (v3 : Int32) (o4 : Option am_V) : am_R cs_S := (am_r2 back (gX1_lead_82 call)).1 [some (.inl (.ref 0)), some (.inl (.int v1)), some (.inr t2), some (.inl (.int v3)), o4] [] s
noncomputable def jX1_lead_69 (back : cs_bt) (call : cs_ct) (s : cs_S) (v1 : Int32) (t2 : Tr) (v3 : Int32) : am_R cs_S := (am_r2 back (gX1_lead_69 call)).1 [some (.inl (.ref 0)), some (.inl (.int v1)), some (.inr t2), some (.inl (.int v3)), none] [] s
noncomputable def jX1_lead_61 (back : cs_bt) (call : cs_ct) (s : cs_S) (v1 : Int32) (t2 : Tr) (v3 : Int32) (ts0 : Tr) : am_R cs_S := (am_r2 back (gX1_lead_61 call)).1 [some (.inl (.ref 0)), some (.inl (.int v1)), some (.inr t2), some (.inl (.int v3)), none] [.inr ts0] s
noncomputable def jX1_lead_25 (back : cs_bt) (call : cs_ct) (s : cs_S) (v1 : Int32) (t2 : Tr) (v3 : Int32) : am_R cs_S := (am_r2 back (gX1_lead_25 call)).1 [some (.inl (.ref 0)), some (.inl (.int v1)), some (.inr t2), some (.inl (.int v3)), none] [] s
noncomputable def jX1_lead_61_43 (back : cs_bt) (call : cs_ct) (s : cs_S) (v1 : Int32) (t2 : Tr) (v3 : Int32) (ts0 : Tr) : am_R cs_S := (am_r2 back (gX1_lead_43 call)).2 61 [some (.inl (.ref 0)), some (.inl (.int v1)), some (.inr t2), some (.inl (.int v3)), none] [.inr ts0] s
theorem jX1_lead_61_43_eq (back : cs_bt) (call : cs_ct) (s : cs_S) (v1 : Int32) (t2 : Tr) (v3 : Int32) (ts0 : Tr) : jX1_lead_61_43 back call s v1 t2 v3 ts0 = jX1_lead_61 back call s v1 t2 v3 ts0 := rfl
noncomputable def jX1_lead_61_57 (back : cs_bt) (call : cs_ct) (s : cs_S) (v1 : Int32) (t2 : Tr) (v3 : Int32) (ts0 : Tr) : am_R cs_S := (am_r2 back (gX1_lead_57 call)).2 61 [some (.inl (.ref 0)), some (.inl (.int v1)), some (.inr t2), some (.inl (.int v3)), none] [.inr ts0] s
theorem jX1_lead_61_57_eq (back : cs_bt) (call : cs_ct) (s : cs_S) (v1 : Int32) (t2 : Tr) (v3 : Int32) (ts0 : Tr) : jX1_lead_61_57 back call s v1 t2 v3 ts0 = jX1_lead_61 back call s v1 t2 v3 ts0 := rfl
noncomputable def jX1_lead_69_29 (back : cs_bt) (call : cs_ct) (s : cs_S) (v1 : Int32) (t2 : Tr) (v3 : Int32) : am_R cs_S := (am_r2 back (gX1_lead_29 call)).2 69 [some (.inl (.ref 0)), some (.inl (.int v1)), some (.inr t2), some (.inl (.int v3)), none] [] s
theorem jX1_lead_69_29_eq (back : cs_bt) (call : cs_ct) (s : cs_S) (v1 : Int32) (t2 : Tr) (v3 : Int32) : jX1_lead_69_29 back call s v1 t2 v3 = jX1_lead_69 back call s v1 t2 v3 := rfl
noncomputable def jX1_lead_69_33 (back : cs_bt) (call : cs_ct) (s : cs_S) (v1 : Int32) (t2 : Tr) (v3 : Int32) : am_R cs_S := (am_r2 back (gX1_lead_33 call)).2 69 [some (.inl (.ref 0)), some (.inl (.int v1)), some (.inr t2), some (.inl (.int v3)), none] [] s
theorem jX1_lead_69_33_eq (back : cs_bt) (call : cs_ct) (s : cs_S) (v1 : Int32) (t2 : Tr) (v3 : Int32) : jX1_lead_69_33 back call s v1 t2 v3 = jX1_lead_69 back call s v1 t2 v3 := rfl
noncomputable def jX1_lead_99_98 (back : cs_bt) (call : cs_ct) (s : cs_S) (v1 : Int32) (t2 : Tr) (v3 : Int32) (o4 : Option am_V) (vs0 : Int32) : am_R cs_S := (am_r2 back (gX1_lead_98 call)).2 99 [some (.inl (.ref 0)), some (.inl (.int v1)), some (.inr t2), some (.inl (.int v3)), o4] [.inl (.int vs0), .inl (.ref 0)] s
theorem jX1_lead_99_98_eq (back : cs_bt) (call : cs_ct) (s : cs_S) (v1 : Int32) (t2 : Tr) (v3 : Int32) (o4 : Option am_V) (vs0 : Int32) : jX1_lead_99_98 back call s v1 t2 v3 o4 vs0 = jX1_lead_99 back call s v1 t2 v3 o4 vs0 := rfl
theorem jX1_lead_99_eq (back : cs_bt) (call : cs_ct) (s : cs_S) (v1 : Int32) (t2 : Tr) (v3 : Int32) (o4 : Option am_V) (vs0 : Int32) : jX1_lead_99 back call s v1 t2 v3 o4 vs0 =
  am_ci (call 51 [.inl (.ref 0), .inl (.int vs0)] s) am_tx fun r13 s12 =>
  am_dz (ic 3) (back 82 [some (.inl (.ref 0)), some (.inl (.int v1)), some (.inr t2), some (.inl (.int (v3 / (ic 3)))), some (.inl (.int r13))] [] s12) := rfl
theorem jX1_lead_82_eq (back : cs_bt) (call : cs_ct) (s : cs_S) (v1 : Int32) (t2 : Tr) (v3 : Int32) (o4 : Option am_V) : jX1_lead_82 back call s v1 t2 v3 o4 =
  if v3 ≤ 0 then
    am_ix (cs_i s 17) 41 fun j14 =>
    bif tr_nd (cs_p s j14) then
      some (.inl (some (.inl (.int (nI (tr_n (cs_p s j14)))))), s)
    else none
  else
    am_dz (ic 3) (if (v3 - v3 / (ic 3) * (ic 3)) = (ic 2) then
      jX1_lead_99_98 back call s v1 t2 v3 o4 (ic 1)
    else
      jX1_lead_99 back call s v1 t2 v3 o4 (ic 0)) := rfl
theorem jX1_lead_69_eq (back : cs_bt) (call : cs_ct) (s : cs_S) (v1 : Int32) (t2 : Tr) (v3 : Int32) : jX1_lead_69 back call s v1 t2 v3 =
  bif tr_lf t2 then
    some (.inl (some (.inl (.int (ic (-1))))), s)
  else
    jX1_lead_82 back call (cs_pi s 17 (ic 0)) v1 t2 v1 none := rfl
theorem jX1_lead_61_eq (back : cs_bt) (call : cs_ct) (s : cs_S) (v1 : Int32) (t2 : Tr) (v3 : Int32) (ts0 : Tr) : jX1_lead_61 back call s v1 t2 v3 ts0 =
  am_dz (ic 3) (back 25 [some (.inl (.ref 0)), some (.inl (.int v1)), some (.inr ts0), some (.inl (.int (v3 / (ic 3)))), none] [] s) := rfl
theorem jX1_lead_25_eq (back : cs_bt) (call : cs_ct) (s : cs_S) (v1 : Int32) (t2 : Tr) (v3 : Int32) : jX1_lead_25 back call s v1 t2 v3 =
  if v3 ≤ 0 then
    jX1_lead_69_29 back call s v1 t2 v3
  else
    bif tr_lf t2 then
      jX1_lead_69_33 back call s v1 t2 v3
    else
      am_dz (ic 3) (if (v3 - v3 / (ic 3) * (ic 3)) = 0 then
        jX1_lead_61_43 back call s v1 t2 v3 .leaf
      else
        am_dz (ic 3) (if (v3 - v3 / (ic 3) * (ic 3)) = (ic 1) then
          bif tr_nd t2 then
            am_ct (call (cs_sel [68, 68, 80, 80, 80, 80, 80, 83, 83, 83] (tr_k t2)) [.inr t2] s) am_tx fun r18 s17 =>
            jX1_lead_61_57 back call s17 v1 t2 v3 r18
          else none
        else
          bif tr_nd t2 then
            am_ct (call (cs_sel [69, 69, 81, 81, 81, 81, 81, 69, 69, 69] (tr_k t2)) [.inr t2] s) am_tx fun r16 s15 =>
            jX1_lead_61 back call s15 v1 t2 v3 r16
          else none)) := rfl
noncomputable def dX1_lead (back : cs_bt) (call : cs_ct) (s : cs_S) (x1 : Int32) : am_R cs_S :=
  if 0 ≤ (cs_i s 17) then
    if 0 ≤ x1 then
      am_ix (ic 0) 41 fun j19 =>
      jX1_lead_25 back call s x1 (cs_p s j19) x1
    else
      some (.inl (some (.inl (.int (ic (-1))))), s)
  else
    some (.inl (some (.inl (.int (ic (-2))))), s)
theorem dX1_lead_rs (back : cs_bt) (call : cs_ct) (s : cs_S) (x1 : Int32) : (am_r2 back (gX1_lead call)).1 [some (.inl (.ref 0)), some (.inl (.int x1)), none, none, none] [] s = dX1_lead back call s x1 := rfl
theorem dX1_lead_eq (N f : Nat) (s : cs_S) (x1 : Int32) : cs_call N (f + 1) 52 [.inl (.ref 0), .inl (.int x1)] s = dX1_lead (am_bk (cs_hop 1 (cs_call N f)) am_no (some .int) kX1_lead N) (cs_call N f) s x1 := (cs_call_of (mt := 52) (nL := 5) (rt := (some .int)) (code := kX1_lead) rfl rfl rfl rfl rfl gX1_lead_ok ⟨_, _, _, _, rfl⟩).trans (dX1_lead_rs _ _ s x1)
theorem jX1_lead_25_bk (call : cs_ct) (n : Nat) (s : cs_S) (v1 : Int32) (t2 : Tr) (v3 : Int32) : am_bk (cs_hop 1 call) am_no (some .int) kX1_lead (n + 1) 25 [some (.inl (.ref 0)), some (.inl (.int v1)), some (.inr t2), some (.inl (.int v3)), none] [] s = jX1_lead_25 (am_bk (cs_hop 1 call) am_no (some .int) kX1_lead n) call s v1 t2 v3 := (am_bk_of rfl (gX1_lead_ok call)).trans rfl
theorem jX1_lead_82_bk (call : cs_ct) (n : Nat) (s : cs_S) (v1 : Int32) (t2 : Tr) (v3 : Int32) (o4 : Option am_V) : am_bk (cs_hop 1 call) am_no (some .int) kX1_lead (n + 1) 82 [some (.inl (.ref 0)), some (.inl (.int v1)), some (.inr t2), some (.inl (.int v3)), o4] [] s = jX1_lead_82 (am_bk (cs_hop 1 call) am_no (some .int) kX1_lead n) call s v1 t2 v3 o4 := (am_bk_of rfl (gX1_lead_ok call)).trans rfl
noncomputable def dX1_glance (back : cs_bt) (call : cs_ct) (s : cs_S) (x1 : Int32) (x2 : Int32) : am_R cs_S :=
  am_ci (call 13 [.inl (.int x1)] s) am_tx fun r9 s8 =>
  if r9 = 0 then
    some (.inl (some (.inl (.int (ic (-1))))), s8)
  else
    am_ci (call 2 [.inl (.long x2.toInt64), .inl (.long (lN 0)), .inl (.long (9))] s8) am_tx fun r11 s10 =>
    if r11 = 0 then
      some (.inl (some (.inl (.int (ic (-1))))), s10)
    else
      if 0 ≤ (cs_i s10 17) then
        am_ix (cs_i s10 17) 41 fun j12 =>
        am_ci (call 16 [.inl (.ref 0), .inl (.ref 103), .inr (cs_p s10 j12), .inl (.int x1), .inl (.int x2)] s10) am_tx fun r14 s13 =>
        if r14 = 0 then
          some (.inl (some (.inl (.int (ic (-5))))), s13)
        else
          some (.inl (some (.inl (.int (cs_i s13 103)))), s13)
      else
        some (.inl (some (.inl (.int (ic (-2))))), s10)
theorem dX1_glance_rs (back : cs_bt) (call : cs_ct) (s : cs_S) (x1 : Int32) (x2 : Int32) : (am_r2 back (gX1_glance call)).1 [some (.inl (.ref 0)), some (.inl (.int x1)), some (.inl (.int x2))] [] s = dX1_glance back call s x1 x2 := rfl
theorem dX1_glance_eq (N f : Nat) (s : cs_S) (x1 : Int32) (x2 : Int32) : cs_call N (f + 1) 53 [.inl (.ref 0), .inl (.int x1), .inl (.int x2)] s = dX1_glance (am_bk (cs_hop 1 (cs_call N f)) am_no (some .int) kX1_glance N) (cs_call N f) s x1 x2 := (cs_call_of (mt := 53) (nL := 3) (rt := (some .int)) (code := kX1_glance) rfl rfl rfl rfl rfl gX1_glance_ok ⟨_, _, _, _, rfl⟩).trans (dX1_glance_rs _ _ s x1 x2)
noncomputable def dX1_changed (back : cs_bt) (call : cs_ct) (s : cs_S) (x1 : Int32) (x2 : Int32) : am_R cs_S :=
  am_ci (call 5 [.inl (.ref 0), .inl (.int x1)] s) am_tx fun r12 s11 =>
  if r12 = 0 then
    some (.inl (some (.inl (.int (ic (-1))))), s11)
  else
    am_ci (call 5 [.inl (.ref 0), .inl (.int x2)] s11) am_tx fun r14 s13 =>
    if r14 = 0 then
      some (.inl (some (.inl (.int (ic (-1))))), s13)
    else
      am_ct (call 201 [.inl (.ref 100), .inl (.int x1)] s13) am_tx fun r16 s15 =>
      bif tr_nd r16 then
        am_ct (call 201 [.inl (.ref 100), .inl (.int x2)] s15) am_tx fun r18 s17 =>
        bif tr_nd r18 then
          am_ci (call 55 [.inr r16, .inr r18] s17) am_tx fun r20 s19 =>
          some (.inl (some (.inl (.int r20))), s19)
        else none
      else none
theorem dX1_changed_rs (back : cs_bt) (call : cs_ct) (s : cs_S) (x1 : Int32) (x2 : Int32) : (am_r2 back (gX1_changed call)).1 [some (.inl (.ref 0)), some (.inl (.int x1)), some (.inl (.int x2))] [] s = dX1_changed back call s x1 x2 := rfl
theorem dX1_changed_eq (N f : Nat) (s : cs_S) (x1 : Int32) (x2 : Int32) : cs_call N (f + 1) 54 [.inl (.ref 0), .inl (.int x1), .inl (.int x2)] s = dX1_changed (am_bk (cs_hop 1 (cs_call N f)) am_no (some .int) kX1_changed N) (cs_call N f) s x1 x2 := (cs_call_of (mt := 54) (nL := 3) (rt := (some .int)) (code := kX1_changed) rfl rfl rfl rfl rfl gX1_changed_ok ⟨_, _, _, _, rfl⟩).trans (dX1_changed_rs _ _ s x1 x2)
noncomputable def dX1_difference (back : cs_bt) (call : cs_ct) (s : cs_S) (x1 : Tr) (x2 : Tr) : am_R cs_S :=
  bif tr_nd x1 then
    bif tr_nd x2 then
      bif tr_nd x1 then
        bif tr_nd x2 then
          if (nI (tr_k x1)) = (nI (tr_k x2)) then
            am_ci (call 56 [.inr x1, .inr x2] s) am_tx fun r4 s3 =>
            some (.inl (some (.inl (.int (if r4 < ((nI (tr_sz x1)) + (nI (tr_sz x2))) then r4 else ((nI (tr_sz x1)) + (nI (tr_sz x2))))))), s3)
          else
            some (.inl (some (.inl (.int ((nI (tr_sz x1)) + (nI (tr_sz x2)))))), s)
        else none
      else none
    else none
  else none
theorem dX1_difference_rs (back : cs_bt) (call : cs_ct) (s : cs_S) (x1 : Tr) (x2 : Tr) : (am_r2 back (gX1_difference call)).1 [some (.inr x1), some (.inr x2), none] [] s = dX1_difference back call s x1 x2 := rfl
theorem dX1_difference_eq (N f : Nat) (s : cs_S) (x1 : Tr) (x2 : Tr) : cs_call N (f + 1) 55 [.inr x1, .inr x2] s = dX1_difference (am_bk (cs_hop 1 (cs_call N f)) am_no (some .int) kX1_difference N) (cs_call N f) s x1 x2 := (cs_call_of (mt := 55) (nL := 3) (rt := (some .int)) (code := kX1_difference) rfl rfl rfl rfl rfl gX1_difference_ok ⟨_, _, _, _, rfl⟩).trans (dX1_difference_rs _ _ s x1 x2)
noncomputable def jX1_parts_38 (back : cs_bt) (call : cs_ct) (s : cs_S) (t0 : Tr) (t1 : Tr) (v2 : Int32) : am_R cs_S := (am_r2 back (gX1_parts_38 call)).1 [some (.inr t0), some (.inr t1), some (.inl (.int v2))] [] s
noncomputable def jX1_parts_16 (back : cs_bt) (call : cs_ct) (s : cs_S) (t0 : Tr) (t1 : Tr) (vs0 : Int32) : am_R cs_S := (am_r2 back (gX1_parts_16 call)).1 [some (.inr t0), some (.inr t1), none] [.inl (.int vs0)] s
noncomputable def jX1_parts_16_15 (back : cs_bt) (call : cs_ct) (s : cs_S) (t0 : Tr) (t1 : Tr) (vs0 : Int32) : am_R cs_S := (am_r2 back (gX1_parts_15 call)).2 16 [some (.inr t0), some (.inr t1), none] [.inl (.int vs0)] s
theorem jX1_parts_16_15_eq (back : cs_bt) (call : cs_ct) (s : cs_S) (t0 : Tr) (t1 : Tr) (vs0 : Int32) : jX1_parts_16_15 back call s t0 t1 vs0 = jX1_parts_16 back call s t0 t1 vs0 := rfl
noncomputable def jX1_parts_38_24 (back : cs_bt) (call : cs_ct) (s : cs_S) (t0 : Tr) (t1 : Tr) (v2 : Int32) : am_R cs_S := (am_r2 back (gX1_parts_24 call)).2 38 [some (.inr t0), some (.inr t1), some (.inl (.int v2))] [] s
theorem jX1_parts_38_24_eq (back : cs_bt) (call : cs_ct) (s : cs_S) (t0 : Tr) (t1 : Tr) (v2 : Int32) : jX1_parts_38_24 back call s t0 t1 v2 = jX1_parts_38 back call s t0 t1 v2 := rfl
theorem jX1_parts_38_eq (back : cs_bt) (call : cs_ct) (s : cs_S) (t0 : Tr) (t1 : Tr) (v2 : Int32) : jX1_parts_38 back call s t0 t1 v2 =
  bif tr_nd t0 then
    am_ct (call (cs_sel [69, 69, 81, 81, 81, 81, 81, 69, 69, 69] (tr_k t0)) [.inr t0] s) am_tx fun r22 s21 =>
    bif tr_lf r22 then
      some (.inl (some (.inl (.int v2))), s21)
    else
      bif tr_nd t0 then
        am_ct (call (cs_sel [69, 69, 81, 81, 81, 81, 81, 69, 69, 69] (tr_k t0)) [.inr t0] s21) am_tx fun r24 s23 =>
        bif tr_nd t1 then
          am_ct (call (cs_sel [69, 69, 81, 81, 81, 81, 81, 69, 69, 69] (tr_k t1)) [.inr t1] s23) am_tx fun r26 s25 =>
          am_ci (call 55 [.inr r24, .inr r26] s25) am_tx fun r28 s27 =>
          some (.inl (some (.inl (.int (v2 + r28)))), s27)
        else none
      else none
  else none := rfl
theorem jX1_parts_16_eq (back : cs_bt) (call : cs_ct) (s : cs_S) (t0 : Tr) (t1 : Tr) (vs0 : Int32) : jX1_parts_16 back call s t0 t1 vs0 =
  bif tr_nd t0 then
    am_ct (call (cs_sel [68, 68, 80, 80, 80, 80, 80, 83, 83, 83] (tr_k t0)) [.inr t0] s) am_tx fun r30 s29 =>
    bif tr_lf r30 then
      jX1_parts_38_24 back call s29 t0 t1 vs0
    else
      bif tr_nd t0 then
        am_ct (call (cs_sel [68, 68, 80, 80, 80, 80, 80, 83, 83, 83] (tr_k t0)) [.inr t0] s29) am_tx fun r32 s31 =>
        bif tr_nd t1 then
          am_ct (call (cs_sel [68, 68, 80, 80, 80, 80, 80, 83, 83, 83] (tr_k t1)) [.inr t1] s31) am_tx fun r34 s33 =>
          am_ci (call 55 [.inr r32, .inr r34] s33) am_tx fun r36 s35 =>
          jX1_parts_38 back call s35 t0 t1 (vs0 + r36)
        else none
      else none
  else none := rfl
noncomputable def dX1_parts (back : cs_bt) (call : cs_ct) (s : cs_S) (x1 : Tr) (x2 : Tr) : am_R cs_S :=
  bif tr_nd x1 then
    am_ci (call (cs_sel [74, 74, 67, 67, 67, 67, 67, 67, 67, 87] (tr_k x1)) [.inr x1] s) am_tx fun r38 s37 =>
    bif tr_nd x2 then
      am_ci (call (cs_sel [74, 74, 67, 67, 67, 67, 67, 67, 67, 87] (tr_k x2)) [.inr x2] s37) am_tx fun r40 s39 =>
      if r38 = r40 then
        jX1_parts_16_15 back call s39 x1 x2 (ic 0)
      else
        jX1_parts_16 back call s39 x1 x2 (ic 1)
    else none
  else none
theorem dX1_parts_rs (back : cs_bt) (call : cs_ct) (s : cs_S) (x1 : Tr) (x2 : Tr) : (am_r2 back (gX1_parts call)).1 [some (.inr x1), some (.inr x2), none] [] s = dX1_parts back call s x1 x2 := rfl
theorem dX1_parts_eq (N f : Nat) (s : cs_S) (x1 : Tr) (x2 : Tr) : cs_call N (f + 1) 56 [.inr x1, .inr x2] s = dX1_parts (am_bk (cs_hop 1 (cs_call N f)) am_no (some .int) kX1_parts N) (cs_call N f) s x1 x2 := (cs_call_of (mt := 56) (nL := 3) (rt := (some .int)) (code := kX1_parts) rfl rfl rfl rfl rfl gX1_parts_ok ⟨_, _, _, _, rfl⟩).trans (dX1_parts_rs _ _ s x1 x2)
noncomputable def dX1_exchanged (back : cs_bt) (call : cs_ct) (s : cs_S) (x1 : Int32) (x2 : Int32) : am_R cs_S :=
  am_ci (call 5 [.inl (.ref 0), .inl (.int x1)] s) am_tx fun r12 s11 =>
  if r12 = 0 then
    some (.inl (some (.inl (.int (ic (-1))))), s11)
  else
    am_ci (call 5 [.inl (.ref 0), .inl (.int x2)] s11) am_tx fun r14 s13 =>
    if r14 = 0 then
      some (.inl (some (.inl (.int (ic (-1))))), s13)
    else
      am_ct (call 201 [.inl (.ref 100), .inl (.int x1)] s13) am_tx fun r16 s15 =>
      bif tr_nd r16 then
        am_ct (call 201 [.inl (.ref 100), .inl (.int x2)] s15) am_tx fun r18 s17 =>
        bif tr_nd r18 then
          am_ci (call 58 [.inr r16, .inr r18] s17) am_tx fun r20 s19 =>
          some (.inl (some (.inl (.int r20))), s19)
        else none
      else none
theorem dX1_exchanged_rs (back : cs_bt) (call : cs_ct) (s : cs_S) (x1 : Int32) (x2 : Int32) : (am_r2 back (gX1_exchanged call)).1 [some (.inl (.ref 0)), some (.inl (.int x1)), some (.inl (.int x2))] [] s = dX1_exchanged back call s x1 x2 := rfl
theorem dX1_exchanged_eq (N f : Nat) (s : cs_S) (x1 : Int32) (x2 : Int32) : cs_call N (f + 1) 57 [.inl (.ref 0), .inl (.int x1), .inl (.int x2)] s = dX1_exchanged (am_bk (cs_hop 1 (cs_call N f)) am_no (some .int) kX1_exchanged N) (cs_call N f) s x1 x2 := (cs_call_of (mt := 57) (nL := 3) (rt := (some .int)) (code := kX1_exchanged) rfl rfl rfl rfl rfl gX1_exchanged_ok ⟨_, _, _, _, rfl⟩).trans (dX1_exchanged_rs _ _ s x1 x2)
noncomputable def jX1_exchanges_53 (back : cs_bt) (call : cs_ct) (s : cs_S) (t0 : Tr) (t1 : Tr) (v2 : Int32) : am_R cs_S := (am_r2 back (gX1_exchanges_53 call)).1 [some (.inr t0), some (.inr t1), some (.inl (.int v2))] [] s
noncomputable def jX1_exchanges_53_39 (back : cs_bt) (call : cs_ct) (s : cs_S) (t0 : Tr) (t1 : Tr) (v2 : Int32) : am_R cs_S := (am_r2 back (gX1_exchanges_39 call)).2 53 [some (.inr t0), some (.inr t1), some (.inl (.int v2))] [] s
theorem jX1_exchanges_53_39_eq (back : cs_bt) (call : cs_ct) (s : cs_S) (t0 : Tr) (t1 : Tr) (v2 : Int32) : jX1_exchanges_53_39 back call s t0 t1 v2 = jX1_exchanges_53 back call s t0 t1 v2 := rfl
theorem jX1_exchanges_53_eq (back : cs_bt) (call : cs_ct) (s : cs_S) (t0 : Tr) (t1 : Tr) (v2 : Int32) : jX1_exchanges_53 back call s t0 t1 v2 =
  bif tr_nd t0 then
    am_ct (call (cs_sel [69, 69, 81, 81, 81, 81, 81, 69, 69, 69] (tr_k t0)) [.inr t0] s) am_tx fun r20 s19 =>
    bif tr_lf r20 then
      some (.inl (some (.inl (.int v2))), s19)
    else
      bif tr_nd t0 then
        am_ct (call (cs_sel [69, 69, 81, 81, 81, 81, 81, 69, 69, 69] (tr_k t0)) [.inr t0] s19) am_tx fun r22 s21 =>
        bif tr_nd t1 then
          am_ct (call (cs_sel [69, 69, 81, 81, 81, 81, 81, 69, 69, 69] (tr_k t1)) [.inr t1] s21) am_tx fun r24 s23 =>
          am_ci (call 58 [.inr r22, .inr r24] s23) am_tx fun r26 s25 =>
          some (.inl (some (.inl (.int (v2 + r26)))), s25)
        else none
      else none
  else none := rfl
noncomputable def dX1_exchanges (back : cs_bt) (call : cs_ct) (s : cs_S) (x1 : Tr) (x2 : Tr) : am_R cs_S :=
  bif tr_nd x1 then
    bif tr_nd x2 then
      if (nI (tr_k x1)) = (nI (tr_k x2)) then
        am_ci (call 56 [.inr x1, .inr x2] s) am_tx fun r28 s27 =>
        bif tr_nd x1 then
          bif tr_nd x2 then
            if r28 ≤ ((nI (tr_sz x1)) + (nI (tr_sz x2))) then
              bif tr_nd x1 then
                am_ct (call (cs_sel [68, 68, 80, 80, 80, 80, 80, 83, 83, 83] (tr_k x1)) [.inr x1] s27) am_tx fun r30 s29 =>
                bif tr_lf r30 then
                  jX1_exchanges_53_39 back call s29 x1 x2 (ic 0)
                else
                  bif tr_nd x1 then
                    am_ct (call (cs_sel [68, 68, 80, 80, 80, 80, 80, 83, 83, 83] (tr_k x1)) [.inr x1] s29) am_tx fun r32 s31 =>
                    bif tr_nd x2 then
                      am_ct (call (cs_sel [68, 68, 80, 80, 80, 80, 80, 83, 83, 83] (tr_k x2)) [.inr x2] s31) am_tx fun r34 s33 =>
                      am_ci (call 58 [.inr r32, .inr r34] s33) am_tx fun r36 s35 =>
                      jX1_exchanges_53 back call s35 x1 x2 ((ic 0) + r36)
                    else none
                  else none
              else none
            else
              some (.inl (some (.inl (.int (ic 1)))), s27)
          else none
        else none
      else
        some (.inl (some (.inl (.int (ic 1)))), s)
    else none
  else none
theorem dX1_exchanges_rs (back : cs_bt) (call : cs_ct) (s : cs_S) (x1 : Tr) (x2 : Tr) : (am_r2 back (gX1_exchanges call)).1 [some (.inr x1), some (.inr x2), none] [] s = dX1_exchanges back call s x1 x2 := rfl
theorem dX1_exchanges_eq (N f : Nat) (s : cs_S) (x1 : Tr) (x2 : Tr) : cs_call N (f + 1) 58 [.inr x1, .inr x2] s = dX1_exchanges (am_bk (cs_hop 1 (cs_call N f)) am_no (some .int) kX1_exchanges N) (cs_call N f) s x1 x2 := (cs_call_of (mt := 58) (nL := 3) (rt := (some .int)) (code := kX1_exchanges) rfl rfl rfl rfl rfl gX1_exchanges_ok ⟨_, _, _, _, rfl⟩).trans (dX1_exchanges_rs _ _ s x1 x2)
noncomputable def dX1_count (back : cs_bt) (call : cs_ct) (s : cs_S) (x1 : Int32) : am_R cs_S :=
  if x1 = 0 then
    am_ci (call 200 [.inl (.ref 100)] s) am_tx fun r8 s7 =>
    some (.inl (some (.inl (.int r8))), s7)
  else
    if x1 = (ic 1) then
      some (.inl (some (.inl (.int (cs_i s 9)))), s)
    else
      if x1 = (ic 2) then
        am_ci (call 46 [.inl (.int (cs_i s 1))] s) am_tx fun r6 s5 =>
        some (.inl (some (.inl (.int r6))), s5)
      else
        some (.inl (some (.inl (.int (ic (-1))))), s)
theorem dX1_count_rs (back : cs_bt) (call : cs_ct) (s : cs_S) (x1 : Int32) : (am_r2 back (gX1_count call)).1 [some (.inl (.ref 0)), some (.inl (.int x1))] [] s = dX1_count back call s x1 := rfl
theorem dX1_count_eq (N f : Nat) (s : cs_S) (x1 : Int32) : cs_call N (f + 1) 59 [.inl (.ref 0), .inl (.int x1)] s = dX1_count (am_bk (cs_hop 1 (cs_call N f)) am_no (some .int) kX1_count N) (cs_call N f) s x1 := (cs_call_of (mt := 59) (nL := 2) (rt := (some .int)) (code := kX1_count) rfl rfl rfl rfl rfl gX1_count_ok ⟨_, _, _, _, rfl⟩).trans (dX1_count_rs _ _ s x1)
noncomputable def dX1_isShelf (back : cs_bt) (call : cs_ct) (s : cs_S) (x1 : Int32) : am_R cs_S :=
  am_ci (call 2 [.inl (.long x1.toInt64), .inl (.long (lN 0)), .inl (.long (7))] s) am_tx fun r4 s3 =>
  some (.inl (some (.inl (.int (r4 &&& 1)))), s3)
theorem dX1_isShelf_rs (back : cs_bt) (call : cs_ct) (s : cs_S) (x1 : Int32) : (am_r2 back (gX1_isShelf call)).1 [some (.inl (.int x1))] [] s = dX1_isShelf back call s x1 := rfl
theorem dX1_isShelf_eq (N f : Nat) (s : cs_S) (x1 : Int32) : cs_call N (f + 1) 60 [.inl (.int x1)] s = dX1_isShelf (am_bk (cs_hop 1 (cs_call N f)) am_no (some .boolean) kX1_isShelf N) (cs_call N f) s x1 := (cs_call_of (mt := 60) (nL := 1) (rt := (some .boolean)) (code := kX1_isShelf) rfl rfl rfl rfl rfl gX1_isShelf_ok ⟨_, _, _, _, rfl⟩).trans (dX1_isShelf_rs _ _ s x1)
noncomputable def dX1_readings (back : cs_bt) (call : cs_ct) (s : cs_S) (x1 : Int32) : am_R cs_S :=
  am_ci (call 29 [.inl (.int x1)] s) am_tx fun r6 s5 =>
  if r6 = 0 then
    none
  else
    am_cl (call 30 [.inl (.ref 0), .inl (.int x1)] s5) am_tx fun r8 s7 =>
    some (.inl (some (.inl (.long r8))), s7)
theorem dX1_readings_rs (back : cs_bt) (call : cs_ct) (s : cs_S) (x1 : Int32) : (am_r2 back (gX1_readings call)).1 [some (.inl (.ref 0)), some (.inl (.int x1))] [] s = dX1_readings back call s x1 := rfl
theorem dX1_readings_eq (N f : Nat) (s : cs_S) (x1 : Int32) : cs_call N (f + 1) 61 [.inl (.ref 0), .inl (.int x1)] s = dX1_readings (am_bk (cs_hop 1 (cs_call N f)) am_no (some .long) kX1_readings N) (cs_call N f) s x1 := (cs_call_of (mt := 61) (nL := 2) (rt := (some .long)) (code := kX1_readings) rfl rfl rfl rfl rfl gX1_readings_ok ⟨_, _, _, _, rfl⟩).trans (dX1_readings_rs _ _ s x1)
noncomputable def jX1_where_97 (back : cs_bt) (call : cs_ct) (s : cs_S) (v1 : Int32) (v2 : Int32) (v3 : Int32) (vs0 : Int32) (vs1 : Int32) : am_R cs_S := (am_r2 back (gX1_where_97 call)).1 [some (.inl (.ref 0)), some (.inl (.int v1)), some (.inl (.int v2)), some (.inl (.int v3))] [.inl (.int vs0), .inl (.int vs1)] s
noncomputable def jX1_where_76 (back : cs_bt) (call : cs_ct) (s : cs_S) (v1 : Int32) (v2 : Int32) (v3 : Int32) : am_R cs_S := (am_r2 back (gX1_where_76 call)).1 [some (.inl (.ref 0)), some (.inl (.int v1)), some (.inl (.int v2)), some (.inl (.int v3))] [] s
noncomputable def jX1_where_97_96 (back : cs_bt) (call : cs_ct) (s : cs_S) (v1 : Int32) (v2 : Int32) (v3 : Int32) (vs0 : Int32) (vs1 : Int32) : am_R cs_S := (am_r2 back (gX1_where_96 call)).2 97 [some (.inl (.ref 0)), some (.inl (.int v1)), some (.inl (.int v2)), some (.inl (.int v3))] [.inl (.int vs0), .inl (.int vs1)] s
theorem jX1_where_97_96_eq (back : cs_bt) (call : cs_ct) (s : cs_S) (v1 : Int32) (v2 : Int32) (v3 : Int32) (vs0 : Int32) (vs1 : Int32) : jX1_where_97_96 back call s v1 v2 v3 vs0 vs1 = jX1_where_97 back call s v1 v2 v3 vs0 vs1 := rfl
theorem jX1_where_97_eq (back : cs_bt) (call : cs_ct) (s : cs_S) (v1 : Int32) (v2 : Int32) (v3 : Int32) (vs0 : Int32) (vs1 : Int32) : jX1_where_97 back call s v1 v2 v3 vs0 vs1 =
  back 76 [some (.inl (.ref 0)), some (.inl (.int v1)), some (.inl (.int (vs1 + vs0))), some (.inl (.int (v3 + ic (-1))))] [] s := rfl
theorem jX1_where_76_eq (back : cs_bt) (call : cs_ct) (s : cs_S) (v1 : Int32) (v2 : Int32) (v3 : Int32) : jX1_where_76 back call s v1 v2 v3 =
  if v3 ≤ 0 then
    some (.inl (some (.inl (.int v2))), s)
  else
    am_ix v3 41 fun j5 =>
    if (cs_a s 116 j5) = 0 then
      jX1_where_97 back call s v1 v2 v3 (ic 1) ((ic 3) * v2)
    else
      jX1_where_97_96 back call s v1 v2 v3 (ic 2) ((ic 3) * v2) := rfl
noncomputable def dX1_where (back : cs_bt) (call : cs_ct) (s : cs_S) (x1 : Int32) : am_R cs_S :=
  am_ci (call 2 [.inl (.long x1.toInt64), .inl (.long (lN 0)), .inl (.long (2))] s) am_tx fun r7 s6 =>
  if r7 = 0 then
    some (.inl (some (.inl (.int (ic (-1))))), s6)
  else
    if 0 ≤ (cs_i s6 17) then
      if x1 = (ic 1) then
        some (.inl (some (.inl (.int (cs_i s6 17)))), s6)
      else
        if x1 = (ic 2) then
          am_ix (cs_i s6 17) 41 fun j8 =>
          bif tr_nd (cs_p s6 j8) then
            some (.inl (some (.inl (.int (nI (tr_n (cs_p s6 j8)))))), s6)
          else none
        else
          if (cs_i s6 17) ≤ (ic 19) then
            jX1_where_76 back call s6 x1 (ic 0) (cs_i s6 17)
          else
            none
    else
      some (.inl (some (.inl (.int (ic (-2))))), s6)
theorem dX1_where_rs (back : cs_bt) (call : cs_ct) (s : cs_S) (x1 : Int32) : (am_r2 back (gX1_where call)).1 [some (.inl (.ref 0)), some (.inl (.int x1)), none, none] [] s = dX1_where back call s x1 := rfl
theorem dX1_where_eq (N f : Nat) (s : cs_S) (x1 : Int32) : cs_call N (f + 1) 62 [.inl (.ref 0), .inl (.int x1)] s = dX1_where (am_bk (cs_hop 1 (cs_call N f)) am_no (some .int) kX1_where N) (cs_call N f) s x1 := (cs_call_of (mt := 62) (nL := 4) (rt := (some .int)) (code := kX1_where) rfl rfl rfl rfl rfl gX1_where_ok ⟨_, _, _, _, rfl⟩).trans (dX1_where_rs _ _ s x1)
theorem jX1_where_76_bk (call : cs_ct) (n : Nat) (s : cs_S) (v1 : Int32) (v2 : Int32) (v3 : Int32) : am_bk (cs_hop 1 call) am_no (some .int) kX1_where (n + 1) 76 [some (.inl (.ref 0)), some (.inl (.int v1)), some (.inl (.int v2)), some (.inl (.int v3))] [] s = jX1_where_76 (am_bk (cs_hop 1 call) am_no (some .int) kX1_where n) call s v1 v2 v3 := (am_bk_of rfl (gX1_where_ok call)).trans rfl
noncomputable def dX2_clear (back : cs_bt) (call : cs_ct) (s : cs_S) (w0 : Nat) : am_R cs_S :=
  bif cs_isW w0 then
    some (.inl none, (cs_pi s w0 (ic 0)))
  else none
theorem dX2_clear_rs (back : cs_bt) (call : cs_ct) (s : cs_S) (w0 : Nat) : (am_r2 back (gX2_clear call)).1 [some (.inl (.ref w0))] [] s = dX2_clear back call s w0 := rfl
theorem dX2_clear_eq (N f : Nat) (s : cs_S) (w0 : Nat) : cs_call N (f + 1) 63 [.inl (.ref w0)] s = dX2_clear (am_bk (cs_hop 2 (cs_call N f)) am_no none kX2_clear N) (cs_call N f) s w0 := (cs_call_of (mt := 63) (nL := 1) (rt := none) (code := kX2_clear) rfl rfl rfl rfl rfl gX2_clear_ok ⟨_, _, _, _, rfl⟩).trans (dX2_clear_rs _ _ s w0)
noncomputable def dX2_say (back : cs_bt) (call : cs_ct) (s : cs_S) (w0 : Nat) (x1 : Int32) : am_R cs_S :=
  bif cs_isW w0 then
    if (cs_i s w0) = (ic 80) then
      bif cs_isW w0 then
        bif cs_isX (w0 + 40) then
          am_tx (w0 + 40) s
        else none
      else none
    else
      bif cs_isW w0 then
        bif cs_isW w0 then
          cs_ix (w0 + 20) true (cs_i s w0) fun j2 =>
          bif cs_isW w0 then
            bif cs_isW w0 then
              some (.inl none, (cs_pi (cs_pa s (w0 + 20) j2 (cs_nar (w0 + 20) x1.toInt8.toInt32)) w0 ((cs_i (cs_pa s (w0 + 20) j2 (cs_nar (w0 + 20) x1.toInt8.toInt32)) w0) + (ic 1))))
            else none
          else none
        else none
      else none
  else none
theorem dX2_say_rs (back : cs_bt) (call : cs_ct) (s : cs_S) (w0 : Nat) (x1 : Int32) : (am_r2 back (gX2_say call)).1 [some (.inl (.ref w0)), some (.inl (.int x1))] [] s = dX2_say back call s w0 x1 := rfl
theorem dX2_say_eq (N f : Nat) (s : cs_S) (w0 : Nat) (x1 : Int32) : cs_call N (f + 1) 64 [.inl (.ref w0), .inl (.int x1)] s = dX2_say (am_bk (cs_hop 2 (cs_call N f)) am_no none kX2_say N) (cs_call N f) s w0 x1 := (cs_call_of (mt := 64) (nL := 2) (rt := none) (code := kX2_say) rfl rfl rfl rfl rfl gX2_say_ok ⟨_, _, _, _, rfl⟩).trans (dX2_say_rs _ _ s w0 x1)
noncomputable def jX2_isAs_51 (back : cs_bt) (call : cs_ct) (s : cs_S) (u0 : Nat) (u1 : Nat) (v2 : Int32) (v3 : Int32) (vs0 : Int32) : am_R cs_S := (am_r2 back (gX2_isAs_51 call)).1 [some (.inl (.ref u0)), some (.inl (.ref u1)), some (.inl (.int v2)), some (.inl (.int v3))] [.inl (.int vs0)] s
noncomputable def jX2_isAs_19 (back : cs_bt) (call : cs_ct) (s : cs_S) (u0 : Nat) (u1 : Nat) (v2 : Int32) (v3 : Int32) : am_R cs_S := (am_r2 back (gX2_isAs_19 call)).1 [some (.inl (.ref u0)), some (.inl (.ref u1)), some (.inl (.int v2)), some (.inl (.int v3))] [] s
noncomputable def jX2_isAs_16 (back : cs_bt) (call : cs_ct) (s : cs_S) (u0 : Nat) (u1 : Nat) (vs0 : Int32) : am_R cs_S := (am_r2 back (gX2_isAs_16 call)).1 [some (.inl (.ref u0)), some (.inl (.ref u1)), none, none] [.inl (.int vs0)] s
noncomputable def jX2_isAs_16_15 (back : cs_bt) (call : cs_ct) (s : cs_S) (u0 : Nat) (u1 : Nat) (vs0 : Int32) : am_R cs_S := (am_r2 back (gX2_isAs_15 call)).2 16 [some (.inl (.ref u0)), some (.inl (.ref u1)), none, none] [.inl (.int vs0)] s
theorem jX2_isAs_16_15_eq (back : cs_bt) (call : cs_ct) (s : cs_S) (u0 : Nat) (u1 : Nat) (vs0 : Int32) : jX2_isAs_16_15 back call s u0 u1 vs0 = jX2_isAs_16 back call s u0 u1 vs0 := rfl
noncomputable def jX2_isAs_51_50 (back : cs_bt) (call : cs_ct) (s : cs_S) (u0 : Nat) (u1 : Nat) (v2 : Int32) (v3 : Int32) (vs0 : Int32) : am_R cs_S := (am_r2 back (gX2_isAs_50 call)).2 51 [some (.inl (.ref u0)), some (.inl (.ref u1)), some (.inl (.int v2)), some (.inl (.int v3))] [.inl (.int vs0)] s
theorem jX2_isAs_51_50_eq (back : cs_bt) (call : cs_ct) (s : cs_S) (u0 : Nat) (u1 : Nat) (v2 : Int32) (v3 : Int32) (vs0 : Int32) : jX2_isAs_51_50 back call s u0 u1 v2 v3 vs0 = jX2_isAs_51 back call s u0 u1 v2 v3 vs0 := rfl
theorem jX2_isAs_51_eq (back : cs_bt) (call : cs_ct) (s : cs_S) (u0 : Nat) (u1 : Nat) (v2 : Int32) (v3 : Int32) (vs0 : Int32) : jX2_isAs_51 back call s u0 u1 v2 v3 vs0 =
  back 19 [some (.inl (.ref u0)), some (.inl (.ref u1)), some (.inl (.int vs0)), some (.inl (.int (v3 + ic 1)))] [] s := rfl
theorem jX2_isAs_19_eq (back : cs_bt) (call : cs_ct) (s : cs_S) (u0 : Nat) (u1 : Nat) (v2 : Int32) (v3 : Int32) : jX2_isAs_19 back call s u0 u1 v2 v3 =
  bif cs_isW u0 then
    if (cs_i s u0) ≤ v3 then
      some (.inl (some (.inl (.int (v2 &&& 1)))), s)
    else
      if v2 = 0 then
        some (.inl (some (.inl (.int (v2 &&& 1)))), s)
      else
        bif cs_isW u0 then
          cs_ix (u0 + 20) true v3 fun j3 =>
          bif cs_isW u1 then
            cs_ix (u1 + 20) true v3 fun j4 =>
            if (cs_a s (u0 + 20) j3) = (cs_a s (u1 + 20) j4) then
              jX2_isAs_51_50 back call s u0 u1 v2 v3 (ic 1)
            else
              jX2_isAs_51 back call s u0 u1 v2 v3 (ic 0)
          else none
        else none
  else none := rfl
theorem jX2_isAs_16_eq (back : cs_bt) (call : cs_ct) (s : cs_S) (u0 : Nat) (u1 : Nat) (vs0 : Int32) : jX2_isAs_16 back call s u0 u1 vs0 =
  jX2_isAs_19 back call s u0 u1 vs0 (ic 0) := rfl
noncomputable def dX2_isAs (back : cs_bt) (call : cs_ct) (s : cs_S) (w0 : Nat) (x1 : Nat) : am_R cs_S :=
  bif cs_isW w0 then
    bif cs_isW x1 then
      if (cs_i s w0) = (cs_i s x1) then
        jX2_isAs_16_15 back call s w0 x1 (ic 1)
      else
        jX2_isAs_16 back call s w0 x1 (ic 0)
    else none
  else none
theorem dX2_isAs_rs (back : cs_bt) (call : cs_ct) (s : cs_S) (w0 : Nat) (x1 : Nat) : (am_r2 back (gX2_isAs call)).1 [some (.inl (.ref w0)), some (.inl (.ref x1)), none, none] [] s = dX2_isAs back call s w0 x1 := rfl
theorem dX2_isAs_eq (N f : Nat) (s : cs_S) (w0 : Nat) (x1 : Nat) : cs_call N (f + 1) 65 [.inl (.ref w0), .inl (.ref x1)] s = dX2_isAs (am_bk (cs_hop 2 (cs_call N f)) am_no (some .boolean) kX2_isAs N) (cs_call N f) s w0 x1 := (cs_call_of (mt := 65) (nL := 4) (rt := (some .boolean)) (code := kX2_isAs) rfl rfl rfl rfl rfl gX2_isAs_ok ⟨_, _, _, _, rfl⟩).trans (dX2_isAs_rs _ _ s w0 x1)
theorem jX2_isAs_19_bk (call : cs_ct) (n : Nat) (s : cs_S) (u0 : Nat) (u1 : Nat) (v2 : Int32) (v3 : Int32) : am_bk (cs_hop 2 call) am_no (some .boolean) kX2_isAs (n + 1) 19 [some (.inl (.ref u0)), some (.inl (.ref u1)), some (.inl (.int v2)), some (.inl (.int v3))] [] s = jX2_isAs_19 (am_bk (cs_hop 2 call) am_no (some .boolean) kX2_isAs n) call s u0 u1 v2 v3 := (am_bk_of rfl (gX2_isAs_ok call)).trans rfl
noncomputable def dX4_keeps (back : cs_bt) (call : cs_ct) (s : cs_S) (w0 : Nat) (x1 : Int32) : am_R cs_S :=
  bif Nat.beq w0 105 then
    if (((cs_i s 105) >>> (x1 &&& 31)) &&& (ic 1)) = (ic 1) then
      some (.inl (some (.inl (.int ((ic 1) &&& 1)))), s)
    else
      some (.inl (some (.inl (.int ((ic 0) &&& 1)))), s)
  else none
theorem dX4_keeps_rs (back : cs_bt) (call : cs_ct) (s : cs_S) (w0 : Nat) (x1 : Int32) : (am_r2 back (gX4_keeps call)).1 [some (.inl (.ref w0)), some (.inl (.int x1))] [] s = dX4_keeps back call s w0 x1 := rfl
theorem dX4_keeps_eq (N f : Nat) (s : cs_S) (w0 : Nat) (x1 : Int32) : cs_call N (f + 1) 66 [.inl (.ref w0), .inl (.int x1)] s = dX4_keeps (am_bk (cs_hop 4 (cs_call N f)) am_no (some .boolean) kX4_keeps N) (cs_call N f) s w0 x1 := (cs_call_of (mt := 66) (nL := 2) (rt := (some .boolean)) (code := kX4_keeps) rfl rfl rfl rfl rfl gX4_keeps_ok ⟨_, _, _, _, rfl⟩).trans (dX4_keeps_rs _ _ s w0 x1)
noncomputable def dX7_v (back : cs_bt) (call : cs_ct) (s : cs_S) (t0 : Tr) : am_R cs_S :=
  some (.inl (some (.inl (.int (ic (-2))))), s)
theorem dX7_v_rs (back : cs_bt) (call : cs_ct) (s : cs_S) (t0 : Tr) : (am_r2 back (gX7_v call)).1 [some (.inr t0)] [] s = dX7_v back call s t0 := rfl
theorem dX7_v_eq (N f : Nat) (s : cs_S) (t0 : Tr) : cs_call N (f + 1) 67 [.inr t0] s = dX7_v (am_bk (cs_hop 7 (cs_call N f)) am_no (some .int) kX7_v N) (cs_call N f) s t0 := (cs_call_of (mt := 67) (nL := 1) (rt := (some .int)) (code := kX7_v) rfl rfl rfl rfl rfl gX7_v_ok ⟨_, _, _, _, rfl⟩).trans (dX7_v_rs _ _ s t0)
noncomputable def dX7_x (back : cs_bt) (call : cs_ct) (s : cs_S) (t0 : Tr) : am_R cs_S :=
  some (.inl (some (.inr .leaf)), s)
theorem dX7_x_rs (back : cs_bt) (call : cs_ct) (s : cs_S) (t0 : Tr) : (am_r2 back (gX7_x call)).1 [some (.inr t0)] [] s = dX7_x back call s t0 := rfl
theorem dX7_x_eq (N f : Nat) (s : cs_S) (t0 : Tr) : cs_call N (f + 1) 68 [.inr t0] s = dX7_x (am_bk (cs_hop 7 (cs_call N f)) am_no (some (.object "FormulaVoice$Node")) kX7_x N) (cs_call N f) s t0 := (cs_call_of (mt := 68) (nL := 1) (rt := (some (.object "FormulaVoice$Node"))) (code := kX7_x) rfl rfl rfl rfl rfl gX7_x_ok ⟨_, _, _, _, rfl⟩).trans (dX7_x_rs _ _ s t0)
noncomputable def dX7_y (back : cs_bt) (call : cs_ct) (s : cs_S) (t0 : Tr) : am_R cs_S :=
  some (.inl (some (.inr .leaf)), s)
theorem dX7_y_rs (back : cs_bt) (call : cs_ct) (s : cs_S) (t0 : Tr) : (am_r2 back (gX7_y call)).1 [some (.inr t0)] [] s = dX7_y back call s t0 := rfl
theorem dX7_y_eq (N f : Nat) (s : cs_S) (t0 : Tr) : cs_call N (f + 1) 69 [.inr t0] s = dX7_y (am_bk (cs_hop 7 (cs_call N f)) am_no (some (.object "FormulaVoice$Node")) kX7_y N) (cs_call N f) s t0 := (cs_call_of (mt := 69) (nL := 1) (rt := (some (.object "FormulaVoice$Node"))) (code := kX7_y) rfl rfl rfl rfl rfl gX7_y_ok ⟨_, _, _, _, rfl⟩).trans (dX7_y_rs _ _ s t0)
noncomputable def jX7_isRight_18 (back : cs_bt) (call : cs_ct) (s : cs_S) (t0 : Tr) (v1 : Int32) : am_R cs_S := (am_r2 back (gX7_isRight_18 call)).1 [some (.inr t0), some (.inl (.int v1))] [] s
noncomputable def jX7_isRight_18_7 (back : cs_bt) (call : cs_ct) (s : cs_S) (t0 : Tr) (v1 : Int32) : am_R cs_S := (am_r2 back (gX7_isRight_7 call)).2 18 [some (.inr t0), some (.inl (.int v1))] [] s
theorem jX7_isRight_18_7_eq (back : cs_bt) (call : cs_ct) (s : cs_S) (t0 : Tr) (v1 : Int32) : jX7_isRight_18_7 back call s t0 v1 = jX7_isRight_18 back call s t0 v1 := rfl
theorem jX7_isRight_18_eq (back : cs_bt) (call : cs_ct) (s : cs_S) (t0 : Tr) (v1 : Int32) : jX7_isRight_18 back call s t0 v1 =
  bif tr_nd t0 then
    am_ct (call (cs_sel [69, 69, 81, 81, 81, 81, 81, 69, 69, 69] (tr_k t0)) [.inr t0] s) am_tx fun r14 s13 =>
    bif tr_lf r14 then
      some (.inl (some (.inl (.int ((ic 1) &&& 1)))), s13)
    else
      bif tr_nd t0 then
        am_ct (call (cs_sel [69, 69, 81, 81, 81, 81, 81, 69, 69, 69] (tr_k t0)) [.inr t0] s13) am_tx fun r16 s15 =>
        bif tr_nd r16 then
          am_ci (call (cs_sel [75, 78, 70, 70, 70, 70, 70, 70, 70, 88] (tr_k r16)) [.inr r16, .inl (.int v1)] s15) am_tx fun r18 s17 =>
          if r18 = 0 then
            some (.inl (some (.inl (.int ((ic 0) &&& 1)))), s17)
          else
            some (.inl (some (.inl (.int ((ic 1) &&& 1)))), s17)
        else none
      else none
  else none := rfl
noncomputable def dX7_isRight (back : cs_bt) (call : cs_ct) (s : cs_S) (t0 : Tr) (x1 : Int32) : am_R cs_S :=
  bif tr_nd t0 then
    am_ct (call (cs_sel [68, 68, 80, 80, 80, 80, 80, 83, 83, 83] (tr_k t0)) [.inr t0] s) am_tx fun r20 s19 =>
    bif tr_lf r20 then
      jX7_isRight_18_7 back call s19 t0 x1
    else
      bif tr_nd t0 then
        am_ct (call (cs_sel [68, 68, 80, 80, 80, 80, 80, 83, 83, 83] (tr_k t0)) [.inr t0] s19) am_tx fun r22 s21 =>
        bif tr_nd r22 then
          am_ci (call (cs_sel [75, 78, 70, 70, 70, 70, 70, 70, 70, 88] (tr_k r22)) [.inr r22, .inl (.int x1)] s21) am_tx fun r24 s23 =>
          if r24 = 0 then
            some (.inl (some (.inl (.int ((ic 0) &&& 1)))), s23)
          else
            jX7_isRight_18 back call s23 t0 x1
        else none
      else none
  else none
theorem dX7_isRight_rs (back : cs_bt) (call : cs_ct) (s : cs_S) (t0 : Tr) (x1 : Int32) : (am_r2 back (gX7_isRight call)).1 [some (.inr t0), some (.inl (.int x1))] [] s = dX7_isRight back call s t0 x1 := rfl
theorem dX7_isRight_eq (N f : Nat) (s : cs_S) (t0 : Tr) (x1 : Int32) : cs_call N (f + 1) 70 [.inr t0, .inl (.int x1)] s = dX7_isRight (am_bk (cs_hop 7 (cs_call N f)) am_no (some .boolean) kX7_isRight N) (cs_call N f) s t0 x1 := (cs_call_of (mt := 70) (nL := 2) (rt := (some .boolean)) (code := kX7_isRight) rfl rfl rfl rfl rfl gX7_isRight_ok ⟨_, _, _, _, rfl⟩).trans (dX7_isRight_rs _ _ s t0 x1)
noncomputable def jX7_isLike_45 (back : cs_bt) (call : cs_ct) (s : cs_S) (t0 : Tr) (t1 : Tr) : am_R cs_S := (am_r2 back (gX7_isLike_45 call)).1 [some (.inr t0), some (.inr t1)] [] s
noncomputable def jX7_isLike_45_31 (back : cs_bt) (call : cs_ct) (s : cs_S) (t0 : Tr) (t1 : Tr) : am_R cs_S := (am_r2 back (gX7_isLike_31 call)).2 45 [some (.inr t0), some (.inr t1)] [] s
theorem jX7_isLike_45_31_eq (back : cs_bt) (call : cs_ct) (s : cs_S) (t0 : Tr) (t1 : Tr) : jX7_isLike_45_31 back call s t0 t1 = jX7_isLike_45 back call s t0 t1 := rfl
theorem jX7_isLike_45_eq (back : cs_bt) (call : cs_ct) (s : cs_S) (t0 : Tr) (t1 : Tr) : jX7_isLike_45 back call s t0 t1 =
  bif tr_nd t0 then
    am_ct (call (cs_sel [69, 69, 81, 81, 81, 81, 81, 69, 69, 69] (tr_k t0)) [.inr t0] s) am_tx fun r22 s21 =>
    bif tr_lf r22 then
      some (.inl (some (.inl (.int ((ic 1) &&& 1)))), s21)
    else
      bif tr_nd t0 then
        am_ct (call (cs_sel [69, 69, 81, 81, 81, 81, 81, 69, 69, 69] (tr_k t0)) [.inr t0] s21) am_tx fun r24 s23 =>
        bif tr_nd t1 then
          am_ct (call (cs_sel [69, 69, 81, 81, 81, 81, 81, 69, 69, 69] (tr_k t1)) [.inr t1] s23) am_tx fun r26 s25 =>
          bif tr_nd r24 then
            am_ci (call (cs_sel [71, 71, 71, 71, 71, 71, 71, 71, 71, 71] (tr_k r24)) [.inr r24, .inr r26] s25) am_tx fun r28 s27 =>
            if r28 = 0 then
              some (.inl (some (.inl (.int ((ic 0) &&& 1)))), s27)
            else
              some (.inl (some (.inl (.int ((ic 1) &&& 1)))), s27)
          else none
        else none
      else none
  else none := rfl
noncomputable def dX7_isLike (back : cs_bt) (call : cs_ct) (s : cs_S) (t0 : Tr) (x1 : Tr) : am_R cs_S :=
  bif tr_nd x1 then
    bif tr_nd t0 then
      if (nI (tr_k x1)) = (nI (tr_k t0)) then
        bif tr_nd x1 then
          am_ci (call (cs_sel [74, 74, 67, 67, 67, 67, 67, 67, 67, 87] (tr_k x1)) [.inr x1] s) am_tx fun r30 s29 =>
          bif tr_nd t0 then
            am_ci (call (cs_sel [74, 74, 67, 67, 67, 67, 67, 67, 67, 87] (tr_k t0)) [.inr t0] s29) am_tx fun r32 s31 =>
            if r30 = r32 then
              bif tr_nd t0 then
                am_ct (call (cs_sel [68, 68, 80, 80, 80, 80, 80, 83, 83, 83] (tr_k t0)) [.inr t0] s31) am_tx fun r34 s33 =>
                bif tr_lf r34 then
                  jX7_isLike_45_31 back call s33 t0 x1
                else
                  bif tr_nd t0 then
                    am_ct (call (cs_sel [68, 68, 80, 80, 80, 80, 80, 83, 83, 83] (tr_k t0)) [.inr t0] s33) am_tx fun r36 s35 =>
                    bif tr_nd x1 then
                      am_ct (call (cs_sel [68, 68, 80, 80, 80, 80, 80, 83, 83, 83] (tr_k x1)) [.inr x1] s35) am_tx fun r38 s37 =>
                      bif tr_nd r36 then
                        am_ci (call (cs_sel [71, 71, 71, 71, 71, 71, 71, 71, 71, 71] (tr_k r36)) [.inr r36, .inr r38] s37) am_tx fun r40 s39 =>
                        if r40 = 0 then
                          some (.inl (some (.inl (.int ((ic 0) &&& 1)))), s39)
                        else
                          jX7_isLike_45 back call s39 t0 x1
                      else none
                    else none
                  else none
              else none
            else
              some (.inl (some (.inl (.int ((ic 0) &&& 1)))), s31)
          else none
        else none
      else
        some (.inl (some (.inl (.int ((ic 0) &&& 1)))), s)
    else none
  else none
theorem dX7_isLike_rs (back : cs_bt) (call : cs_ct) (s : cs_S) (t0 : Tr) (x1 : Tr) : (am_r2 back (gX7_isLike call)).1 [some (.inr t0), some (.inr x1)] [] s = dX7_isLike back call s t0 x1 := rfl
theorem dX7_isLike_eq (N f : Nat) (s : cs_S) (t0 : Tr) (x1 : Tr) : cs_call N (f + 1) 71 [.inr t0, .inr x1] s = dX7_isLike (am_bk (cs_hop 7 (cs_call N f)) am_no (some .boolean) kX7_isLike N) (cs_call N f) s t0 x1 := (cs_call_of (mt := 71) (nL := 2) (rt := (some .boolean)) (code := kX7_isLike) rfl rfl rfl rfl rfl gX7_isLike_ok ⟨_, _, _, _, rfl⟩).trans (dX7_isLike_rs _ _ s t0 x1)
noncomputable def jX7_says_50 (back : cs_bt) (call : cs_ct) (s : cs_S) (t0 : Tr) (u1 : Nat) (u2 : Nat) (v3 : Int32) (v4 : Int32) : am_R cs_S := (am_r2 back (gX7_says_50 call)).1 [some (.inr t0), some (.inl (.ref u1)), some (.inl (.ref u2)), some (.inl (.int v3)), some (.inl (.int v4))] [] s
noncomputable def jX7_says_37 (back : cs_bt) (call : cs_ct) (s : cs_S) (t0 : Tr) (u1 : Nat) (u2 : Nat) (v3 : Int32) (vs0 : Int32) : am_R cs_S := (am_r2 back (gX7_says_37 call)).1 [some (.inr t0), some (.inl (.ref u1)), some (.inl (.ref u2)), some (.inl (.int v3)), none] [.inl (.int vs0)] s
noncomputable def jX7_says_36 (back : cs_bt) (call : cs_ct) (s : cs_S) (t0 : Tr) (u1 : Nat) (u2 : Nat) (v3 : Int32) : am_R cs_S := (am_r2 back (gX7_says_36 call)).1 [some (.inr t0), some (.inl (.ref u1)), some (.inl (.ref u2)), some (.inl (.int v3)), none] [] s
noncomputable def jX7_says_36_21 (back : cs_bt) (call : cs_ct) (s : cs_S) (t0 : Tr) (u1 : Nat) (u2 : Nat) (v3 : Int32) : am_R cs_S := (am_r2 back (gX7_says_21 call)).2 36 [some (.inr t0), some (.inl (.ref u1)), some (.inl (.ref u2)), some (.inl (.int v3)), none] [] s
theorem jX7_says_36_21_eq (back : cs_bt) (call : cs_ct) (s : cs_S) (t0 : Tr) (u1 : Nat) (u2 : Nat) (v3 : Int32) : jX7_says_36_21 back call s t0 u1 u2 v3 = jX7_says_36 back call s t0 u1 u2 v3 := rfl
noncomputable def jX7_says_36_32 (back : cs_bt) (call : cs_ct) (s : cs_S) (t0 : Tr) (u1 : Nat) (u2 : Nat) (v3 : Int32) : am_R cs_S := (am_r2 back (gX7_says_32 call)).2 36 [some (.inr t0), some (.inl (.ref u1)), some (.inl (.ref u2)), some (.inl (.int v3)), none] [] s
theorem jX7_says_36_32_eq (back : cs_bt) (call : cs_ct) (s : cs_S) (t0 : Tr) (u1 : Nat) (u2 : Nat) (v3 : Int32) : jX7_says_36_32 back call s t0 u1 u2 v3 = jX7_says_36 back call s t0 u1 u2 v3 := rfl
noncomputable def jX7_says_37_36 (back : cs_bt) (call : cs_ct) (s : cs_S) (t0 : Tr) (u1 : Nat) (u2 : Nat) (v3 : Int32) (vs0 : Int32) : am_R cs_S := (am_r2 back (gX7_says_36 call)).2 37 [some (.inr t0), some (.inl (.ref u1)), some (.inl (.ref u2)), some (.inl (.int v3)), none] [.inl (.int vs0)] s
theorem jX7_says_37_36_eq (back : cs_bt) (call : cs_ct) (s : cs_S) (t0 : Tr) (u1 : Nat) (u2 : Nat) (v3 : Int32) (vs0 : Int32) : jX7_says_37_36 back call s t0 u1 u2 v3 vs0 = jX7_says_37 back call s t0 u1 u2 v3 vs0 := rfl
noncomputable def jX7_says_50_44 (back : cs_bt) (call : cs_ct) (s : cs_S) (t0 : Tr) (u1 : Nat) (u2 : Nat) (v3 : Int32) (v4 : Int32) : am_R cs_S := (am_r2 back (gX7_says_44 call)).2 50 [some (.inr t0), some (.inl (.ref u1)), some (.inl (.ref u2)), some (.inl (.int v3)), some (.inl (.int v4))] [] s
theorem jX7_says_50_44_eq (back : cs_bt) (call : cs_ct) (s : cs_S) (t0 : Tr) (u1 : Nat) (u2 : Nat) (v3 : Int32) (v4 : Int32) : jX7_says_50_44 back call s t0 u1 u2 v3 v4 = jX7_says_50 back call s t0 u1 u2 v3 v4 := rfl
theorem jX7_says_50_eq (back : cs_bt) (call : cs_ct) (s : cs_S) (t0 : Tr) (u1 : Nat) (u2 : Nat) (v3 : Int32) (v4 : Int32) : jX7_says_50 back call s t0 u1 u2 v3 v4 =
  bif tr_nd t0 then
    am_cv (call (cs_sel [77, 79, 82, 82, 82, 82, 82, 84, 86, 89] (tr_k t0)) [.inr t0, .inl (.ref u1), .inl (.ref u2), .inl (.int v3)] s) am_tx fun s9 =>
    if v4 = 0 then
      some (.inl none, s9)
    else
      bif cs_isW u1 then
        am_cv (call 64 [.inl (.ref u1), .inl (.int (ic 30))] s9) am_tx fun s10 =>
        some (.inl none, s10)
      else none
  else none := rfl
theorem jX7_says_37_eq (back : cs_bt) (call : cs_ct) (s : cs_S) (t0 : Tr) (u1 : Nat) (u2 : Nat) (v3 : Int32) (vs0 : Int32) : jX7_says_37 back call s t0 u1 u2 v3 vs0 =
  if vs0 = 0 then
    jX7_says_50_44 back call s t0 u1 u2 v3 vs0
  else
    bif cs_isW u1 then
      am_cv (call 64 [.inl (.ref u1), .inl (.int (ic 29))] s) am_tx fun s11 =>
      jX7_says_50 back call s11 t0 u1 u2 v3 vs0
    else none := rfl
theorem jX7_says_36_eq (back : cs_bt) (call : cs_ct) (s : cs_S) (t0 : Tr) (u1 : Nat) (u2 : Nat) (v3 : Int32) : jX7_says_36 back call s t0 u1 u2 v3 =
  jX7_says_37 back call s t0 u1 u2 v3 (ic 0) := rfl
noncomputable def dX7_says (back : cs_bt) (call : cs_ct) (s : cs_S) (t0 : Tr) (x1 : Nat) (x2 : Nat) (x3 : Int32) : am_R cs_S :=
  bif Nat.beq x2 105 then
    if x3 ≤ (cs_i s 125) then
      bif tr_nd t0 then
        am_ci (call (cs_sel [76, 76, 73, 73, 73, 73, 73, 73, 85, 73] (tr_k t0)) [.inr t0] s) am_tx fun r13 s12 =>
        if r13 = 0 then
          jX7_says_36_21 back call s12 t0 x1 x2 x3
        else
          bif tr_nd t0 then
            bif Nat.beq x2 105 then
              am_ci (call 66 [.inl (.ref x2), .inl (.int (nI (tr_k t0)))] s12) am_tx fun r15 s14 =>
              if r15 = 0 then
                jX7_says_36_32 back call s14 t0 x1 x2 x3
              else
                jX7_says_37_36 back call s14 t0 x1 x2 x3 (ic 1)
            else none
          else none
      else none
    else
      bif cs_isW x1 then
        am_cv (call 64 [.inl (.ref x1), .inl (.int (ic 0))] s) am_tx fun s16 =>
        some (.inl none, s16)
      else none
  else none
theorem dX7_says_rs (back : cs_bt) (call : cs_ct) (s : cs_S) (t0 : Tr) (x1 : Nat) (x2 : Nat) (x3 : Int32) : (am_r2 back (gX7_says call)).1 [some (.inr t0), some (.inl (.ref x1)), some (.inl (.ref x2)), some (.inl (.int x3)), none] [] s = dX7_says back call s t0 x1 x2 x3 := rfl
theorem dX7_says_eq (N f : Nat) (s : cs_S) (t0 : Tr) (x1 : Nat) (x2 : Nat) (x3 : Int32) : cs_call N (f + 1) 72 [.inr t0, .inl (.ref x1), .inl (.ref x2), .inl (.int x3)] s = dX7_says (am_bk (cs_hop 7 (cs_call N f)) am_no none kX7_says N) (cs_call N f) s t0 x1 x2 x3 := (cs_call_of (mt := 72) (nL := 5) (rt := none) (code := kX7_says) rfl rfl rfl rfl rfl gX7_says_ok ⟨_, _, _, _, rfl⟩).trans (dX7_says_rs _ _ s t0 x1 x2 x3)
noncomputable def dX7_mayKeep (back : cs_bt) (call : cs_ct) (s : cs_S) (t0 : Tr) : am_R cs_S :=
  some (.inl (some (.inl (.int ((ic 1) &&& 1)))), s)
theorem dX7_mayKeep_rs (back : cs_bt) (call : cs_ct) (s : cs_S) (t0 : Tr) : (am_r2 back (gX7_mayKeep call)).1 [some (.inr t0)] [] s = dX7_mayKeep back call s t0 := rfl
theorem dX7_mayKeep_eq (N f : Nat) (s : cs_S) (t0 : Tr) : cs_call N (f + 1) 73 [.inr t0] s = dX7_mayKeep (am_bk (cs_hop 7 (cs_call N f)) am_no (some .boolean) kX7_mayKeep N) (cs_call N f) s t0 := (cs_call_of (mt := 73) (nL := 1) (rt := (some .boolean)) (code := kX7_mayKeep) rfl rfl rfl rfl rfl gX7_mayKeep_ok ⟨_, _, _, _, rfl⟩).trans (dX7_mayKeep_rs _ _ s t0)
noncomputable def dX8_v (back : cs_bt) (call : cs_ct) (s : cs_S) (t0 : Tr) : am_R cs_S :=
  bif tr_in 0 1 t0 then
    some (.inl (some (.inl (.int (nI (tr_v t0))))), s)
  else none
theorem dX8_v_rs (back : cs_bt) (call : cs_ct) (s : cs_S) (t0 : Tr) : (am_r2 back (gX8_v call)).1 [some (.inr t0)] [] s = dX8_v back call s t0 := rfl
theorem dX8_v_eq (N f : Nat) (s : cs_S) (t0 : Tr) : cs_call N (f + 1) 74 [.inr t0] s = dX8_v (am_bk (cs_hop 8 (cs_call N f)) am_no (some .int) kX8_v N) (cs_call N f) s t0 := (cs_call_of (mt := 74) (nL := 1) (rt := (some .int)) (code := kX8_v) rfl rfl rfl rfl rfl gX8_v_ok ⟨_, _, _, _, rfl⟩).trans (dX8_v_rs _ _ s t0)
noncomputable def dX8_isRight (back : cs_bt) (call : cs_ct) (s : cs_S) (t0 : Tr) (x1 : Int32) : am_R cs_S :=
  bif tr_in 0 1 t0 then
    if ((x1 >>> ((nI (tr_v t0)) &&& 31)) &&& (ic 1)) = 0 then
      some (.inl (some (.inl (.int ((ic 1) &&& 1)))), s)
    else
      some (.inl (some (.inl (.int ((ic 0) &&& 1)))), s)
  else none
theorem dX8_isRight_rs (back : cs_bt) (call : cs_ct) (s : cs_S) (t0 : Tr) (x1 : Int32) : (am_r2 back (gX8_isRight call)).1 [some (.inr t0), some (.inl (.int x1))] [] s = dX8_isRight back call s t0 x1 := rfl
theorem dX8_isRight_eq (N f : Nat) (s : cs_S) (t0 : Tr) (x1 : Int32) : cs_call N (f + 1) 75 [.inr t0, .inl (.int x1)] s = dX8_isRight (am_bk (cs_hop 8 (cs_call N f)) am_no (some .boolean) kX8_isRight N) (cs_call N f) s t0 x1 := (cs_call_of (mt := 75) (nL := 2) (rt := (some .boolean)) (code := kX8_isRight) rfl rfl rfl rfl rfl gX8_isRight_ok ⟨_, _, _, _, rfl⟩).trans (dX8_isRight_rs _ _ s t0 x1)
noncomputable def dX8_mayKeep (back : cs_bt) (call : cs_ct) (s : cs_S) (t0 : Tr) : am_R cs_S :=
  some (.inl (some (.inl (.int ((ic 0) &&& 1)))), s)
theorem dX8_mayKeep_rs (back : cs_bt) (call : cs_ct) (s : cs_S) (t0 : Tr) : (am_r2 back (gX8_mayKeep call)).1 [some (.inr t0)] [] s = dX8_mayKeep back call s t0 := rfl
theorem dX8_mayKeep_eq (N f : Nat) (s : cs_S) (t0 : Tr) : cs_call N (f + 1) 76 [.inr t0] s = dX8_mayKeep (am_bk (cs_hop 8 (cs_call N f)) am_no (some .boolean) kX8_mayKeep N) (cs_call N f) s t0 := (cs_call_of (mt := 76) (nL := 1) (rt := (some .boolean)) (code := kX8_mayKeep) rfl rfl rfl rfl rfl gX8_mayKeep_ok ⟨_, _, _, _, rfl⟩).trans (dX8_mayKeep_rs _ _ s t0)
noncomputable def dX8_tells (back : cs_bt) (call : cs_ct) (s : cs_S) (t0 : Tr) (x1 : Nat) (x2 : Nat) (x3 : Int32) : am_R cs_S :=
  bif tr_in 0 1 t0 then
    bif cs_isW x1 then
      am_cv (call 64 [.inl (.ref x1), .inl (.int (nI (tr_v t0)))] s) am_tx fun s2 =>
      some (.inl none, s2)
    else none
  else none
theorem dX8_tells_rs (back : cs_bt) (call : cs_ct) (s : cs_S) (t0 : Tr) (x1 : Nat) (x2 : Nat) (x3 : Int32) : (am_r2 back (gX8_tells call)).1 [some (.inr t0), some (.inl (.ref x1)), some (.inl (.ref x2)), some (.inl (.int x3))] [] s = dX8_tells back call s t0 x1 x2 x3 := rfl
theorem dX8_tells_eq (N f : Nat) (s : cs_S) (t0 : Tr) (x1 : Nat) (x2 : Nat) (x3 : Int32) : cs_call N (f + 1) 77 [.inr t0, .inl (.ref x1), .inl (.ref x2), .inl (.int x3)] s = dX8_tells (am_bk (cs_hop 8 (cs_call N f)) am_no none kX8_tells N) (cs_call N f) s t0 x1 x2 x3 := (cs_call_of (mt := 77) (nL := 4) (rt := none) (code := kX8_tells) rfl rfl rfl rfl rfl gX8_tells_ok ⟨_, _, _, _, rfl⟩).trans (dX8_tells_rs _ _ s t0 x1 x2 x3)
noncomputable def dX9_isRight (back : cs_bt) (call : cs_ct) (s : cs_S) (t0 : Tr) (x1 : Int32) : am_R cs_S :=
  some (.inl (some (.inl (.int ((ic 1) &&& 1)))), s)
theorem dX9_isRight_rs (back : cs_bt) (call : cs_ct) (s : cs_S) (t0 : Tr) (x1 : Int32) : (am_r2 back (gX9_isRight call)).1 [some (.inr t0), some (.inl (.int x1))] [] s = dX9_isRight back call s t0 x1 := rfl
theorem dX9_isRight_eq (N f : Nat) (s : cs_S) (t0 : Tr) (x1 : Int32) : cs_call N (f + 1) 78 [.inr t0, .inl (.int x1)] s = dX9_isRight (am_bk (cs_hop 9 (cs_call N f)) am_no (some .boolean) kX9_isRight N) (cs_call N f) s t0 x1 := (cs_call_of (mt := 78) (nL := 2) (rt := (some .boolean)) (code := kX9_isRight) rfl rfl rfl rfl rfl gX9_isRight_ok ⟨_, _, _, _, rfl⟩).trans (dX9_isRight_rs _ _ s t0 x1)
noncomputable def jX9_tells_47 (back : cs_bt) (call : cs_ct) (s : cs_S) (t0 : Tr) (u1 : Nat) (u2 : Nat) (v3 : Int32) (v4 : Int32) : am_R cs_S := (am_r2 back (gX9_tells_47 call)).1 [some (.inr t0), some (.inl (.ref u1)), some (.inl (.ref u2)), some (.inl (.int v3)), some (.inl (.int v4))] [] s
noncomputable def jX9_tells_45 (back : cs_bt) (call : cs_ct) (s : cs_S) (t0 : Tr) (u1 : Nat) (u2 : Nat) (v3 : Int32) (vs0 : Int32) : am_R cs_S := (am_r2 back (gX9_tells_45 call)).1 [some (.inr t0), some (.inl (.ref u1)), some (.inl (.ref u2)), some (.inl (.int v3)), none] [.inl (.int vs0)] s
noncomputable def jX9_tells_45_16 (back : cs_bt) (call : cs_ct) (s : cs_S) (t0 : Tr) (u1 : Nat) (u2 : Nat) (v3 : Int32) (vs0 : Int32) : am_R cs_S := (am_r2 back (gX9_tells_16 call)).2 45 [some (.inr t0), some (.inl (.ref u1)), some (.inl (.ref u2)), some (.inl (.int v3)), none] [.inl (.int vs0)] s
theorem jX9_tells_45_16_eq (back : cs_bt) (call : cs_ct) (s : cs_S) (t0 : Tr) (u1 : Nat) (u2 : Nat) (v3 : Int32) (vs0 : Int32) : jX9_tells_45_16 back call s t0 u1 u2 v3 vs0 = jX9_tells_45 back call s t0 u1 u2 v3 vs0 := rfl
noncomputable def jX9_tells_45_30 (back : cs_bt) (call : cs_ct) (s : cs_S) (t0 : Tr) (u1 : Nat) (u2 : Nat) (v3 : Int32) (vs0 : Int32) : am_R cs_S := (am_r2 back (gX9_tells_30 call)).2 45 [some (.inr t0), some (.inl (.ref u1)), some (.inl (.ref u2)), some (.inl (.int v3)), none] [.inl (.int vs0)] s
theorem jX9_tells_45_30_eq (back : cs_bt) (call : cs_ct) (s : cs_S) (t0 : Tr) (u1 : Nat) (u2 : Nat) (v3 : Int32) (vs0 : Int32) : jX9_tells_45_30 back call s t0 u1 u2 v3 vs0 = jX9_tells_45 back call s t0 u1 u2 v3 vs0 := rfl
noncomputable def jX9_tells_45_44 (back : cs_bt) (call : cs_ct) (s : cs_S) (t0 : Tr) (u1 : Nat) (u2 : Nat) (v3 : Int32) (vs0 : Int32) : am_R cs_S := (am_r2 back (gX9_tells_44 call)).2 45 [some (.inr t0), some (.inl (.ref u1)), some (.inl (.ref u2)), some (.inl (.int v3)), none] [.inl (.int vs0)] s
theorem jX9_tells_45_44_eq (back : cs_bt) (call : cs_ct) (s : cs_S) (t0 : Tr) (u1 : Nat) (u2 : Nat) (v3 : Int32) (vs0 : Int32) : jX9_tells_45_44 back call s t0 u1 u2 v3 vs0 = jX9_tells_45 back call s t0 u1 u2 v3 vs0 := rfl
theorem jX9_tells_47_eq (back : cs_bt) (call : cs_ct) (s : cs_S) (t0 : Tr) (u1 : Nat) (u2 : Nat) (v3 : Int32) (v4 : Int32) : jX9_tells_47 back call s t0 u1 u2 v3 v4 =
  if v4 ≤ 0 then
    some (.inl none, s)
  else
    bif tr_in 0 1 t0 then
      am_dz v4 (am_dz (ic 10) (bif cs_isW u1 then
        am_cv (call 64 [.inl (.ref u1), .inl (.int ((ic 10) + (((nI (tr_v t0)) / v4) - ((nI (tr_v t0)) / v4) / (ic 10) * (ic 10))))] s) am_tx fun s2 =>
        am_dz (ic 10) (back 47 [some (.inr t0), some (.inl (.ref u1)), some (.inl (.ref u2)), some (.inl (.int v3)), some (.inl (.int (v4 / (ic 10))))] [] s2)
      else none))
    else none := rfl
theorem jX9_tells_45_eq (back : cs_bt) (call : cs_ct) (s : cs_S) (t0 : Tr) (u1 : Nat) (u2 : Nat) (v3 : Int32) (vs0 : Int32) : jX9_tells_45 back call s t0 u1 u2 v3 vs0 =
  jX9_tells_47 back call s t0 u1 u2 v3 vs0 := rfl
noncomputable def dX9_tells (back : cs_bt) (call : cs_ct) (s : cs_S) (t0 : Tr) (x1 : Nat) (x2 : Nat) (x3 : Int32) : am_R cs_S :=
  bif tr_in 0 1 t0 then
    if (nI (tr_v t0)) ≤ (ic 999) then
      bif tr_in 0 1 t0 then
        if (nI (tr_v t0)) ≤ (ic 99) then
          bif tr_in 0 1 t0 then
            if (nI (tr_v t0)) ≤ (ic 9) then
              jX9_tells_45 back call s t0 x1 x2 x3 (ic 1)
            else
              jX9_tells_45_44 back call s t0 x1 x2 x3 (ic 10)
          else none
        else
          jX9_tells_45_30 back call s t0 x1 x2 x3 (ic 100)
      else none
    else
      jX9_tells_45_16 back call s t0 x1 x2 x3 (ic 1000)
  else none
theorem dX9_tells_rs (back : cs_bt) (call : cs_ct) (s : cs_S) (t0 : Tr) (x1 : Nat) (x2 : Nat) (x3 : Int32) : (am_r2 back (gX9_tells call)).1 [some (.inr t0), some (.inl (.ref x1)), some (.inl (.ref x2)), some (.inl (.int x3)), none] [] s = dX9_tells back call s t0 x1 x2 x3 := rfl
theorem dX9_tells_eq (N f : Nat) (s : cs_S) (t0 : Tr) (x1 : Nat) (x2 : Nat) (x3 : Int32) : cs_call N (f + 1) 79 [.inr t0, .inl (.ref x1), .inl (.ref x2), .inl (.int x3)] s = dX9_tells (am_bk (cs_hop 9 (cs_call N f)) am_no none kX9_tells N) (cs_call N f) s t0 x1 x2 x3 := (cs_call_of (mt := 79) (nL := 5) (rt := none) (code := kX9_tells) rfl rfl rfl rfl rfl gX9_tells_ok ⟨_, _, _, _, rfl⟩).trans (dX9_tells_rs _ _ s t0 x1 x2 x3)
theorem jX9_tells_47_bk (call : cs_ct) (n : Nat) (s : cs_S) (t0 : Tr) (u1 : Nat) (u2 : Nat) (v3 : Int32) (v4 : Int32) : am_bk (cs_hop 9 call) am_no none kX9_tells (n + 1) 47 [some (.inr t0), some (.inl (.ref u1)), some (.inl (.ref u2)), some (.inl (.int v3)), some (.inl (.int v4))] [] s = jX9_tells_47 (am_bk (cs_hop 9 call) am_no none kX9_tells n) call s t0 u1 u2 v3 v4 := (am_bk_of rfl (gX9_tells_ok call)).trans rfl
noncomputable def dX10_x (back : cs_bt) (call : cs_ct) (s : cs_S) (t0 : Tr) : am_R cs_S :=
  bif tr_in 2 6 t0 then
    some (.inl (some (.inr (tr_x t0))), s)
  else none
theorem dX10_x_rs (back : cs_bt) (call : cs_ct) (s : cs_S) (t0 : Tr) : (am_r2 back (gX10_x call)).1 [some (.inr t0)] [] s = dX10_x back call s t0 := rfl
theorem dX10_x_eq (N f : Nat) (s : cs_S) (t0 : Tr) : cs_call N (f + 1) 80 [.inr t0] s = dX10_x (am_bk (cs_hop 10 (cs_call N f)) am_no (some (.object "FormulaVoice$Node")) kX10_x N) (cs_call N f) s t0 := (cs_call_of (mt := 80) (nL := 1) (rt := (some (.object "FormulaVoice$Node"))) (code := kX10_x) rfl rfl rfl rfl rfl gX10_x_ok ⟨_, _, _, _, rfl⟩).trans (dX10_x_rs _ _ s t0)
noncomputable def dX10_y (back : cs_bt) (call : cs_ct) (s : cs_S) (t0 : Tr) : am_R cs_S :=
  bif tr_in 2 6 t0 then
    some (.inl (some (.inr (tr_y t0))), s)
  else none
theorem dX10_y_rs (back : cs_bt) (call : cs_ct) (s : cs_S) (t0 : Tr) : (am_r2 back (gX10_y call)).1 [some (.inr t0)] [] s = dX10_y back call s t0 := rfl
theorem dX10_y_eq (N f : Nat) (s : cs_S) (t0 : Tr) : cs_call N (f + 1) 81 [.inr t0] s = dX10_y (am_bk (cs_hop 10 (cs_call N f)) am_no (some (.object "FormulaVoice$Node")) kX10_y N) (cs_call N f) s t0 := (cs_call_of (mt := 81) (nL := 1) (rt := (some (.object "FormulaVoice$Node"))) (code := kX10_y) rfl rfl rfl rfl rfl gX10_y_ok ⟨_, _, _, _, rfl⟩).trans (dX10_y_rs _ _ s t0)
noncomputable def dX10_tells (back : cs_bt) (call : cs_ct) (s : cs_S) (t0 : Tr) (x1 : Nat) (x2 : Nat) (x3 : Int32) : am_R cs_S :=
  bif tr_in 2 6 t0 then
    bif tr_nd (tr_x t0) then
      am_cv (call (cs_sel [72, 72, 72, 72, 72, 72, 72, 72, 72, 72] (tr_k (tr_x t0))) [.inr (tr_x t0), .inl (.ref x1), .inl (.ref x2), .inl (.int (x3 + (ic 1)))] s) am_tx fun s4 =>
      bif tr_nd t0 then
        bif cs_isW x1 then
          am_cv (call 64 [.inl (.ref x1), .inl (.int (((ic 20) + (nI (tr_k t0))) - (ic 2)))] s4) am_tx fun s5 =>
          bif tr_in 2 6 t0 then
            bif tr_nd (tr_y t0) then
              am_cv (call (cs_sel [72, 72, 72, 72, 72, 72, 72, 72, 72, 72] (tr_k (tr_y t0))) [.inr (tr_y t0), .inl (.ref x1), .inl (.ref x2), .inl (.int (x3 + (ic 1)))] s5) am_tx fun s6 =>
              some (.inl none, s6)
            else none
          else none
        else none
      else none
    else none
  else none
theorem dX10_tells_rs (back : cs_bt) (call : cs_ct) (s : cs_S) (t0 : Tr) (x1 : Nat) (x2 : Nat) (x3 : Int32) : (am_r2 back (gX10_tells call)).1 [some (.inr t0), some (.inl (.ref x1)), some (.inl (.ref x2)), some (.inl (.int x3))] [] s = dX10_tells back call s t0 x1 x2 x3 := rfl
theorem dX10_tells_eq (N f : Nat) (s : cs_S) (t0 : Tr) (x1 : Nat) (x2 : Nat) (x3 : Int32) : cs_call N (f + 1) 82 [.inr t0, .inl (.ref x1), .inl (.ref x2), .inl (.int x3)] s = dX10_tells (am_bk (cs_hop 10 (cs_call N f)) am_no none kX10_tells N) (cs_call N f) s t0 x1 x2 x3 := (cs_call_of (mt := 82) (nL := 4) (rt := none) (code := kX10_tells) rfl rfl rfl rfl rfl gX10_tells_ok ⟨_, _, _, _, rfl⟩).trans (dX10_tells_rs _ _ s t0 x1 x2 x3)
noncomputable def dX12_x (back : cs_bt) (call : cs_ct) (s : cs_S) (t0 : Tr) : am_R cs_S :=
  bif tr_in 7 9 t0 then
    some (.inl (some (.inr (tr_x t0))), s)
  else none
theorem dX12_x_rs (back : cs_bt) (call : cs_ct) (s : cs_S) (t0 : Tr) : (am_r2 back (gX12_x call)).1 [some (.inr t0)] [] s = dX12_x back call s t0 := rfl
theorem dX12_x_eq (N f : Nat) (s : cs_S) (t0 : Tr) : cs_call N (f + 1) 83 [.inr t0] s = dX12_x (am_bk (cs_hop 12 (cs_call N f)) am_no (some (.object "FormulaVoice$Node")) kX12_x N) (cs_call N f) s t0 := (cs_call_of (mt := 83) (nL := 1) (rt := (some (.object "FormulaVoice$Node"))) (code := kX12_x) rfl rfl rfl rfl rfl gX12_x_ok ⟨_, _, _, _, rfl⟩).trans (dX12_x_rs _ _ s t0)
noncomputable def dX12_tells (back : cs_bt) (call : cs_ct) (s : cs_S) (t0 : Tr) (x1 : Nat) (x2 : Nat) (x3 : Int32) : am_R cs_S :=
  bif cs_isW x1 then
    am_cv (call 64 [.inl (.ref x1), .inl (.int (ic 25))] s) am_tx fun s3 =>
    bif tr_in 7 9 t0 then
      bif tr_nd (tr_x t0) then
        am_cv (call (cs_sel [72, 72, 72, 72, 72, 72, 72, 72, 72, 72] (tr_k (tr_x t0))) [.inr (tr_x t0), .inl (.ref x1), .inl (.ref x2), .inl (.int (x3 + (ic 1)))] s3) am_tx fun s4 =>
        some (.inl none, s4)
      else none
    else none
  else none
theorem dX12_tells_rs (back : cs_bt) (call : cs_ct) (s : cs_S) (t0 : Tr) (x1 : Nat) (x2 : Nat) (x3 : Int32) : (am_r2 back (gX12_tells call)).1 [some (.inr t0), some (.inl (.ref x1)), some (.inl (.ref x2)), some (.inl (.int x3))] [] s = dX12_tells back call s t0 x1 x2 x3 := rfl
theorem dX12_tells_eq (N f : Nat) (s : cs_S) (t0 : Tr) (x1 : Nat) (x2 : Nat) (x3 : Int32) : cs_call N (f + 1) 84 [.inr t0, .inl (.ref x1), .inl (.ref x2), .inl (.int x3)] s = dX12_tells (am_bk (cs_hop 12 (cs_call N f)) am_no none kX12_tells N) (cs_call N f) s t0 x1 x2 x3 := (cs_call_of (mt := 84) (nL := 4) (rt := none) (code := kX12_tells) rfl rfl rfl rfl rfl gX12_tells_ok ⟨_, _, _, _, rfl⟩).trans (dX12_tells_rs _ _ s t0 x1 x2 x3)
noncomputable def dX13_mayKeep (back : cs_bt) (call : cs_ct) (s : cs_S) (t0 : Tr) : am_R cs_S :=
  some (.inl (some (.inl (.int ((ic 0) &&& 1)))), s)
theorem dX13_mayKeep_rs (back : cs_bt) (call : cs_ct) (s : cs_S) (t0 : Tr) : (am_r2 back (gX13_mayKeep call)).1 [some (.inr t0)] [] s = dX13_mayKeep back call s t0 := rfl
theorem dX13_mayKeep_eq (N f : Nat) (s : cs_S) (t0 : Tr) : cs_call N (f + 1) 85 [.inr t0] s = dX13_mayKeep (am_bk (cs_hop 13 (cs_call N f)) am_no (some .boolean) kX13_mayKeep N) (cs_call N f) s t0 := (cs_call_of (mt := 85) (nL := 1) (rt := (some .boolean)) (code := kX13_mayKeep) rfl rfl rfl rfl rfl gX13_mayKeep_ok ⟨_, _, _, _, rfl⟩).trans (dX13_mayKeep_rs _ _ s t0)
noncomputable def dX13_tells (back : cs_bt) (call : cs_ct) (s : cs_S) (t0 : Tr) (x1 : Nat) (x2 : Nat) (x3 : Int32) : am_R cs_S :=
  bif cs_isW x1 then
    am_cv (call 64 [.inl (.ref x1), .inl (.int (ic 26))] s) am_tx fun s6 =>
    bif tr_in 8 8 t0 then
      am_ct (call 83 [.inr t0] s6) am_tx fun r8 s7 =>
      bif tr_nd r8 then
        am_cv (call (cs_sel [72, 72, 72, 72, 72, 72, 72, 72, 72, 72] (tr_k r8)) [.inr r8, .inl (.ref x1), .inl (.ref x2), .inl (.int (x3 + (ic 1)))] s7) am_tx fun s9 =>
        bif cs_isW x1 then
          am_cv (call 64 [.inl (.ref x1), .inl (.int (ic 27))] s9) am_tx fun s10 =>
          some (.inl none, s10)
        else none
      else none
    else none
  else none
theorem dX13_tells_rs (back : cs_bt) (call : cs_ct) (s : cs_S) (t0 : Tr) (x1 : Nat) (x2 : Nat) (x3 : Int32) : (am_r2 back (gX13_tells call)).1 [some (.inr t0), some (.inl (.ref x1)), some (.inl (.ref x2)), some (.inl (.int x3))] [] s = dX13_tells back call s t0 x1 x2 x3 := rfl
theorem dX13_tells_eq (N f : Nat) (s : cs_S) (t0 : Tr) (x1 : Nat) (x2 : Nat) (x3 : Int32) : cs_call N (f + 1) 86 [.inr t0, .inl (.ref x1), .inl (.ref x2), .inl (.int x3)] s = dX13_tells (am_bk (cs_hop 13 (cs_call N f)) am_no none kX13_tells N) (cs_call N f) s t0 x1 x2 x3 := (cs_call_of (mt := 86) (nL := 4) (rt := none) (code := kX13_tells) rfl rfl rfl rfl rfl gX13_tells_ok ⟨_, _, _, _, rfl⟩).trans (dX13_tells_rs _ _ s t0 x1 x2 x3)
noncomputable def dX14_v (back : cs_bt) (call : cs_ct) (s : cs_S) (t0 : Tr) : am_R cs_S :=
  bif tr_in 9 9 t0 then
    some (.inl (some (.inl (.int (nI (tr_v t0))))), s)
  else none
theorem dX14_v_rs (back : cs_bt) (call : cs_ct) (s : cs_S) (t0 : Tr) : (am_r2 back (gX14_v call)).1 [some (.inr t0)] [] s = dX14_v back call s t0 := rfl
theorem dX14_v_eq (N f : Nat) (s : cs_S) (t0 : Tr) : cs_call N (f + 1) 87 [.inr t0] s = dX14_v (am_bk (cs_hop 14 (cs_call N f)) am_no (some .int) kX14_v N) (cs_call N f) s t0 := (cs_call_of (mt := 87) (nL := 1) (rt := (some .int)) (code := kX14_v) rfl rfl rfl rfl rfl gX14_v_ok ⟨_, _, _, _, rfl⟩).trans (dX14_v_rs _ _ s t0)
noncomputable def dX14_isRight (back : cs_bt) (call : cs_ct) (s : cs_S) (t0 : Tr) (x1 : Int32) : am_R cs_S :=
  bif tr_in 9 9 t0 then
    if ((x1 >>> ((nI (tr_v t0)) &&& 31)) &&& (ic 1)) = (ic 1) then
      bif tr_in 9 9 t0 then
        am_ci (call 70 [.inr t0, .inl (.int x1)] s) am_tx fun r4 s3 =>
        if r4 = 0 then
          some (.inl (some (.inl (.int ((ic 0) &&& 1)))), s3)
        else
          some (.inl (some (.inl (.int ((ic 1) &&& 1)))), s3)
      else none
    else
      some (.inl (some (.inl (.int ((ic 0) &&& 1)))), s)
  else none
theorem dX14_isRight_rs (back : cs_bt) (call : cs_ct) (s : cs_S) (t0 : Tr) (x1 : Int32) : (am_r2 back (gX14_isRight call)).1 [some (.inr t0), some (.inl (.int x1))] [] s = dX14_isRight back call s t0 x1 := rfl
theorem dX14_isRight_eq (N f : Nat) (s : cs_S) (t0 : Tr) (x1 : Int32) : cs_call N (f + 1) 88 [.inr t0, .inl (.int x1)] s = dX14_isRight (am_bk (cs_hop 14 (cs_call N f)) am_no (some .boolean) kX14_isRight N) (cs_call N f) s t0 x1 := (cs_call_of (mt := 88) (nL := 2) (rt := (some .boolean)) (code := kX14_isRight) rfl rfl rfl rfl rfl gX14_isRight_ok ⟨_, _, _, _, rfl⟩).trans (dX14_isRight_rs _ _ s t0 x1)
noncomputable def dX14_tells (back : cs_bt) (call : cs_ct) (s : cs_S) (t0 : Tr) (x1 : Nat) (x2 : Nat) (x3 : Int32) : am_R cs_S :=
  bif tr_in 9 9 t0 then
    bif cs_isW x1 then
      am_cv (call 64 [.inl (.ref x1), .inl (.int (nI (tr_v t0)))] s) am_tx fun s6 =>
      bif cs_isW x1 then
        am_cv (call 64 [.inl (.ref x1), .inl (.int (ic 28))] s6) am_tx fun s7 =>
        bif tr_in 9 9 t0 then
          am_ct (call 83 [.inr t0] s7) am_tx fun r9 s8 =>
          bif tr_nd r9 then
            am_cv (call (cs_sel [72, 72, 72, 72, 72, 72, 72, 72, 72, 72] (tr_k r9)) [.inr r9, .inl (.ref x1), .inl (.ref x2), .inl (.int (x3 + (ic 1)))] s8) am_tx fun s10 =>
            some (.inl none, s10)
          else none
        else none
      else none
    else none
  else none
theorem dX14_tells_rs (back : cs_bt) (call : cs_ct) (s : cs_S) (t0 : Tr) (x1 : Nat) (x2 : Nat) (x3 : Int32) : (am_r2 back (gX14_tells call)).1 [some (.inr t0), some (.inl (.ref x1)), some (.inl (.ref x2)), some (.inl (.int x3))] [] s = dX14_tells back call s t0 x1 x2 x3 := rfl
theorem dX14_tells_eq (N f : Nat) (s : cs_S) (t0 : Tr) (x1 : Nat) (x2 : Nat) (x3 : Int32) : cs_call N (f + 1) 89 [.inr t0, .inl (.ref x1), .inl (.ref x2), .inl (.int x3)] s = dX14_tells (am_bk (cs_hop 14 (cs_call N f)) am_no none kX14_tells N) (cs_call N f) s t0 x1 x2 x3 := (cs_call_of (mt := 89) (nL := 4) (rt := none) (code := kX14_tells) rfl rfl rfl rfl rfl gX14_tells_ok ⟨_, _, _, _, rfl⟩).trans (dX14_tells_rs _ _ s t0 x1 x2 x3)
