set_option maxRecDepth 100000
noncomputable def dX6_thrown (back : mm_bt) (call : mm_ct) (s : mm_S)  : am_R mm_S :=
  some (.inl (some (.inl (.int (s.1 16)))), s)
theorem dX6_thrown_rs (back : mm_bt) (call : mm_ct) (s : mm_S)  : (am_r2 back (gX6_thrown call)).1 [some (.inl (.ref 0))] [] s = dX6_thrown back call s  := rfl
theorem dX6_thrown_eq (N f : Nat) (s : mm_S)  : mm_call N (f + 1) 1 [.inl (.ref 0)] s = dX6_thrown (am_bk (mm_hop (mm_call N f)) am_no (some .int) kX6_thrown N) (mm_call N f) s  := (mm_call_of (mt := 1) (nL := 1) (rt := (some .int)) (code := kX6_thrown) rfl rfl rfl rfl gX6_thrown_ok ⟨_, _, _, _, rfl⟩).trans (dX6_thrown_rs _ _ s )
noncomputable def jX6_leaf_26 (back : mm_bt) (call : mm_ct) (s : mm_S) (v1 : Int32) (v2 : Int32) (ws0 : Int64) (ws1 : Int64) (ws2 : Int64) : am_R mm_S := (am_r2 back (gX6_leaf_26 call)).1 [some (.inl (.ref 0)), some (.inl (.int v1)), some (.inl (.int v2))] [.inl (.long ws0), .inl (.long ws1), .inl (.long ws2)] s
noncomputable def jX6_leaf_26_23 (back : mm_bt) (call : mm_ct) (s : mm_S) (v1 : Int32) (v2 : Int32) (ws0 : Int64) (ws1 : Int64) (ws2 : Int64) : am_R mm_S := (am_r2 back (gX6_leaf_23 call)).2 26 [some (.inl (.ref 0)), some (.inl (.int v1)), some (.inl (.int v2))] [.inl (.long ws0), .inl (.long ws1), .inl (.long ws2)] s
theorem jX6_leaf_26_23_eq (back : mm_bt) (call : mm_ct) (s : mm_S) (v1 : Int32) (v2 : Int32) (ws0 : Int64) (ws1 : Int64) (ws2 : Int64) : jX6_leaf_26_23 back call s v1 v2 ws0 ws1 ws2 = jX6_leaf_26 back call s v1 v2 ws0 ws1 ws2 := rfl
theorem jX6_leaf_26_eq (back : mm_bt) (call : mm_ct) (s : mm_S) (v1 : Int32) (v2 : Int32) (ws0 : Int64) (ws1 : Int64) (ws2 : Int64) : jX6_leaf_26 back call s v1 v2 ws0 ws1 ws2 =
  am_ci (call 3 [.inl (.long ws2), .inl (.long ws1), .inl (.long ws0)] s) am_tx fun r7 s6 =>
  if r7 = 0 then
    some (.inl (some (.inl (.int (ic (-1))))), s6)
  else
    if (s6.1 0) = (ic 120) then
      some (.inl (some (.inl (.int (ic (-2))))), s6)
    else
      am_cv (call 4 [.inl (.ref 0), .inl (.int (s6.1 0)), .inl (.int v1), .inl (.int v2), .inl (.int (ic (-2))), .inl (.int (ic (-2)))] s6) am_tx fun s8 =>
      some (.inl (some (.inl (.int (((mm_p s8 0 ((s8.1 0) + (ic 1))).1 0) - (ic 1))))), (mm_p s8 0 ((s8.1 0) + (ic 1)))) := rfl
noncomputable def dX6_leaf (back : mm_bt) (call : mm_ct) (s : mm_S) (x1 : Int32) (x2 : Int32) : am_R mm_S :=
  am_ci (call 3 [.inl (.long x1.toInt64), .inl (.long (lN 0)), .inl (.long (lN 1))] s) am_tx fun r10 s9 =>
  if r10 = 0 then
    some (.inl (some (.inl (.int (ic (-1))))), s9)
  else
    if x1 = 0 then
      jX6_leaf_26_23 back call s9 x1 x2 9 (lN 0) x2.toInt64
    else
      jX6_leaf_26 back call s9 x1 x2 9999 (lN 0) x2.toInt64
theorem dX6_leaf_rs (back : mm_bt) (call : mm_ct) (s : mm_S) (x1 : Int32) (x2 : Int32) : (am_r2 back (gX6_leaf call)).1 [some (.inl (.ref 0)), some (.inl (.int x1)), some (.inl (.int x2))] [] s = dX6_leaf back call s x1 x2 := rfl
theorem dX6_leaf_eq (N f : Nat) (s : mm_S) (x1 : Int32) (x2 : Int32) : mm_call N (f + 1) 2 [.inl (.ref 0), .inl (.int x1), .inl (.int x2)] s = dX6_leaf (am_bk (mm_hop (mm_call N f)) am_no (some .int) kX6_leaf N) (mm_call N f) s x1 x2 := (mm_call_of (mt := 2) (nL := 3) (rt := (some .int)) (code := kX6_leaf) rfl rfl rfl rfl gX6_leaf_ok ⟨_, _, _, _, rfl⟩).trans (dX6_leaf_rs _ _ s x1 x2)
noncomputable def dX6_in (back : mm_bt) (call : mm_ct) (s : mm_S) (x1 : Int64) (x2 : Int64) (x3 : Int64) : am_R mm_S :=
  if (lg_cmp x1 x2) < 0 then
    some (.inl (some (.inl (.int ((ic 0) &&& 1)))), s)
  else
    if 0 < (lg_cmp x1 x3) then
      some (.inl (some (.inl (.int ((ic 0) &&& 1)))), s)
    else
      some (.inl (some (.inl (.int ((ic 1) &&& 1)))), s)
theorem dX6_in_rs (back : mm_bt) (call : mm_ct) (s : mm_S) (x1 : Int64) (x2 : Int64) (x3 : Int64) : (am_r2 back (gX6_in call)).1 [some (.inl (.long x1)), none, some (.inl (.long x2)), none, some (.inl (.long x3)), none] [] s = dX6_in back call s x1 x2 x3 := rfl
theorem dX6_in_eq (N f : Nat) (s : mm_S) (x1 : Int64) (x2 : Int64) (x3 : Int64) : mm_call N (f + 1) 3 [.inl (.long x1), .inl (.long x2), .inl (.long x3)] s = dX6_in (am_bk (mm_hop (mm_call N f)) am_no (some .boolean) kX6_in N) (mm_call N f) s x1 x2 x3 := (mm_call_of (mt := 3) (nL := 6) (rt := (some .boolean)) (code := kX6_in) rfl rfl rfl rfl gX6_in_ok ⟨_, _, _, _, rfl⟩).trans (dX6_in_rs _ _ s x1 x2 x3)
noncomputable def jX6_sets_127 (back : mm_bt) (call : mm_ct) (s : mm_S) (v1 : Int32) (v2 : Int32) (v3 : Int32) (v4 : Int32) (v5 : Int32) (v6 : Int32) (v7 : Int32) (vs0 : Int32) (vs1 : Int32) (vs2 : Int32) : am_R mm_S := (am_r2 back (gX6_sets_127 call)).1 [some (.inl (.ref 0)), some (.inl (.int v1)), some (.inl (.int v2)), some (.inl (.int v3)), some (.inl (.int v4)), some (.inl (.int v5)), some (.inl (.int v6)), some (.inl (.int v7))] [.inl (.int vs0), .inl (.int vs1), .inl (.int vs2), .inl (.ref 6)] s
noncomputable def jX6_sets_105 (back : mm_bt) (call : mm_ct) (s : mm_S) (v1 : Int32) (v2 : Int32) (v3 : Int32) (v4 : Int32) (v5 : Int32) (v6 : Int32) (vs0 : Int32) : am_R mm_S := (am_r2 back (gX6_sets_105 call)).1 [some (.inl (.ref 0)), some (.inl (.int v1)), some (.inl (.int v2)), some (.inl (.int v3)), some (.inl (.int v4)), some (.inl (.int v5)), some (.inl (.int v6)), none] [.inl (.int vs0)] s
noncomputable def jX6_sets_87 (back : mm_bt) (call : mm_ct) (s : mm_S) (v1 : Int32) (v2 : Int32) (v3 : Int32) (v4 : Int32) (v5 : Int32) (vs0 : Int32) : am_R mm_S := (am_r2 back (gX6_sets_87 call)).1 [some (.inl (.ref 0)), some (.inl (.int v1)), some (.inl (.int v2)), some (.inl (.int v3)), some (.inl (.int v4)), some (.inl (.int v5)), none, none] [.inl (.int vs0)] s
noncomputable def jX6_sets_69 (back : mm_bt) (call : mm_ct) (s : mm_S) (v1 : Int32) (v2 : Int32) (v3 : Int32) (v4 : Int32) (v5 : Int32) (vs0 : Int32) (vs1 : Int32) (vs2 : Int32) : am_R mm_S := (am_r2 back (gX6_sets_69 call)).1 [some (.inl (.ref 0)), some (.inl (.int v1)), some (.inl (.int v2)), some (.inl (.int v3)), some (.inl (.int v4)), some (.inl (.int v5)), none, none] [.inl (.int vs0), .inl (.int vs1), .inl (.int vs2), .inl (.ref 5)] s
noncomputable def jX6_sets_52 (back : mm_bt) (call : mm_ct) (s : mm_S) (v1 : Int32) (v2 : Int32) (v3 : Int32) (v4 : Int32) (v5 : Int32) (vs0 : Int32) (vs1 : Int32) (vs2 : Int32) : am_R mm_S := (am_r2 back (gX6_sets_52 call)).1 [some (.inl (.ref 0)), some (.inl (.int v1)), some (.inl (.int v2)), some (.inl (.int v3)), some (.inl (.int v4)), some (.inl (.int v5)), none, none] [.inl (.int vs0), .inl (.int vs1), .inl (.int vs2), .inl (.ref 5)] s
noncomputable def jX6_sets_52_45 (back : mm_bt) (call : mm_ct) (s : mm_S) (v1 : Int32) (v2 : Int32) (v3 : Int32) (v4 : Int32) (v5 : Int32) (vs0 : Int32) (vs1 : Int32) (vs2 : Int32) : am_R mm_S := (am_r2 back (gX6_sets_45 call)).2 52 [some (.inl (.ref 0)), some (.inl (.int v1)), some (.inl (.int v2)), some (.inl (.int v3)), some (.inl (.int v4)), some (.inl (.int v5)), none, none] [.inl (.int vs0), .inl (.int vs1), .inl (.int vs2), .inl (.ref 5)] s
theorem jX6_sets_52_45_eq (back : mm_bt) (call : mm_ct) (s : mm_S) (v1 : Int32) (v2 : Int32) (v3 : Int32) (v4 : Int32) (v5 : Int32) (vs0 : Int32) (vs1 : Int32) (vs2 : Int32) : jX6_sets_52_45 back call s v1 v2 v3 v4 v5 vs0 vs1 vs2 = jX6_sets_52 back call s v1 v2 v3 v4 v5 vs0 vs1 vs2 := rfl
noncomputable def jX6_sets_69_62 (back : mm_bt) (call : mm_ct) (s : mm_S) (v1 : Int32) (v2 : Int32) (v3 : Int32) (v4 : Int32) (v5 : Int32) (vs0 : Int32) (vs1 : Int32) (vs2 : Int32) : am_R mm_S := (am_r2 back (gX6_sets_62 call)).2 69 [some (.inl (.ref 0)), some (.inl (.int v1)), some (.inl (.int v2)), some (.inl (.int v3)), some (.inl (.int v4)), some (.inl (.int v5)), none, none] [.inl (.int vs0), .inl (.int vs1), .inl (.int vs2), .inl (.ref 5)] s
theorem jX6_sets_69_62_eq (back : mm_bt) (call : mm_ct) (s : mm_S) (v1 : Int32) (v2 : Int32) (v3 : Int32) (v4 : Int32) (v5 : Int32) (vs0 : Int32) (vs1 : Int32) (vs2 : Int32) : jX6_sets_69_62 back call s v1 v2 v3 v4 v5 vs0 vs1 vs2 = jX6_sets_69 back call s v1 v2 v3 v4 v5 vs0 vs1 vs2 := rfl
noncomputable def jX6_sets_87_80 (back : mm_bt) (call : mm_ct) (s : mm_S) (v1 : Int32) (v2 : Int32) (v3 : Int32) (v4 : Int32) (v5 : Int32) (vs0 : Int32) : am_R mm_S := (am_r2 back (gX6_sets_80 call)).2 87 [some (.inl (.ref 0)), some (.inl (.int v1)), some (.inl (.int v2)), some (.inl (.int v3)), some (.inl (.int v4)), some (.inl (.int v5)), none, none] [.inl (.int vs0)] s
theorem jX6_sets_87_80_eq (back : mm_bt) (call : mm_ct) (s : mm_S) (v1 : Int32) (v2 : Int32) (v3 : Int32) (v4 : Int32) (v5 : Int32) (vs0 : Int32) : jX6_sets_87_80 back call s v1 v2 v3 v4 v5 vs0 = jX6_sets_87 back call s v1 v2 v3 v4 v5 vs0 := rfl
noncomputable def jX6_sets_105_98 (back : mm_bt) (call : mm_ct) (s : mm_S) (v1 : Int32) (v2 : Int32) (v3 : Int32) (v4 : Int32) (v5 : Int32) (v6 : Int32) (vs0 : Int32) : am_R mm_S := (am_r2 back (gX6_sets_98 call)).2 105 [some (.inl (.ref 0)), some (.inl (.int v1)), some (.inl (.int v2)), some (.inl (.int v3)), some (.inl (.int v4)), some (.inl (.int v5)), some (.inl (.int v6)), none] [.inl (.int vs0)] s
theorem jX6_sets_105_98_eq (back : mm_bt) (call : mm_ct) (s : mm_S) (v1 : Int32) (v2 : Int32) (v3 : Int32) (v4 : Int32) (v5 : Int32) (v6 : Int32) (vs0 : Int32) : jX6_sets_105_98 back call s v1 v2 v3 v4 v5 v6 vs0 = jX6_sets_105 back call s v1 v2 v3 v4 v5 v6 vs0 := rfl
noncomputable def jX6_sets_127_125 (back : mm_bt) (call : mm_ct) (s : mm_S) (v1 : Int32) (v2 : Int32) (v3 : Int32) (v4 : Int32) (v5 : Int32) (v6 : Int32) (v7 : Int32) (vs0 : Int32) (vs1 : Int32) (vs2 : Int32) : am_R mm_S := (am_r2 back (gX6_sets_125 call)).2 127 [some (.inl (.ref 0)), some (.inl (.int v1)), some (.inl (.int v2)), some (.inl (.int v3)), some (.inl (.int v4)), some (.inl (.int v5)), some (.inl (.int v6)), some (.inl (.int v7))] [.inl (.int vs0), .inl (.int vs1), .inl (.int vs2), .inl (.ref 6)] s
theorem jX6_sets_127_125_eq (back : mm_bt) (call : mm_ct) (s : mm_S) (v1 : Int32) (v2 : Int32) (v3 : Int32) (v4 : Int32) (v5 : Int32) (v6 : Int32) (v7 : Int32) (vs0 : Int32) (vs1 : Int32) (vs2 : Int32) : jX6_sets_127_125 back call s v1 v2 v3 v4 v5 v6 v7 vs0 vs1 vs2 = jX6_sets_127 back call s v1 v2 v3 v4 v5 v6 v7 vs0 vs1 vs2 := rfl
theorem jX6_sets_127_eq (back : mm_bt) (call : mm_ct) (s : mm_S) (v1 : Int32) (v2 : Int32) (v3 : Int32) (v4 : Int32) (v5 : Int32) (v6 : Int32) (v7 : Int32) (vs0 : Int32) (vs1 : Int32) (vs2 : Int32) : jX6_sets_127 back call s v1 v2 v3 v4 v5 v6 v7 vs0 vs1 vs2 =
  am_ix vs2 450 fun j11 =>
  some (.inl none, (mm_pa s 6 j11 (vs1 + vs0))) := rfl
theorem jX6_sets_105_eq (back : mm_bt) (call : mm_ct) (s : mm_S) (v1 : Int32) (v2 : Int32) (v3 : Int32) (v4 : Int32) (v5 : Int32) (v6 : Int32) (vs0 : Int32) : jX6_sets_105 back call s v1 v2 v3 v4 v5 v6 vs0 =
  if v6 ≤ vs0 then
    jX6_sets_127 back call s v1 v2 v3 v4 v5 v6 vs0 vs0 (ic 1) v1
  else
    jX6_sets_127_125 back call s v1 v2 v3 v4 v5 v6 vs0 v6 (ic 1) v1 := rfl
theorem jX6_sets_87_eq (back : mm_bt) (call : mm_ct) (s : mm_S) (v1 : Int32) (v2 : Int32) (v3 : Int32) (v4 : Int32) (v5 : Int32) (vs0 : Int32) : jX6_sets_87 back call s v1 v2 v3 v4 v5 vs0 =
  if 0 ≤ v5 then
    am_ix v5 450 fun j12 =>
    jX6_sets_105 back call s v1 v2 v3 v4 v5 vs0 (s.2.1 6 j12)
  else
    jX6_sets_105_98 back call s v1 v2 v3 v4 v5 vs0 (ic 0) := rfl
theorem jX6_sets_69_eq (back : mm_bt) (call : mm_ct) (s : mm_S) (v1 : Int32) (v2 : Int32) (v3 : Int32) (v4 : Int32) (v5 : Int32) (vs0 : Int32) (vs1 : Int32) (vs2 : Int32) : jX6_sets_69 back call s v1 v2 v3 v4 v5 vs0 vs1 vs2 =
  am_ix vs2 450 fun j13 =>
  if 0 ≤ v4 then
    am_ix v4 450 fun j14 =>
    jX6_sets_87 back call (mm_pa s 5 j13 (vs1 + vs0)) v1 v2 v3 v4 v5 ((mm_pa s 5 j13 (vs1 + vs0)).2.1 6 j14)
  else
    jX6_sets_87_80 back call (mm_pa s 5 j13 (vs1 + vs0)) v1 v2 v3 v4 v5 (ic 0) := rfl
theorem jX6_sets_52_eq (back : mm_bt) (call : mm_ct) (s : mm_S) (v1 : Int32) (v2 : Int32) (v3 : Int32) (v4 : Int32) (v5 : Int32) (vs0 : Int32) (vs1 : Int32) (vs2 : Int32) : jX6_sets_52 back call s v1 v2 v3 v4 v5 vs0 vs1 vs2 =
  if 0 ≤ v5 then
    am_ix v5 450 fun j15 =>
    jX6_sets_69 back call s v1 v2 v3 v4 v5 (s.2.1 5 j15) (vs1 + vs0) vs2
  else
    jX6_sets_69_62 back call s v1 v2 v3 v4 v5 (ic 0) (vs1 + vs0) vs2 := rfl
noncomputable def dX6_sets (back : mm_bt) (call : mm_ct) (s : mm_S) (x1 : Int32) (x2 : Int32) (x3 : Int32) (x4 : Int32) (x5 : Int32) : am_R mm_S :=
  am_ix x1 450 fun j16 =>
  am_ix x1 450 fun j17 =>
  am_ix x1 450 fun j18 =>
  am_ix x1 450 fun j19 =>
  if 0 ≤ x4 then
    am_ix x4 450 fun j20 =>
    jX6_sets_52 back call (mm_pa (mm_pa (mm_pa (mm_pa s 1 j16 x2) 2 j17 x3) 3 j18 x4) 4 j19 x5) x1 x2 x3 x4 x5 ((mm_pa (mm_pa (mm_pa (mm_pa s 1 j16 x2) 2 j17 x3) 3 j18 x4) 4 j19 x5).2.1 5 j20) (ic 1) x1
  else
    jX6_sets_52_45 back call (mm_pa (mm_pa (mm_pa (mm_pa s 1 j16 x2) 2 j17 x3) 3 j18 x4) 4 j19 x5) x1 x2 x3 x4 x5 (ic 0) (ic 1) x1
theorem dX6_sets_rs (back : mm_bt) (call : mm_ct) (s : mm_S) (x1 : Int32) (x2 : Int32) (x3 : Int32) (x4 : Int32) (x5 : Int32) : (am_r2 back (gX6_sets call)).1 [some (.inl (.ref 0)), some (.inl (.int x1)), some (.inl (.int x2)), some (.inl (.int x3)), some (.inl (.int x4)), some (.inl (.int x5)), none, none] [] s = dX6_sets back call s x1 x2 x3 x4 x5 := rfl
theorem dX6_sets_eq (N f : Nat) (s : mm_S) (x1 : Int32) (x2 : Int32) (x3 : Int32) (x4 : Int32) (x5 : Int32) : mm_call N (f + 1) 4 [.inl (.ref 0), .inl (.int x1), .inl (.int x2), .inl (.int x3), .inl (.int x4), .inl (.int x5)] s = dX6_sets (am_bk (mm_hop (mm_call N f)) am_no none kX6_sets N) (mm_call N f) s x1 x2 x3 x4 x5 := (mm_call_of (mt := 4) (nL := 8) (rt := none) (code := kX6_sets) rfl rfl rfl rfl gX6_sets_ok ⟨_, _, _, _, rfl⟩).trans (dX6_sets_rs _ _ s x1 x2 x3 x4 x5)
noncomputable def jX6_node_150 (back : mm_bt) (call : mm_ct) (s : mm_S) (v1 : Int32) (v2 : Int32) (v3 : Int32) (v4 : Int32) (vs0 : Int32) (vs1 : Int32) (vs2 : Int32) (vs3 : Int32) (vs4 : Int32) : am_R mm_S := (am_r2 back (gX6_node_150 call)).1 [some (.inl (.ref 0)), some (.inl (.int v1)), some (.inl (.int v2)), some (.inl (.int v3)), some (.inl (.int v4))] [.inl (.int vs0), .inl (.int vs1), .inl (.int vs2), .inl (.int vs3), .inl (.int vs4), .inl (.ref 0)] s
noncomputable def jX6_node_136 (back : mm_bt) (call : mm_ct) (s : mm_S) (v1 : Int32) (v2 : Int32) (v3 : Int32) (v4 : Int32) (vs0 : Int32) (vs1 : Int32) (vs2 : Int32) : am_R mm_S := (am_r2 back (gX6_node_136 call)).1 [some (.inl (.ref 0)), some (.inl (.int v1)), some (.inl (.int v2)), some (.inl (.int v3)), some (.inl (.int v4))] [.inl (.int vs0), .inl (.int vs1), .inl (.int vs2), .inl (.ref 0)] s
noncomputable def jX6_node_109 (back : mm_bt) (call : mm_ct) (s : mm_S) (v1 : Int32) (v2 : Int32) (v3 : Int32) (v4 : Int32) (vs0 : Int32) (vs1 : Int32) : am_R mm_S := (am_r2 back (gX6_node_109 call)).1 [some (.inl (.ref 0)), some (.inl (.int v1)), some (.inl (.int v2)), some (.inl (.int v3)), some (.inl (.int v4))] [.inl (.int vs0), .inl (.int vs1)] s
noncomputable def jX6_node_63 (back : mm_bt) (call : mm_ct) (s : mm_S) (v1 : Int32) (v2 : Int32) (v3 : Int32) (vs0 : Int32) : am_R mm_S := (am_r2 back (gX6_node_63 call)).1 [some (.inl (.ref 0)), some (.inl (.int v1)), some (.inl (.int v2)), some (.inl (.int v3)), none] [.inl (.int vs0)] s
noncomputable def jX6_node_62 (back : mm_bt) (call : mm_ct) (s : mm_S) (v1 : Int32) (v2 : Int32) (v3 : Int32) : am_R mm_S := (am_r2 back (gX6_node_62 call)).1 [some (.inl (.ref 0)), some (.inl (.int v1)), some (.inl (.int v2)), some (.inl (.int v3)), none] [] s
noncomputable def jX6_node_58 (back : mm_bt) (call : mm_ct) (s : mm_S) (v1 : Int32) (v2 : Int32) (v3 : Int32) : am_R mm_S := (am_r2 back (gX6_node_58 call)).1 [some (.inl (.ref 0)), some (.inl (.int v1)), some (.inl (.int v2)), some (.inl (.int v3)), none] [] s
noncomputable def jX6_node_58_43 (back : mm_bt) (call : mm_ct) (s : mm_S) (v1 : Int32) (v2 : Int32) (v3 : Int32) : am_R mm_S := (am_r2 back (gX6_node_43 call)).2 58 [some (.inl (.ref 0)), some (.inl (.int v1)), some (.inl (.int v2)), some (.inl (.int v3)), none] [] s
theorem jX6_node_58_43_eq (back : mm_bt) (call : mm_ct) (s : mm_S) (v1 : Int32) (v2 : Int32) (v3 : Int32) : jX6_node_58_43 back call s v1 v2 v3 = jX6_node_58 back call s v1 v2 v3 := rfl
noncomputable def jX6_node_58_50 (back : mm_bt) (call : mm_ct) (s : mm_S) (v1 : Int32) (v2 : Int32) (v3 : Int32) : am_R mm_S := (am_r2 back (gX6_node_50 call)).2 58 [some (.inl (.ref 0)), some (.inl (.int v1)), some (.inl (.int v2)), some (.inl (.int v3)), none] [] s
theorem jX6_node_58_50_eq (back : mm_bt) (call : mm_ct) (s : mm_S) (v1 : Int32) (v2 : Int32) (v3 : Int32) : jX6_node_58_50 back call s v1 v2 v3 = jX6_node_58 back call s v1 v2 v3 := rfl
noncomputable def jX6_node_62_14 (back : mm_bt) (call : mm_ct) (s : mm_S) (v1 : Int32) (v2 : Int32) (v3 : Int32) : am_R mm_S := (am_r2 back (gX6_node_14 call)).2 62 [some (.inl (.ref 0)), some (.inl (.int v1)), some (.inl (.int v2)), some (.inl (.int v3)), none] [] s
theorem jX6_node_62_14_eq (back : mm_bt) (call : mm_ct) (s : mm_S) (v1 : Int32) (v2 : Int32) (v3 : Int32) : jX6_node_62_14 back call s v1 v2 v3 = jX6_node_62 back call s v1 v2 v3 := rfl
noncomputable def jX6_node_62_22 (back : mm_bt) (call : mm_ct) (s : mm_S) (v1 : Int32) (v2 : Int32) (v3 : Int32) : am_R mm_S := (am_r2 back (gX6_node_22 call)).2 62 [some (.inl (.ref 0)), some (.inl (.int v1)), some (.inl (.int v2)), some (.inl (.int v3)), none] [] s
theorem jX6_node_62_22_eq (back : mm_bt) (call : mm_ct) (s : mm_S) (v1 : Int32) (v2 : Int32) (v3 : Int32) : jX6_node_62_22 back call s v1 v2 v3 = jX6_node_62 back call s v1 v2 v3 := rfl
noncomputable def jX6_node_62_40 (back : mm_bt) (call : mm_ct) (s : mm_S) (v1 : Int32) (v2 : Int32) (v3 : Int32) : am_R mm_S := (am_r2 back (gX6_node_40 call)).2 62 [some (.inl (.ref 0)), some (.inl (.int v1)), some (.inl (.int v2)), some (.inl (.int v3)), none] [] s
theorem jX6_node_62_40_eq (back : mm_bt) (call : mm_ct) (s : mm_S) (v1 : Int32) (v2 : Int32) (v3 : Int32) : jX6_node_62_40 back call s v1 v2 v3 = jX6_node_62 back call s v1 v2 v3 := rfl
noncomputable def jX6_node_62_58 (back : mm_bt) (call : mm_ct) (s : mm_S) (v1 : Int32) (v2 : Int32) (v3 : Int32) : am_R mm_S := (am_r2 back (gX6_node_58 call)).2 62 [some (.inl (.ref 0)), some (.inl (.int v1)), some (.inl (.int v2)), some (.inl (.int v3)), none] [] s
theorem jX6_node_62_58_eq (back : mm_bt) (call : mm_ct) (s : mm_S) (v1 : Int32) (v2 : Int32) (v3 : Int32) : jX6_node_62_58 back call s v1 v2 v3 = jX6_node_62 back call s v1 v2 v3 := rfl
noncomputable def jX6_node_63_62 (back : mm_bt) (call : mm_ct) (s : mm_S) (v1 : Int32) (v2 : Int32) (v3 : Int32) (vs0 : Int32) : am_R mm_S := (am_r2 back (gX6_node_62 call)).2 63 [some (.inl (.ref 0)), some (.inl (.int v1)), some (.inl (.int v2)), some (.inl (.int v3)), none] [.inl (.int vs0)] s
theorem jX6_node_63_62_eq (back : mm_bt) (call : mm_ct) (s : mm_S) (v1 : Int32) (v2 : Int32) (v3 : Int32) (vs0 : Int32) : jX6_node_63_62 back call s v1 v2 v3 vs0 = jX6_node_63 back call s v1 v2 v3 vs0 := rfl
noncomputable def jX6_node_109_108 (back : mm_bt) (call : mm_ct) (s : mm_S) (v1 : Int32) (v2 : Int32) (v3 : Int32) (v4 : Int32) (vs0 : Int32) (vs1 : Int32) : am_R mm_S := (am_r2 back (gX6_node_108 call)).2 109 [some (.inl (.ref 0)), some (.inl (.int v1)), some (.inl (.int v2)), some (.inl (.int v3)), some (.inl (.int v4))] [.inl (.int vs0), .inl (.int vs1)] s
theorem jX6_node_109_108_eq (back : mm_bt) (call : mm_ct) (s : mm_S) (v1 : Int32) (v2 : Int32) (v3 : Int32) (v4 : Int32) (vs0 : Int32) (vs1 : Int32) : jX6_node_109_108 back call s v1 v2 v3 v4 vs0 vs1 = jX6_node_109 back call s v1 v2 v3 v4 vs0 vs1 := rfl
noncomputable def jX6_node_136_134 (back : mm_bt) (call : mm_ct) (s : mm_S) (v1 : Int32) (v2 : Int32) (v3 : Int32) (v4 : Int32) (vs0 : Int32) (vs1 : Int32) (vs2 : Int32) : am_R mm_S := (am_r2 back (gX6_node_134 call)).2 136 [some (.inl (.ref 0)), some (.inl (.int v1)), some (.inl (.int v2)), some (.inl (.int v3)), some (.inl (.int v4))] [.inl (.int vs0), .inl (.int vs1), .inl (.int vs2), .inl (.ref 0)] s
theorem jX6_node_136_134_eq (back : mm_bt) (call : mm_ct) (s : mm_S) (v1 : Int32) (v2 : Int32) (v3 : Int32) (v4 : Int32) (vs0 : Int32) (vs1 : Int32) (vs2 : Int32) : jX6_node_136_134 back call s v1 v2 v3 v4 vs0 vs1 vs2 = jX6_node_136 back call s v1 v2 v3 v4 vs0 vs1 vs2 := rfl
noncomputable def jX6_node_150_148 (back : mm_bt) (call : mm_ct) (s : mm_S) (v1 : Int32) (v2 : Int32) (v3 : Int32) (v4 : Int32) (vs0 : Int32) (vs1 : Int32) (vs2 : Int32) (vs3 : Int32) (vs4 : Int32) : am_R mm_S := (am_r2 back (gX6_node_148 call)).2 150 [some (.inl (.ref 0)), some (.inl (.int v1)), some (.inl (.int v2)), some (.inl (.int v3)), some (.inl (.int v4))] [.inl (.int vs0), .inl (.int vs1), .inl (.int vs2), .inl (.int vs3), .inl (.int vs4), .inl (.ref 0)] s
theorem jX6_node_150_148_eq (back : mm_bt) (call : mm_ct) (s : mm_S) (v1 : Int32) (v2 : Int32) (v3 : Int32) (v4 : Int32) (vs0 : Int32) (vs1 : Int32) (vs2 : Int32) (vs3 : Int32) (vs4 : Int32) : jX6_node_150_148 back call s v1 v2 v3 v4 vs0 vs1 vs2 vs3 vs4 = jX6_node_150 back call s v1 v2 v3 v4 vs0 vs1 vs2 vs3 vs4 := rfl
theorem jX6_node_150_eq (back : mm_bt) (call : mm_ct) (s : mm_S) (v1 : Int32) (v2 : Int32) (v3 : Int32) (v4 : Int32) (vs0 : Int32) (vs1 : Int32) (vs2 : Int32) (vs3 : Int32) (vs4 : Int32) : jX6_node_150 back call s v1 v2 v3 v4 vs0 vs1 vs2 vs3 vs4 =
  am_cv (call 4 [.inl (.ref 0), .inl (.int vs4), .inl (.int vs3), .inl (.int vs2), .inl (.int vs1), .inl (.int vs0)] s) am_tx fun s18 =>
  some (.inl (some (.inl (.int (((mm_p s18 0 ((s18.1 0) + (ic 1))).1 0) - (ic 1))))), (mm_p s18 0 ((s18.1 0) + (ic 1)))) := rfl
theorem jX6_node_136_eq (back : mm_bt) (call : mm_ct) (s : mm_S) (v1 : Int32) (v2 : Int32) (v3 : Int32) (v4 : Int32) (vs0 : Int32) (vs1 : Int32) (vs2 : Int32) : jX6_node_136 back call s v1 v2 v3 v4 vs0 vs1 vs2 =
  am_ci (call 7 [.inl (.int v1)] s) am_tx fun r20 s19 =>
  if r20 = 0 then
    jX6_node_150 back call s19 v1 v2 v3 v4 (ic (-2)) v2 vs0 vs1 vs2
  else
    jX6_node_150_148 back call s19 v1 v2 v3 v4 v3 v2 vs0 vs1 vs2 := rfl
theorem jX6_node_109_eq (back : mm_bt) (call : mm_ct) (s : mm_S) (v1 : Int32) (v2 : Int32) (v3 : Int32) (v4 : Int32) (vs0 : Int32) (vs1 : Int32) : jX6_node_109 back call s v1 v2 v3 v4 vs0 vs1 =
  if (vs1 + vs0) ≤ (ic 40) then
    if v1 = (ic 9) then
      jX6_node_136_134 back call s v1 v2 v3 v4 v3 v1 (s.1 0)
    else
      jX6_node_136 back call s v1 v2 v3 v4 (ic (-2)) v1 (s.1 0)
  else
    some (.inl (some (.inl (.int (ic (-3))))), s) := rfl
theorem jX6_node_63_eq (back : mm_bt) (call : mm_ct) (s : mm_S) (v1 : Int32) (v2 : Int32) (v3 : Int32) (vs0 : Int32) : jX6_node_63 back call s v1 v2 v3 vs0 =
  if vs0 = 0 then
    some (.inl (some (.inl (.int (ic (-1))))), s)
  else
    if (s.1 0) = (ic 120) then
      some (.inl (some (.inl (.int (ic (-2))))), s)
    else
      am_ix v2 450 fun j21 =>
      am_ci (call 7 [.inl (.int v1)] s) am_tx fun r23 s22 =>
      if r23 = 0 then
        jX6_node_109 back call s22 v1 v2 v3 vs0 (ic 0) ((ic 1) + (s.2.1 5 j21))
      else
        am_ix v3 450 fun j24 =>
        jX6_node_109_108 back call s22 v1 v2 v3 vs0 (s22.2.1 5 j24) ((ic 1) + (s.2.1 5 j21)) := rfl
theorem jX6_node_62_eq (back : mm_bt) (call : mm_ct) (s : mm_S) (v1 : Int32) (v2 : Int32) (v3 : Int32) : jX6_node_62 back call s v1 v2 v3 =
  jX6_node_63 back call s v1 v2 v3 (ic 0) := rfl
theorem jX6_node_58_eq (back : mm_bt) (call : mm_ct) (s : mm_S) (v1 : Int32) (v2 : Int32) (v3 : Int32) : jX6_node_58 back call s v1 v2 v3 =
  jX6_node_63_62 back call s v1 v2 v3 (ic 1) := rfl
noncomputable def dX6_node (back : mm_bt) (call : mm_ct) (s : mm_S) (x1 : Int32) (x2 : Int32) (x3 : Int32) : am_R mm_S :=
  am_ci (call 3 [.inl (.long x1.toInt64), .inl (.long 2), .inl (.long 9)] s) am_tx fun r26 s25 =>
  if r26 = 0 then
    jX6_node_62_14 back call s25 x1 x2 x3
  else
    am_ci (call 6 [.inl (.ref 0), .inl (.int x2)] s25) am_tx fun r28 s27 =>
    if r28 = 0 then
      jX6_node_62_22 back call s27 x1 x2 x3
    else
      if x1 = (ic 9) then
        am_ci (call 3 [.inl (.long x3.toInt64), .inl (.long (lN 0)), .inl (.long 9)] s27) am_tx fun r34 s33 =>
        if r34 = 0 then
          jX6_node_62_40 back call s33 x1 x2 x3
        else
          jX6_node_58_43 back call s33 x1 x2 x3
      else
        am_ci (call 7 [.inl (.int x1)] s27) am_tx fun r30 s29 =>
        if r30 = 0 then
          jX6_node_58_50 back call s29 x1 x2 x3
        else
          am_ci (call 6 [.inl (.ref 0), .inl (.int x3)] s29) am_tx fun r32 s31 =>
          if r32 = 0 then
            jX6_node_62_58 back call s31 x1 x2 x3
          else
            jX6_node_58 back call s31 x1 x2 x3
theorem dX6_node_rs (back : mm_bt) (call : mm_ct) (s : mm_S) (x1 : Int32) (x2 : Int32) (x3 : Int32) : (am_r2 back (gX6_node call)).1 [some (.inl (.ref 0)), some (.inl (.int x1)), some (.inl (.int x2)), some (.inl (.int x3)), none] [] s = dX6_node back call s x1 x2 x3 := rfl
theorem dX6_node_eq (N f : Nat) (s : mm_S) (x1 : Int32) (x2 : Int32) (x3 : Int32) : mm_call N (f + 1) 5 [.inl (.ref 0), .inl (.int x1), .inl (.int x2), .inl (.int x3)] s = dX6_node (am_bk (mm_hop (mm_call N f)) am_no (some .int) kX6_node N) (mm_call N f) s x1 x2 x3 := (mm_call_of (mt := 5) (nL := 5) (rt := (some .int)) (code := kX6_node) rfl rfl rfl rfl gX6_node_ok ⟨_, _, _, _, rfl⟩).trans (dX6_node_rs _ _ s x1 x2 x3)
noncomputable def dX6_isNode (back : mm_bt) (call : mm_ct) (s : mm_S) (x1 : Int32) : am_R mm_S :=
  am_ci (call 3 [.inl (.long x1.toInt64), .inl (.long (lN 0)), .inl (.long ((s.1 0) - (ic 1)).toInt64)] s) am_tx fun r4 s3 =>
  some (.inl (some (.inl (.int (r4 &&& 1)))), s3)
theorem dX6_isNode_rs (back : mm_bt) (call : mm_ct) (s : mm_S) (x1 : Int32) : (am_r2 back (gX6_isNode call)).1 [some (.inl (.ref 0)), some (.inl (.int x1))] [] s = dX6_isNode back call s x1 := rfl
theorem dX6_isNode_eq (N f : Nat) (s : mm_S) (x1 : Int32) : mm_call N (f + 1) 6 [.inl (.ref 0), .inl (.int x1)] s = dX6_isNode (am_bk (mm_hop (mm_call N f)) am_no (some .boolean) kX6_isNode N) (mm_call N f) s x1 := (mm_call_of (mt := 6) (nL := 2) (rt := (some .boolean)) (code := kX6_isNode) rfl rfl rfl rfl gX6_isNode_ok ⟨_, _, _, _, rfl⟩).trans (dX6_isNode_rs _ _ s x1)
noncomputable def dX6_isTwo (back : mm_bt) (call : mm_ct) (s : mm_S) (x1 : Int32) : am_R mm_S :=
  if x1 < (ic 2) then
    some (.inl (some (.inl (.int ((ic 0) &&& 1)))), s)
  else
    if (ic 6) < x1 then
      some (.inl (some (.inl (.int ((ic 0) &&& 1)))), s)
    else
      some (.inl (some (.inl (.int ((ic 1) &&& 1)))), s)
theorem dX6_isTwo_rs (back : mm_bt) (call : mm_ct) (s : mm_S) (x1 : Int32) : (am_r2 back (gX6_isTwo call)).1 [some (.inl (.int x1))] [] s = dX6_isTwo back call s x1 := rfl
theorem dX6_isTwo_eq (N f : Nat) (s : mm_S) (x1 : Int32) : mm_call N (f + 1) 7 [.inl (.int x1)] s = dX6_isTwo (am_bk (mm_hop (mm_call N f)) am_no (some .boolean) kX6_isTwo N) (mm_call N f) s x1 := (mm_call_of (mt := 7) (nL := 1) (rt := (some .boolean)) (code := kX6_isTwo) rfl rfl rfl rfl gX6_isTwo_ok ⟨_, _, _, _, rfl⟩).trans (dX6_isTwo_rs _ _ s x1)
noncomputable def jX6_undo_34 (back : mm_bt) (call : mm_ct) (s : mm_S)  : am_R mm_S := (am_r2 back (gX6_undo_34 call)).1 [some (.inl (.ref 0))] [] s
noncomputable def jX6_undo_34_16 (back : mm_bt) (call : mm_ct) (s : mm_S)  : am_R mm_S := (am_r2 back (gX6_undo_16 call)).2 34 [some (.inl (.ref 0))] [] s
theorem jX6_undo_34_16_eq (back : mm_bt) (call : mm_ct) (s : mm_S)  : jX6_undo_34_16 back call s  = jX6_undo_34 back call s  := rfl
noncomputable def jX6_undo_34_31 (back : mm_bt) (call : mm_ct) (s : mm_S)  : am_R mm_S := (am_r2 back (gX6_undo_31 call)).2 34 [some (.inl (.ref 0))] [] s
theorem jX6_undo_34_31_eq (back : mm_bt) (call : mm_ct) (s : mm_S)  : jX6_undo_34_31 back call s  = jX6_undo_34 back call s  := rfl
theorem jX6_undo_34_eq (back : mm_bt) (call : mm_ct) (s : mm_S)  : jX6_undo_34 back call s  =
  some (.inl (some (.inl (.int ((mm_p s 0 ((s.1 0) - (ic 1))).1 0)))), (mm_p s 0 ((s.1 0) - (ic 1)))) := rfl
noncomputable def dX6_undo (back : mm_bt) (call : mm_ct) (s : mm_S)  : am_R mm_S :=
  if (s.1 0) = 0 then
    some (.inl (some (.inl (.int (ic (-1))))), s)
  else
    if (s.1 30) = 0 then
      jX6_undo_34_16 back call s
    else
      am_ix (ic 0) 41 fun j2 =>
      if (s.2.1 31 j2) = ((s.1 0) - (ic 1)) then
        some (.inl (some (.inl (.int (ic (-3))))), s)
      else
        jX6_undo_34_31 back call s
theorem dX6_undo_rs (back : mm_bt) (call : mm_ct) (s : mm_S)  : (am_r2 back (gX6_undo call)).1 [some (.inl (.ref 0))] [] s = dX6_undo back call s  := rfl
theorem dX6_undo_eq (N f : Nat) (s : mm_S)  : mm_call N (f + 1) 8 [.inl (.ref 0)] s = dX6_undo (am_bk (mm_hop (mm_call N f)) am_no (some .int) kX6_undo N) (mm_call N f) s  := (mm_call_of (mt := 8) (nL := 1) (rt := (some .int)) (code := kX6_undo) rfl rfl rfl rfl gX6_undo_ok ⟨_, _, _, _, rfl⟩).trans (dX6_undo_rs _ _ s )
noncomputable def jX6_means_29 (back : mm_bt) (call : mm_ct) (s : mm_S) (v1 : Int32) (v2 : Int32) (vs0 : Int32) : am_R mm_S := (am_r2 back (gX6_means_29 call)).1 [some (.inl (.ref 0)), some (.inl (.int v1)), some (.inl (.int v2)), none] [.inl (.int vs0)] s
noncomputable def jX6_means_29_28 (back : mm_bt) (call : mm_ct) (s : mm_S) (v1 : Int32) (v2 : Int32) (vs0 : Int32) : am_R mm_S := (am_r2 back (gX6_means_28 call)).2 29 [some (.inl (.ref 0)), some (.inl (.int v1)), some (.inl (.int v2)), none] [.inl (.int vs0)] s
theorem jX6_means_29_28_eq (back : mm_bt) (call : mm_ct) (s : mm_S) (v1 : Int32) (v2 : Int32) (vs0 : Int32) : jX6_means_29_28 back call s v1 v2 vs0 = jX6_means_29 back call s v1 v2 vs0 := rfl
theorem jX6_means_29_eq (back : mm_bt) (call : mm_ct) (s : mm_S) (v1 : Int32) (v2 : Int32) (vs0 : Int32) : jX6_means_29 back call s v1 v2 vs0 =
  am_ix v1 10 fun j5 =>
  some (.inl (some (.inl (.int vs0))), (mm_pa s 7 j5 (v2 &&& 1))) := rfl
noncomputable def dX6_means (back : mm_bt) (call : mm_ct) (s : mm_S) (x1 : Int32) (x2 : Int32) : am_R mm_S :=
  am_ci (call 3 [.inl (.long x1.toInt64), .inl (.long (lN 0)), .inl (.long 9)] s) am_tx fun r7 s6 =>
  if r7 = 0 then
    some (.inl (some (.inl (.int (ic (-1))))), s6)
  else
    am_ix x1 10 fun j8 =>
    if (s6.2.1 7 j8) = x2 then
      jX6_means_29 back call s6 x1 x2 (ic 0)
    else
      jX6_means_29_28 back call s6 x1 x2 (ic 1)
theorem dX6_means_rs (back : mm_bt) (call : mm_ct) (s : mm_S) (x1 : Int32) (x2 : Int32) : (am_r2 back (gX6_means call)).1 [some (.inl (.ref 0)), some (.inl (.int x1)), some (.inl (.int x2)), none] [] s = dX6_means back call s x1 x2 := rfl
theorem dX6_means_eq (N f : Nat) (s : mm_S) (x1 : Int32) (x2 : Int32) : mm_call N (f + 1) 9 [.inl (.ref 0), .inl (.int x1), .inl (.int x2)] s = dX6_means (am_bk (mm_hop (mm_call N f)) am_no (some .int) kX6_means N) (mm_call N f) s x1 x2 := (mm_call_of (mt := 9) (nL := 4) (rt := (some .int)) (code := kX6_means) rfl rfl rfl rfl gX6_means_ok ⟨_, _, _, _, rfl⟩).trans (dX6_means_rs _ _ s x1 x2)
noncomputable def dX6_look (back : mm_bt) (call : mm_ct) (s : mm_S) (x1 : Int32) (x2 : Int32) : am_R mm_S :=
  am_ci (call 6 [.inl (.ref 0), .inl (.int x1)] s) am_tx fun r14 s13 =>
  if r14 = 0 then
    some (.inl (some (.inl (.int (ic (-1))))), s13)
  else
    am_ci (call 3 [.inl (.long x2.toInt64), .inl (.long (lN 0)), .inl (.long 6)] s13) am_tx fun r16 s15 =>
    if r16 = 0 then
      some (.inl (some (.inl (.int (ic (-1))))), s15)
    else
      if x2 = nI 0 then
        am_ix x1 450 fun j24 =>
        some (.inl (some (.inl (.int (s15.2.1 1 j24)))), s15)
      else
      if x2 = nI 1 then
        am_ix x1 450 fun j23 =>
        some (.inl (some (.inl (.int (s15.2.1 2 j23)))), s15)
      else
      if x2 = nI 2 then
        am_ix x1 450 fun j22 =>
        some (.inl (some (.inl (.int (s15.2.1 3 j22)))), s15)
      else
      if x2 = nI 3 then
        am_ix x1 450 fun j21 =>
        some (.inl (some (.inl (.int (s15.2.1 4 j21)))), s15)
      else
      if x2 = nI 4 then
        am_ix x1 450 fun j20 =>
        some (.inl (some (.inl (.int (s15.2.1 5 j20)))), s15)
      else
      if x2 = nI 5 then
        am_ix x1 450 fun j19 =>
        some (.inl (some (.inl (.int (s15.2.1 6 j19)))), s15)
      else
      am_ci (call 11 [.inl (.ref 0), .inl (.int x1)] s15) am_tx fun r18 s17 =>
      if r18 = 0 then
        some (.inl (some (.inl (.int (ic 0)))), s17)
      else
        some (.inl (some (.inl (.int (ic 1)))), s17)
theorem dX6_look_rs (back : mm_bt) (call : mm_ct) (s : mm_S) (x1 : Int32) (x2 : Int32) : (am_r2 back (gX6_look call)).1 [some (.inl (.ref 0)), some (.inl (.int x1)), some (.inl (.int x2))] [] s = dX6_look back call s x1 x2 := rfl
theorem dX6_look_eq (N f : Nat) (s : mm_S) (x1 : Int32) (x2 : Int32) : mm_call N (f + 1) 10 [.inl (.ref 0), .inl (.int x1), .inl (.int x2)] s = dX6_look (am_bk (mm_hop (mm_call N f)) am_no (some .int) kX6_look N) (mm_call N f) s x1 x2 := (mm_call_of (mt := 10) (nL := 3) (rt := (some .int)) (code := kX6_look) rfl rfl rfl rfl gX6_look_ok ⟨_, _, _, _, rfl⟩).trans (dX6_look_rs _ _ s x1 x2)
noncomputable def jX6_isRight_67 (back : mm_bt) (call : mm_ct) (s : mm_S) (v1 : Int32) (vs0 : Int32) : am_R mm_S := (am_r2 back (gX6_isRight_67 call)).1 [some (.inl (.ref 0)), some (.inl (.int v1)), none] [.inl (.int vs0)] s
noncomputable def jX6_isRight_62 (back : mm_bt) (call : mm_ct) (s : mm_S) (v1 : Int32) : am_R mm_S := (am_r2 back (gX6_isRight_62 call)).1 [some (.inl (.ref 0)), some (.inl (.int v1)), none] [] s
noncomputable def jX6_isRight_62_48 (back : mm_bt) (call : mm_ct) (s : mm_S) (v1 : Int32) : am_R mm_S := (am_r2 back (gX6_isRight_48 call)).2 62 [some (.inl (.ref 0)), some (.inl (.int v1)), none] [] s
theorem jX6_isRight_62_48_eq (back : mm_bt) (call : mm_ct) (s : mm_S) (v1 : Int32) : jX6_isRight_62_48 back call s v1 = jX6_isRight_62 back call s v1 := rfl
noncomputable def jX6_isRight_67_33 (back : mm_bt) (call : mm_ct) (s : mm_S) (v1 : Int32) (vs0 : Int32) : am_R mm_S := (am_r2 back (gX6_isRight_33 call)).2 67 [some (.inl (.ref 0)), some (.inl (.int v1)), none] [.inl (.int vs0)] s
theorem jX6_isRight_67_33_eq (back : mm_bt) (call : mm_ct) (s : mm_S) (v1 : Int32) (vs0 : Int32) : jX6_isRight_67_33 back call s v1 vs0 = jX6_isRight_67 back call s v1 vs0 := rfl
noncomputable def jX6_isRight_67_37 (back : mm_bt) (call : mm_ct) (s : mm_S) (v1 : Int32) (vs0 : Int32) : am_R mm_S := (am_r2 back (gX6_isRight_37 call)).2 67 [some (.inl (.ref 0)), some (.inl (.int v1)), none] [.inl (.int vs0)] s
theorem jX6_isRight_67_37_eq (back : mm_bt) (call : mm_ct) (s : mm_S) (v1 : Int32) (vs0 : Int32) : jX6_isRight_67_37 back call s v1 vs0 = jX6_isRight_67 back call s v1 vs0 := rfl
noncomputable def jX6_isRight_67_66 (back : mm_bt) (call : mm_ct) (s : mm_S) (v1 : Int32) (vs0 : Int32) : am_R mm_S := (am_r2 back (gX6_isRight_66 call)).2 67 [some (.inl (.ref 0)), some (.inl (.int v1)), none] [.inl (.int vs0)] s
theorem jX6_isRight_67_66_eq (back : mm_bt) (call : mm_ct) (s : mm_S) (v1 : Int32) (vs0 : Int32) : jX6_isRight_67_66 back call s v1 vs0 = jX6_isRight_67 back call s v1 vs0 := rfl
theorem jX6_isRight_67_eq (back : mm_bt) (call : mm_ct) (s : mm_S) (v1 : Int32) (vs0 : Int32) : jX6_isRight_67 back call s v1 vs0 =
  if vs0 = 0 then
    some (.inl (some (.inl (.int ((ic 0) &&& 1)))), s)
  else
    am_ix v1 450 fun j13 =>
    am_ci (call 11 [.inl (.ref 0), .inl (.int (s.2.1 3 j13))] s) am_tx fun r15 s14 =>
    if r15 = 0 then
      some (.inl (some (.inl (.int ((ic 0) &&& 1)))), s14)
    else
      am_ix v1 450 fun j16 =>
      am_ci (call 11 [.inl (.ref 0), .inl (.int (s14.2.1 4 j16))] s14) am_tx fun r18 s17 =>
      if r18 = 0 then
        some (.inl (some (.inl (.int ((ic 0) &&& 1)))), s17)
      else
        some (.inl (some (.inl (.int ((ic 1) &&& 1)))), s17) := rfl
theorem jX6_isRight_62_eq (back : mm_bt) (call : mm_ct) (s : mm_S) (v1 : Int32) : jX6_isRight_62 back call s v1 =
  jX6_isRight_67_66 back call s v1 (ic 1) := rfl
noncomputable def dX6_isRight (back : mm_bt) (call : mm_ct) (s : mm_S) (x1 : Int32) : am_R mm_S :=
  if 0 ≤ x1 then
    am_ix x1 450 fun j19 =>
    if (s.2.1 1 j19) = 0 then
      am_ix x1 450 fun j23 =>
      am_ix (s.2.1 2 j23) 10 fun j24 =>
      if (s.2.1 7 j24) = 0 then
        jX6_isRight_67_33 back call s x1 (ic 1)
      else
        jX6_isRight_67_37 back call s x1 (ic 0)
    else
      am_ix x1 450 fun j20 =>
      if (s.2.1 1 j20) = (ic 9) then
        am_ix x1 450 fun j21 =>
        am_ix (s.2.1 2 j21) 10 fun j22 =>
        if (s.2.1 7 j22) = 0 then
          jX6_isRight_67 back call s x1 (ic 0)
        else
          jX6_isRight_62 back call s x1
      else
        jX6_isRight_62_48 back call s x1
  else
    some (.inl (some (.inl (.int ((ic 1) &&& 1)))), s)
theorem dX6_isRight_rs (back : mm_bt) (call : mm_ct) (s : mm_S) (x1 : Int32) : (am_r2 back (gX6_isRight call)).1 [some (.inl (.ref 0)), some (.inl (.int x1)), none] [] s = dX6_isRight back call s x1 := rfl
theorem dX6_isRight_eq (N f : Nat) (s : mm_S) (x1 : Int32) : mm_call N (f + 1) 11 [.inl (.ref 0), .inl (.int x1)] s = dX6_isRight (am_bk (mm_hop (mm_call N f)) am_no (some .boolean) kX6_isRight N) (mm_call N f) s x1 := (mm_call_of (mt := 11) (nL := 3) (rt := (some .boolean)) (code := kX6_isRight) rfl rfl rfl rfl gX6_isRight_ok ⟨_, _, _, _, rfl⟩).trans (dX6_isRight_rs _ _ s x1)
noncomputable def dX6_alike (back : mm_bt) (call : mm_ct) (s : mm_S) (x1 : Int32) (x2 : Int32) : am_R mm_S :=
  am_ci (call 6 [.inl (.ref 0), .inl (.int x1)] s) am_tx fun r8 s7 =>
  if r8 = 0 then
    some (.inl (some (.inl (.int (ic (-1))))), s7)
  else
    am_ci (call 6 [.inl (.ref 0), .inl (.int x2)] s7) am_tx fun r10 s9 =>
    if r10 = 0 then
      some (.inl (some (.inl (.int (ic (-1))))), s9)
    else
      am_ci (call 13 [.inl (.ref 0), .inl (.int x1), .inl (.int x2)] s9) am_tx fun r12 s11 =>
      if r12 = 0 then
        some (.inl (some (.inl (.int (ic 0)))), s11)
      else
        some (.inl (some (.inl (.int (ic 1)))), s11)
theorem dX6_alike_rs (back : mm_bt) (call : mm_ct) (s : mm_S) (x1 : Int32) (x2 : Int32) : (am_r2 back (gX6_alike call)).1 [some (.inl (.ref 0)), some (.inl (.int x1)), some (.inl (.int x2))] [] s = dX6_alike back call s x1 x2 := rfl
theorem dX6_alike_eq (N f : Nat) (s : mm_S) (x1 : Int32) (x2 : Int32) : mm_call N (f + 1) 12 [.inl (.ref 0), .inl (.int x1), .inl (.int x2)] s = dX6_alike (am_bk (mm_hop (mm_call N f)) am_no (some .int) kX6_alike N) (mm_call N f) s x1 x2 := (mm_call_of (mt := 12) (nL := 3) (rt := (some .int)) (code := kX6_alike) rfl rfl rfl rfl gX6_alike_ok ⟨_, _, _, _, rfl⟩).trans (dX6_alike_rs _ _ s x1 x2)
noncomputable def jX6_areAlike_8 (back : mm_bt) (call : mm_ct) (s : mm_S) (v1 : Int32) (v2 : Int32) : am_R mm_S := (am_r2 back (gX6_areAlike_8 call)).1 [some (.inl (.ref 0)), some (.inl (.int v1)), some (.inl (.int v2))] [] s
noncomputable def jX6_areAlike_8_4 (back : mm_bt) (call : mm_ct) (s : mm_S) (v1 : Int32) (v2 : Int32) : am_R mm_S := (am_r2 back (gX6_areAlike_4 call)).2 8 [some (.inl (.ref 0)), some (.inl (.int v1)), some (.inl (.int v2))] [] s
theorem jX6_areAlike_8_4_eq (back : mm_bt) (call : mm_ct) (s : mm_S) (v1 : Int32) (v2 : Int32) : jX6_areAlike_8_4 back call s v1 v2 = jX6_areAlike_8 back call s v1 v2 := rfl
theorem jX6_areAlike_8_eq (back : mm_bt) (call : mm_ct) (s : mm_S) (v1 : Int32) (v2 : Int32) : jX6_areAlike_8 back call s v1 v2 =
  if 0 ≤ v1 then
    some (.inl (some (.inl (.int ((ic 0) &&& 1)))), s)
  else
    if 0 ≤ v2 then
      some (.inl (some (.inl (.int ((ic 0) &&& 1)))), s)
    else
      some (.inl (some (.inl (.int ((ic 1) &&& 1)))), s) := rfl
noncomputable def dX6_areAlike (back : mm_bt) (call : mm_ct) (s : mm_S) (x1 : Int32) (x2 : Int32) : am_R mm_S :=
  if x1 < 0 then
    jX6_areAlike_8_4 back call s x1 x2
  else
    if 0 ≤ x2 then
      am_ix x1 450 fun j15 =>
      am_ix x2 450 fun j16 =>
      if (s.2.1 1 j15) = (s.2.1 1 j16) then
        am_ix x1 450 fun j17 =>
        am_ix x2 450 fun j18 =>
        if (s.2.1 2 j17) = (s.2.1 2 j18) then
          am_ix x1 450 fun j19 =>
          am_ix x2 450 fun j20 =>
          if (s.2.1 5 j19) = (s.2.1 5 j20) then
            am_ix x1 450 fun j21 =>
            am_ix x2 450 fun j22 =>
            am_ci (call 13 [.inl (.ref 0), .inl (.int (s.2.1 3 j21)), .inl (.int (s.2.1 3 j22))] s) am_tx fun r24 s23 =>
            if r24 = 0 then
              some (.inl (some (.inl (.int ((ic 0) &&& 1)))), s23)
            else
              am_ix x1 450 fun j25 =>
              am_ix x2 450 fun j26 =>
              am_ci (call 13 [.inl (.ref 0), .inl (.int (s23.2.1 4 j25)), .inl (.int (s23.2.1 4 j26))] s23) am_tx fun r28 s27 =>
              if r28 = 0 then
                some (.inl (some (.inl (.int ((ic 0) &&& 1)))), s27)
              else
                some (.inl (some (.inl (.int ((ic 1) &&& 1)))), s27)
          else
            some (.inl (some (.inl (.int ((ic 0) &&& 1)))), s)
        else
          some (.inl (some (.inl (.int ((ic 0) &&& 1)))), s)
      else
        some (.inl (some (.inl (.int ((ic 0) &&& 1)))), s)
    else
      jX6_areAlike_8 back call s x1 x2
theorem dX6_areAlike_rs (back : mm_bt) (call : mm_ct) (s : mm_S) (x1 : Int32) (x2 : Int32) : (am_r2 back (gX6_areAlike call)).1 [some (.inl (.ref 0)), some (.inl (.int x1)), some (.inl (.int x2))] [] s = dX6_areAlike back call s x1 x2 := rfl
theorem dX6_areAlike_eq (N f : Nat) (s : mm_S) (x1 : Int32) (x2 : Int32) : mm_call N (f + 1) 13 [.inl (.ref 0), .inl (.int x1), .inl (.int x2)] s = dX6_areAlike (am_bk (mm_hop (mm_call N f)) am_no (some .boolean) kX6_areAlike N) (mm_call N f) s x1 x2 := (mm_call_of (mt := 13) (nL := 3) (rt := (some .boolean)) (code := kX6_areAlike) rfl rfl rfl rfl gX6_areAlike_ok ⟨_, _, _, _, rfl⟩).trans (dX6_areAlike_rs _ _ s x1 x2)
noncomputable def dX6_times (back : mm_bt) (call : mm_ct) (s : mm_S) (x1 : Int32) (x2 : Int32) : am_R mm_S :=
  am_ci (call 6 [.inl (.ref 0), .inl (.int x1)] s) am_tx fun r8 s7 =>
  if r8 = 0 then
    some (.inl (some (.inl (.int (ic (-1))))), s7)
  else
    am_ci (call 6 [.inl (.ref 0), .inl (.int x2)] s7) am_tx fun r10 s9 =>
    if r10 = 0 then
      some (.inl (some (.inl (.int (ic (-1))))), s9)
    else
      am_ci (call 15 [.inl (.ref 0), .inl (.int x1), .inl (.int x2)] s9) am_tx fun r12 s11 =>
      some (.inl (some (.inl (.int r12))), s11)
theorem dX6_times_rs (back : mm_bt) (call : mm_ct) (s : mm_S) (x1 : Int32) (x2 : Int32) : (am_r2 back (gX6_times call)).1 [some (.inl (.ref 0)), some (.inl (.int x1)), some (.inl (.int x2))] [] s = dX6_times back call s x1 x2 := rfl
theorem dX6_times_eq (N f : Nat) (s : mm_S) (x1 : Int32) (x2 : Int32) : mm_call N (f + 1) 14 [.inl (.ref 0), .inl (.int x1), .inl (.int x2)] s = dX6_times (am_bk (mm_hop (mm_call N f)) am_no (some .int) kX6_times N) (mm_call N f) s x1 x2 := (mm_call_of (mt := 14) (nL := 3) (rt := (some .int)) (code := kX6_times) rfl rfl rfl rfl gX6_times_ok ⟨_, _, _, _, rfl⟩).trans (dX6_times_rs _ _ s x1 x2)
noncomputable def jX6_has_20 (back : mm_bt) (call : mm_ct) (s : mm_S) (v1 : Int32) (v2 : Int32) (vs0 : Int32) : am_R mm_S := (am_r2 back (gX6_has_20 call)).1 [some (.inl (.ref 0)), some (.inl (.int v1)), some (.inl (.int v2))] [.inl (.int vs0)] s
noncomputable def jX6_has_20_19 (back : mm_bt) (call : mm_ct) (s : mm_S) (v1 : Int32) (v2 : Int32) (vs0 : Int32) : am_R mm_S := (am_r2 back (gX6_has_19 call)).2 20 [some (.inl (.ref 0)), some (.inl (.int v1)), some (.inl (.int v2))] [.inl (.int vs0)] s
theorem jX6_has_20_19_eq (back : mm_bt) (call : mm_ct) (s : mm_S) (v1 : Int32) (v2 : Int32) (vs0 : Int32) : jX6_has_20_19 back call s v1 v2 vs0 = jX6_has_20 back call s v1 v2 vs0 := rfl
theorem jX6_has_20_eq (back : mm_bt) (call : mm_ct) (s : mm_S) (v1 : Int32) (v2 : Int32) (vs0 : Int32) : jX6_has_20 back call s v1 v2 vs0 =
  am_ix v1 450 fun j9 =>
  am_ci (call 15 [.inl (.ref 0), .inl (.int (s.2.1 3 j9)), .inl (.int v2)] s) am_tx fun r11 s10 =>
  am_ix v1 450 fun j12 =>
  am_ci (call 15 [.inl (.ref 0), .inl (.int (s10.2.1 4 j12)), .inl (.int v2)] s10) am_tx fun r14 s13 =>
  some (.inl (some (.inl (.int ((vs0 + r11) + r14)))), s13) := rfl
noncomputable def dX6_has (back : mm_bt) (call : mm_ct) (s : mm_S) (x1 : Int32) (x2 : Int32) : am_R mm_S :=
  if 0 ≤ x1 then
    am_ci (call 13 [.inl (.ref 0), .inl (.int x1), .inl (.int x2)] s) am_tx fun r16 s15 =>
    if r16 = 0 then
      jX6_has_20 back call s15 x1 x2 (ic 0)
    else
      jX6_has_20_19 back call s15 x1 x2 (ic 1)
  else
    some (.inl (some (.inl (.int (ic 0)))), s)
theorem dX6_has_rs (back : mm_bt) (call : mm_ct) (s : mm_S) (x1 : Int32) (x2 : Int32) : (am_r2 back (gX6_has call)).1 [some (.inl (.ref 0)), some (.inl (.int x1)), some (.inl (.int x2))] [] s = dX6_has back call s x1 x2 := rfl
theorem dX6_has_eq (N f : Nat) (s : mm_S) (x1 : Int32) (x2 : Int32) : mm_call N (f + 1) 15 [.inl (.ref 0), .inl (.int x1), .inl (.int x2)] s = dX6_has (am_bk (mm_hop (mm_call N f)) am_no (some .int) kX6_has N) (mm_call N f) s x1 x2 := (mm_call_of (mt := 15) (nL := 3) (rt := (some .int)) (code := kX6_has) rfl rfl rfl rfl gX6_has_ok ⟨_, _, _, _, rfl⟩).trans (dX6_has_rs _ _ s x1 x2)
noncomputable def jX6_keeps_36 (back : mm_bt) (call : mm_ct) (s : mm_S) (v1 : Int32) (v2 : Int32) (v3 : Int32) (vs0 : Int32) : am_R mm_S := (am_r2 back (gX6_keeps_36 call)).1 [some (.inl (.ref 0)), some (.inl (.int v1)), some (.inl (.int v2)), some (.inl (.int v3)), none] [.inl (.int vs0)] s
noncomputable def jX6_keeps_36_35 (back : mm_bt) (call : mm_ct) (s : mm_S) (v1 : Int32) (v2 : Int32) (v3 : Int32) (vs0 : Int32) : am_R mm_S := (am_r2 back (gX6_keeps_35 call)).2 36 [some (.inl (.ref 0)), some (.inl (.int v1)), some (.inl (.int v2)), some (.inl (.int v3)), none] [.inl (.int vs0)] s
theorem jX6_keeps_36_35_eq (back : mm_bt) (call : mm_ct) (s : mm_S) (v1 : Int32) (v2 : Int32) (v3 : Int32) (vs0 : Int32) : jX6_keeps_36_35 back call s v1 v2 v3 vs0 = jX6_keeps_36 back call s v1 v2 v3 vs0 := rfl
theorem jX6_keeps_36_eq (back : mm_bt) (call : mm_ct) (s : mm_S) (v1 : Int32) (v2 : Int32) (v3 : Int32) (vs0 : Int32) : jX6_keeps_36 back call s v1 v2 v3 vs0 =
  am_ix (((ic 10) * v1) + v2) 90 fun j7 =>
  some (.inl (some (.inl (.int vs0))), (mm_pa s 8 j7 (v3 &&& 1))) := rfl
noncomputable def dX6_keeps (back : mm_bt) (call : mm_ct) (s : mm_S) (x1 : Int32) (x2 : Int32) (x3 : Int32) : am_R mm_S :=
  am_ci (call 17 [.inl (.int x1)] s) am_tx fun r9 s8 =>
  if r9 = 0 then
    some (.inl (some (.inl (.int (ic (-1))))), s8)
  else
    am_ci (call 18 [.inl (.int x2)] s8) am_tx fun r11 s10 =>
    if r11 = 0 then
      some (.inl (some (.inl (.int (ic (-1))))), s10)
    else
      am_ix (((ic 10) * x1) + x2) 90 fun j12 =>
      if (s10.2.1 8 j12) = x3 then
        jX6_keeps_36 back call s10 x1 x2 x3 (ic 0)
      else
        jX6_keeps_36_35 back call s10 x1 x2 x3 (ic 1)
theorem dX6_keeps_rs (back : mm_bt) (call : mm_ct) (s : mm_S) (x1 : Int32) (x2 : Int32) (x3 : Int32) : (am_r2 back (gX6_keeps call)).1 [some (.inl (.ref 0)), some (.inl (.int x1)), some (.inl (.int x2)), some (.inl (.int x3)), none] [] s = dX6_keeps back call s x1 x2 x3 := rfl
theorem dX6_keeps_eq (N f : Nat) (s : mm_S) (x1 : Int32) (x2 : Int32) (x3 : Int32) : mm_call N (f + 1) 16 [.inl (.ref 0), .inl (.int x1), .inl (.int x2), .inl (.int x3)] s = dX6_keeps (am_bk (mm_hop (mm_call N f)) am_no (some .int) kX6_keeps N) (mm_call N f) s x1 x2 x3 := (mm_call_of (mt := 16) (nL := 5) (rt := (some .int)) (code := kX6_keeps) rfl rfl rfl rfl gX6_keeps_ok ⟨_, _, _, _, rfl⟩).trans (dX6_keeps_rs _ _ s x1 x2 x3)
noncomputable def dX6_isStyle (back : mm_bt) (call : mm_ct) (s : mm_S) (x1 : Int32) : am_R mm_S :=
  am_ci (call 3 [.inl (.long x1.toInt64), .inl (.long (lN 0)), .inl (.long 7)] s) am_tx fun r4 s3 =>
  some (.inl (some (.inl (.int (r4 &&& 1)))), s3)
theorem dX6_isStyle_rs (back : mm_bt) (call : mm_ct) (s : mm_S) (x1 : Int32) : (am_r2 back (gX6_isStyle call)).1 [some (.inl (.int x1))] [] s = dX6_isStyle back call s x1 := rfl
theorem dX6_isStyle_eq (N f : Nat) (s : mm_S) (x1 : Int32) : mm_call N (f + 1) 17 [.inl (.int x1)] s = dX6_isStyle (am_bk (mm_hop (mm_call N f)) am_no (some .boolean) kX6_isStyle N) (mm_call N f) s x1 := (mm_call_of (mt := 17) (nL := 1) (rt := (some .boolean)) (code := kX6_isStyle) rfl rfl rfl rfl gX6_isStyle_ok ⟨_, _, _, _, rfl⟩).trans (dX6_isStyle_rs _ _ s x1)
noncomputable def dX6_mayKeep (back : mm_bt) (call : mm_ct) (s : mm_S) (x1 : Int32) : am_R mm_S :=
  if x1 < (ic 2) then
    some (.inl (some (.inl (.int ((ic 0) &&& 1)))), s)
  else
    if (ic 9) < x1 then
      some (.inl (some (.inl (.int ((ic 0) &&& 1)))), s)
    else
      if x1 = (ic 8) then
        some (.inl (some (.inl (.int ((ic 0) &&& 1)))), s)
      else
        some (.inl (some (.inl (.int ((ic 1) &&& 1)))), s)
theorem dX6_mayKeep_rs (back : mm_bt) (call : mm_ct) (s : mm_S) (x1 : Int32) : (am_r2 back (gX6_mayKeep call)).1 [some (.inl (.int x1))] [] s = dX6_mayKeep back call s x1 := rfl
theorem dX6_mayKeep_eq (N f : Nat) (s : mm_S) (x1 : Int32) : mm_call N (f + 1) 18 [.inl (.int x1)] s = dX6_mayKeep (am_bk (mm_hop (mm_call N f)) am_no (some .boolean) kX6_mayKeep N) (mm_call N f) s x1 := (mm_call_of (mt := 18) (nL := 1) (rt := (some .boolean)) (code := kX6_mayKeep) rfl rfl rfl rfl gX6_mayKeep_ok ⟨_, _, _, _, rfl⟩).trans (dX6_mayKeep_rs _ _ s x1)
noncomputable def dX6_words (back : mm_bt) (call : mm_ct) (s : mm_S) (x1 : Int32) (x2 : Int32) : am_R mm_S :=
  am_ci (call 17 [.inl (.int x1)] s) am_tx fun r8 s7 =>
  if r8 = 0 then
    some (.inl (some (.inl (.int (ic (-1))))), s7)
  else
    am_ci (call 6 [.inl (.ref 0), .inl (.int x2)] s7) am_tx fun r10 s9 =>
    if r10 = 0 then
      some (.inl (some (.inl (.int (ic (-1))))), s9)
    else
      am_ci (call 20 [.inl (.ref 0), .inl (.int x1), .inl (.int x2)] s9) am_tx fun r12 s11 =>
      if r12 ≤ (ic 80) then
        some (.inl (some (.inl (.int r12))), s11)
      else
        some (.inl (some (.inl (.int (ic (-5))))), s11)
theorem dX6_words_rs (back : mm_bt) (call : mm_ct) (s : mm_S) (x1 : Int32) (x2 : Int32) : (am_r2 back (gX6_words call)).1 [some (.inl (.ref 0)), some (.inl (.int x1)), some (.inl (.int x2)), none] [] s = dX6_words back call s x1 x2 := rfl
theorem dX6_words_eq (N f : Nat) (s : mm_S) (x1 : Int32) (x2 : Int32) : mm_call N (f + 1) 19 [.inl (.ref 0), .inl (.int x1), .inl (.int x2)] s = dX6_words (am_bk (mm_hop (mm_call N f)) am_no (some .int) kX6_words N) (mm_call N f) s x1 x2 := (mm_call_of (mt := 19) (nL := 4) (rt := (some .int)) (code := kX6_words) rfl rfl rfl rfl gX6_words_ok ⟨_, _, _, _, rfl⟩).trans (dX6_words_rs _ _ s x1 x2)
noncomputable def jX6_length_35 (back : mm_bt) (call : mm_ct) (s : mm_S) (v1 : Int32) (v2 : Int32) (vs0 : Int32) (vs1 : Int32) : am_R mm_S := (am_r2 back (gX6_length_35 call)).1 [some (.inl (.ref 0)), some (.inl (.int v1)), some (.inl (.int v2))] [.inl (.int vs0), .inl (.int vs1)] s
noncomputable def jX6_length_35_34 (back : mm_bt) (call : mm_ct) (s : mm_S) (v1 : Int32) (v2 : Int32) (vs0 : Int32) (vs1 : Int32) : am_R mm_S := (am_r2 back (gX6_length_34 call)).2 35 [some (.inl (.ref 0)), some (.inl (.int v1)), some (.inl (.int v2))] [.inl (.int vs0), .inl (.int vs1)] s
theorem jX6_length_35_34_eq (back : mm_bt) (call : mm_ct) (s : mm_S) (v1 : Int32) (v2 : Int32) (vs0 : Int32) (vs1 : Int32) : jX6_length_35_34 back call s v1 v2 vs0 vs1 = jX6_length_35 back call s v1 v2 vs0 vs1 := rfl
theorem jX6_length_35_eq (back : mm_bt) (call : mm_ct) (s : mm_S) (v1 : Int32) (v2 : Int32) (vs0 : Int32) (vs1 : Int32) : jX6_length_35 back call s v1 v2 vs0 vs1 =
  am_ix v2 450 fun j11 =>
  am_ci (call 20 [.inl (.ref 0), .inl (.int v1), .inl (.int (s.2.1 3 j11))] s) am_tx fun r13 s12 =>
  am_ix v2 450 fun j14 =>
  am_ci (call 20 [.inl (.ref 0), .inl (.int v1), .inl (.int (s12.2.1 4 j14))] s12) am_tx fun r16 s15 =>
  some (.inl (some (.inl (.int (((vs1 + vs0) + r13) + r16)))), s15) := rfl
noncomputable def dX6_length (back : mm_bt) (call : mm_ct) (s : mm_S) (x1 : Int32) (x2 : Int32) : am_R mm_S :=
  if 0 ≤ x2 then
    am_ci (call 21 [.inl (.ref 0), .inl (.int x2)] s) am_tx fun r18 s17 =>
    am_ix x2 450 fun j19 =>
    am_ix (((ic 10) * x1) + (s17.2.1 1 j19)) 90 fun j20 =>
    if (s17.2.1 8 j20) = 0 then
      jX6_length_35 back call s17 x1 x2 (ic 0) r18
    else
      jX6_length_35_34 back call s17 x1 x2 (ic 2) r18
  else
    some (.inl (some (.inl (.int (ic 0)))), s)
theorem dX6_length_rs (back : mm_bt) (call : mm_ct) (s : mm_S) (x1 : Int32) (x2 : Int32) : (am_r2 back (gX6_length call)).1 [some (.inl (.ref 0)), some (.inl (.int x1)), some (.inl (.int x2))] [] s = dX6_length back call s x1 x2 := rfl
theorem dX6_length_eq (N f : Nat) (s : mm_S) (x1 : Int32) (x2 : Int32) : mm_call N (f + 1) 20 [.inl (.ref 0), .inl (.int x1), .inl (.int x2)] s = dX6_length (am_bk (mm_hop (mm_call N f)) am_no (some .int) kX6_length N) (mm_call N f) s x1 x2 := (mm_call_of (mt := 20) (nL := 3) (rt := (some .int)) (code := kX6_length) rfl rfl rfl rfl gX6_length_ok ⟨_, _, _, _, rfl⟩).trans (dX6_length_rs _ _ s x1 x2)
noncomputable def dX6_own (back : mm_bt) (call : mm_ct) (s : mm_S) (x1 : Int32) : am_R mm_S :=
  am_ix x1 450 fun j7 =>
  if (s.2.1 1 j7) = (ic 1) then
    am_ix x1 450 fun j10 =>
    am_ci (call 22 [.inl (.int (s.2.1 2 j10))] s) am_tx fun r12 s11 =>
    some (.inl (some (.inl (.int r12))), s11)
  else
    am_ix x1 450 fun j8 =>
    if (s.2.1 1 j8) = (ic 8) then
      some (.inl (some (.inl (.int (ic 2)))), s)
    else
      am_ix x1 450 fun j9 =>
      if (s.2.1 1 j9) = (ic 9) then
        some (.inl (some (.inl (.int (ic 2)))), s)
      else
        some (.inl (some (.inl (.int (ic 1)))), s)
theorem dX6_own_rs (back : mm_bt) (call : mm_ct) (s : mm_S) (x1 : Int32) : (am_r2 back (gX6_own call)).1 [some (.inl (.ref 0)), some (.inl (.int x1))] [] s = dX6_own back call s x1 := rfl
theorem dX6_own_eq (N f : Nat) (s : mm_S) (x1 : Int32) : mm_call N (f + 1) 21 [.inl (.ref 0), .inl (.int x1)] s = dX6_own (am_bk (mm_hop (mm_call N f)) am_no (some .int) kX6_own N) (mm_call N f) s x1 := (mm_call_of (mt := 21) (nL := 2) (rt := (some .int)) (code := kX6_own) rfl rfl rfl rfl gX6_own_ok ⟨_, _, _, _, rfl⟩).trans (dX6_own_rs _ _ s x1)
noncomputable def dX6_digits (back : mm_bt) (call : mm_ct) (s : mm_S) (x1 : Int32) : am_R mm_S :=
  if (ic 10) ≤ x1 then
    if (ic 100) ≤ x1 then
      if (ic 1000) ≤ x1 then
        some (.inl (some (.inl (.int (ic 4)))), s)
      else
        some (.inl (some (.inl (.int (ic 3)))), s)
    else
      some (.inl (some (.inl (.int (ic 2)))), s)
  else
    some (.inl (some (.inl (.int (ic 1)))), s)
theorem dX6_digits_rs (back : mm_bt) (call : mm_ct) (s : mm_S) (x1 : Int32) : (am_r2 back (gX6_digits call)).1 [some (.inl (.int x1))] [] s = dX6_digits back call s x1 := rfl
theorem dX6_digits_eq (N f : Nat) (s : mm_S) (x1 : Int32) : mm_call N (f + 1) 22 [.inl (.int x1)] s = dX6_digits (am_bk (mm_hop (mm_call N f)) am_no (some .int) kX6_digits N) (mm_call N f) s x1 := (mm_call_of (mt := 22) (nL := 1) (rt := (some .int)) (code := kX6_digits) rfl rfl rfl rfl gX6_digits_ok ⟨_, _, _, _, rfl⟩).trans (dX6_digits_rs _ _ s x1)
noncomputable def dX6_word (back : mm_bt) (call : mm_ct) (s : mm_S) (x1 : Int32) (x2 : Int32) (x3 : Int32) : am_R mm_S :=
  am_ci (call 17 [.inl (.int x1)] s) am_tx fun r10 s9 =>
  if r10 = 0 then
    some (.inl (some (.inl (.int (ic (-1))))), s9)
  else
    am_ci (call 6 [.inl (.ref 0), .inl (.int x2)] s9) am_tx fun r12 s11 =>
    if r12 = 0 then
      some (.inl (some (.inl (.int (ic (-1))))), s11)
    else
      if 0 ≤ x3 then
        am_ci (call 20 [.inl (.ref 0), .inl (.int x1), .inl (.int x2)] s11) am_tx fun r14 s13 =>
        if r14 ≤ (ic 80) then
          if x3 < r14 then
            am_cv (call 24 [.inl (.ref 0), .inl (.int x1), .inl (.int x2)] s13) am_tx fun s15 =>
            am_ix x3 256 fun j16 =>
            some (.inl (some (.inl (.int (s15.2.1 17 j16)))), s15)
          else
            some (.inl (some (.inl (.int (ic (-2))))), s13)
        else
          some (.inl (some (.inl (.int (ic (-5))))), s13)
      else
        some (.inl (some (.inl (.int (ic (-1))))), s11)
theorem dX6_word_rs (back : mm_bt) (call : mm_ct) (s : mm_S) (x1 : Int32) (x2 : Int32) (x3 : Int32) : (am_r2 back (gX6_word call)).1 [some (.inl (.ref 0)), some (.inl (.int x1)), some (.inl (.int x2)), some (.inl (.int x3)), none] [] s = dX6_word back call s x1 x2 x3 := rfl
theorem dX6_word_eq (N f : Nat) (s : mm_S) (x1 : Int32) (x2 : Int32) (x3 : Int32) : mm_call N (f + 1) 23 [.inl (.ref 0), .inl (.int x1), .inl (.int x2), .inl (.int x3)] s = dX6_word (am_bk (mm_hop (mm_call N f)) am_no (some .int) kX6_word N) (mm_call N f) s x1 x2 x3 := (mm_call_of (mt := 23) (nL := 5) (rt := (some .int)) (code := kX6_word) rfl rfl rfl rfl gX6_word_ok ⟨_, _, _, _, rfl⟩).trans (dX6_word_rs _ _ s x1 x2 x3)
noncomputable def dX6_sayAll (back : mm_bt) (call : mm_ct) (s : mm_S) (x1 : Int32) (x2 : Int32) : am_R mm_S :=
  am_cv (call 25 [.inl (.ref 0), .inl (.int x1), .inl (.int x2)] (mm_p (mm_p s 18 (ic 0)) 19 (ic (-1)))) am_tx fun s2 =>
  some (.inl none, s2)
theorem dX6_sayAll_rs (back : mm_bt) (call : mm_ct) (s : mm_S) (x1 : Int32) (x2 : Int32) : (am_r2 back (gX6_sayAll call)).1 [some (.inl (.ref 0)), some (.inl (.int x1)), some (.inl (.int x2))] [] s = dX6_sayAll back call s x1 x2 := rfl
theorem dX6_sayAll_eq (N f : Nat) (s : mm_S) (x1 : Int32) (x2 : Int32) : mm_call N (f + 1) 24 [.inl (.ref 0), .inl (.int x1), .inl (.int x2)] s = dX6_sayAll (am_bk (mm_hop (mm_call N f)) am_no none kX6_sayAll N) (mm_call N f) s x1 x2 := (mm_call_of (mt := 24) (nL := 3) (rt := none) (code := kX6_sayAll) rfl rfl rfl rfl gX6_sayAll_ok ⟨_, _, _, _, rfl⟩).trans (dX6_sayAll_rs _ _ s x1 x2)
noncomputable def jX6_say_270 (back : mm_bt) (call : mm_ct) (s : mm_S) (v1 : Int32) (v2 : Int32) (v3 : Int32) (o4 : Option am_V) (o5 : Option am_V) : am_R mm_S := (am_r2 back (gX6_say_270 call)).1 [some (.inl (.ref 0)), some (.inl (.int v1)), some (.inl (.int v2)), some (.inl (.int v3)), o4, o5] [] s
noncomputable def jX6_say_242 (back : mm_bt) (call : mm_ct) (s : mm_S) (v1 : Int32) (v2 : Int32) (v3 : Int32) : am_R mm_S := (am_r2 back (gX6_say_242 call)).1 [some (.inl (.ref 0)), some (.inl (.int v1)), some (.inl (.int v2)), some (.inl (.int v3)), none, none] [] s
noncomputable def jX6_say_222 (back : mm_bt) (call : mm_ct) (s : mm_S) (v1 : Int32) (v2 : Int32) (v3 : Int32) (vs0 : Int32) : am_R mm_S := (am_r2 back (gX6_say_222 call)).1 [some (.inl (.ref 0)), some (.inl (.int v1)), some (.inl (.int v2)), some (.inl (.int v3)), none, none] [.inl (.int vs0), .inl (.ref 0)] s
noncomputable def jX6_say_121 (back : mm_bt) (call : mm_ct) (s : mm_S) (v1 : Int32) (v2 : Int32) (v3 : Int32) (v4 : Int32) (v5 : Int32) : am_R mm_S := (am_r2 back (gX6_say_121 call)).1 [some (.inl (.ref 0)), some (.inl (.int v1)), some (.inl (.int v2)), some (.inl (.int v3)), some (.inl (.int v4)), some (.inl (.int v5))] [] s
noncomputable def jX6_say_83 (back : mm_bt) (call : mm_ct) (s : mm_S) (v1 : Int32) (v2 : Int32) (v3 : Int32) (v4 : Int32) (v5 : Int32) : am_R mm_S := (am_r2 back (gX6_say_83 call)).1 [some (.inl (.ref 0)), some (.inl (.int v1)), some (.inl (.int v2)), some (.inl (.int v3)), some (.inl (.int v4)), some (.inl (.int v5))] [] s
noncomputable def jX6_say_17 (back : mm_bt) (call : mm_ct) (s : mm_S) (v1 : Int32) (v2 : Int32) (v3 : Int32) : am_R mm_S := (am_r2 back (gX6_say_17 call)).1 [some (.inl (.ref 0)), some (.inl (.int v1)), some (.inl (.int v2)), some (.inl (.int v3)), none, none] [] s
noncomputable def jX6_say_17_11 (back : mm_bt) (call : mm_ct) (s : mm_S) (v1 : Int32) (v2 : Int32) (v3 : Int32) : am_R mm_S := (am_r2 back (gX6_say_11 call)).2 17 [some (.inl (.ref 0)), some (.inl (.int v1)), some (.inl (.int v2)), some (.inl (.int v3)), none, none] [] s
theorem jX6_say_17_11_eq (back : mm_bt) (call : mm_ct) (s : mm_S) (v1 : Int32) (v2 : Int32) (v3 : Int32) : jX6_say_17_11 back call s v1 v2 v3 = jX6_say_17 back call s v1 v2 v3 := rfl
noncomputable def jX6_say_222_200 (back : mm_bt) (call : mm_ct) (s : mm_S) (v1 : Int32) (v2 : Int32) (v3 : Int32) (vs0 : Int32) : am_R mm_S := (am_r2 back (gX6_say_200 call)).2 222 [some (.inl (.ref 0)), some (.inl (.int v1)), some (.inl (.int v2)), some (.inl (.int v3)), none, none] [.inl (.int vs0), .inl (.ref 0)] s
theorem jX6_say_222_200_eq (back : mm_bt) (call : mm_ct) (s : mm_S) (v1 : Int32) (v2 : Int32) (v3 : Int32) (vs0 : Int32) : jX6_say_222_200 back call s v1 v2 v3 vs0 = jX6_say_222 back call s v1 v2 v3 vs0 := rfl
noncomputable def jX6_say_222_216 (back : mm_bt) (call : mm_ct) (s : mm_S) (v1 : Int32) (v2 : Int32) (v3 : Int32) (vs0 : Int32) : am_R mm_S := (am_r2 back (gX6_say_216 call)).2 222 [some (.inl (.ref 0)), some (.inl (.int v1)), some (.inl (.int v2)), some (.inl (.int v3)), none, none] [.inl (.int vs0), .inl (.ref 0)] s
theorem jX6_say_222_216_eq (back : mm_bt) (call : mm_ct) (s : mm_S) (v1 : Int32) (v2 : Int32) (v3 : Int32) (vs0 : Int32) : jX6_say_222_216 back call s v1 v2 v3 vs0 = jX6_say_222 back call s v1 v2 v3 vs0 := rfl
noncomputable def jX6_say_242_236 (back : mm_bt) (call : mm_ct) (s : mm_S) (v1 : Int32) (v2 : Int32) (v3 : Int32) : am_R mm_S := (am_r2 back (gX6_say_236 call)).2 242 [some (.inl (.ref 0)), some (.inl (.int v1)), some (.inl (.int v2)), some (.inl (.int v3)), none, none] [] s
theorem jX6_say_242_236_eq (back : mm_bt) (call : mm_ct) (s : mm_S) (v1 : Int32) (v2 : Int32) (v3 : Int32) : jX6_say_242_236 back call s v1 v2 v3 = jX6_say_242 back call s v1 v2 v3 := rfl
noncomputable def jX6_say_270_67 (back : mm_bt) (call : mm_ct) (s : mm_S) (v1 : Int32) (v2 : Int32) (v3 : Int32) (o4 : Option am_V) (o5 : Option am_V) : am_R mm_S := (am_r2 back (gX6_say_67 call)).2 270 [some (.inl (.ref 0)), some (.inl (.int v1)), some (.inl (.int v2)), some (.inl (.int v3)), o4, o5] [] s
theorem jX6_say_270_67_eq (back : mm_bt) (call : mm_ct) (s : mm_S) (v1 : Int32) (v2 : Int32) (v3 : Int32) (o4 : Option am_V) (o5 : Option am_V) : jX6_say_270_67 back call s v1 v2 v3 o4 o5 = jX6_say_270 back call s v1 v2 v3 o4 o5 := rfl
noncomputable def jX6_say_270_161 (back : mm_bt) (call : mm_ct) (s : mm_S) (v1 : Int32) (v2 : Int32) (v3 : Int32) (o4 : Option am_V) (o5 : Option am_V) : am_R mm_S := (am_r2 back (gX6_say_161 call)).2 270 [some (.inl (.ref 0)), some (.inl (.int v1)), some (.inl (.int v2)), some (.inl (.int v3)), o4, o5] [] s
theorem jX6_say_270_161_eq (back : mm_bt) (call : mm_ct) (s : mm_S) (v1 : Int32) (v2 : Int32) (v3 : Int32) (o4 : Option am_V) (o5 : Option am_V) : jX6_say_270_161 back call s v1 v2 v3 o4 o5 = jX6_say_270 back call s v1 v2 v3 o4 o5 := rfl
noncomputable def jX6_say_270_183 (back : mm_bt) (call : mm_ct) (s : mm_S) (v1 : Int32) (v2 : Int32) (v3 : Int32) (o4 : Option am_V) (o5 : Option am_V) : am_R mm_S := (am_r2 back (gX6_say_183 call)).2 270 [some (.inl (.ref 0)), some (.inl (.int v1)), some (.inl (.int v2)), some (.inl (.int v3)), o4, o5] [] s
theorem jX6_say_270_183_eq (back : mm_bt) (call : mm_ct) (s : mm_S) (v1 : Int32) (v2 : Int32) (v3 : Int32) (o4 : Option am_V) (o5 : Option am_V) : jX6_say_270_183 back call s v1 v2 v3 o4 o5 = jX6_say_270 back call s v1 v2 v3 o4 o5 := rfl
noncomputable def jX6_say_270_264 (back : mm_bt) (call : mm_ct) (s : mm_S) (v1 : Int32) (v2 : Int32) (v3 : Int32) (o4 : Option am_V) (o5 : Option am_V) : am_R mm_S := (am_r2 back (gX6_say_264 call)).2 270 [some (.inl (.ref 0)), some (.inl (.int v1)), some (.inl (.int v2)), some (.inl (.int v3)), o4, o5] [] s
theorem jX6_say_270_264_eq (back : mm_bt) (call : mm_ct) (s : mm_S) (v1 : Int32) (v2 : Int32) (v3 : Int32) (o4 : Option am_V) (o5 : Option am_V) : jX6_say_270_264 back call s v1 v2 v3 o4 o5 = jX6_say_270 back call s v1 v2 v3 o4 o5 := rfl
theorem jX6_say_270_eq (back : mm_bt) (call : mm_ct) (s : mm_S) (v1 : Int32) (v2 : Int32) (v3 : Int32) (o4 : Option am_V) (o5 : Option am_V) : jX6_say_270 back call s v1 v2 v3 o4 o5 =
  if v3 = 0 then
    some (.inl none, s)
  else
    am_cv (call 27 [.inl (.ref 0), .inl (.int (ic 30))] s) am_tx fun s36 =>
    some (.inl none, s36) := rfl
theorem jX6_say_242_eq (back : mm_bt) (call : mm_ct) (s : mm_S) (v1 : Int32) (v2 : Int32) (v3 : Int32) : jX6_say_242 back call s v1 v2 v3 =
  am_ix v2 450 fun j37 =>
  am_cv (call 25 [.inl (.ref 0), .inl (.int v1), .inl (.int (s.2.1 3 j37))] s) am_tx fun s38 =>
  am_ix v2 450 fun j39 =>
  if (s38.2.1 1 j39) = (ic 8) then
    am_cv (call 27 [.inl (.ref 0), .inl (.int (ic 27))] s38) am_tx fun s40 =>
    jX6_say_270 back call s40 v1 v2 v3 none none
  else
    jX6_say_270_264 back call s38 v1 v2 v3 none none := rfl
theorem jX6_say_222_eq (back : mm_bt) (call : mm_ct) (s : mm_S) (v1 : Int32) (v2 : Int32) (v3 : Int32) (vs0 : Int32) : jX6_say_222 back call s v1 v2 v3 vs0 =
  am_cv (call 27 [.inl (.ref 0), .inl (.int vs0)] s) am_tx fun s41 =>
  am_ix v2 450 fun j42 =>
  if (s41.2.1 1 j42) = (ic 9) then
    am_cv (call 27 [.inl (.ref 0), .inl (.int (ic 28))] s41) am_tx fun s43 =>
    jX6_say_242 back call s43 v1 v2 v3
  else
    jX6_say_242_236 back call s41 v1 v2 v3 := rfl
theorem jX6_say_121_eq (back : mm_bt) (call : mm_ct) (s : mm_S) (v1 : Int32) (v2 : Int32) (v3 : Int32) (v4 : Int32) (v5 : Int32) : jX6_say_121 back call s v1 v2 v3 v4 v5 =
  if v5 ≤ 0 then
    jX6_say_270_161 back call s v1 v2 v3 (some (.inl (.int v4))) (some (.inl (.int v5)))
  else
    am_ix v2 450 fun j44 =>
    am_dz v4 (am_dz (ic 10) (am_cv (call 27 [.inl (.ref 0), .inl (.int ((ic 10) + (((s.2.1 2 j44) / v4) - ((s.2.1 2 j44) / v4) / (ic 10) * (ic 10))))] s) am_tx fun s45 =>
    am_dz (ic 10) (back 121 [some (.inl (.ref 0)), some (.inl (.int v1)), some (.inl (.int v2)), some (.inl (.int v3)), some (.inl (.int (v4 / (ic 10)))), some (.inl (.int (v5 + ic (-1))))] [] s45))) := rfl
theorem jX6_say_83_eq (back : mm_bt) (call : mm_ct) (s : mm_S) (v1 : Int32) (v2 : Int32) (v3 : Int32) (v4 : Int32) (v5 : Int32) : jX6_say_83 back call s v1 v2 v3 v4 v5 =
  am_ix v2 450 fun j46 =>
  am_ci (call 22 [.inl (.int (s.2.1 2 j46))] s) am_tx fun r48 s47 =>
  if r48 ≤ v5 then
    am_ix v2 450 fun j49 =>
    am_ci (call 22 [.inl (.int (s47.2.1 2 j49))] s47) am_tx fun r51 s50 =>
    jX6_say_121 back call s50 v1 v2 v3 v4 r51
  else
    back 83 [some (.inl (.ref 0)), some (.inl (.int v1)), some (.inl (.int v2)), some (.inl (.int v3)), some (.inl (.int (v4 * (ic 10)))), some (.inl (.int (v5 + ic 1)))] [] s47 := rfl
theorem jX6_say_17_eq (back : mm_bt) (call : mm_ct) (s : mm_S) (v1 : Int32) (v2 : Int32) (v3 : Int32) : jX6_say_17 back call s v1 v2 v3 =
  am_ix v2 450 fun j52 =>
  am_ci (call 7 [.inl (.int (s.2.1 1 j52))] s) am_tx fun r54 s53 =>
  if r54 = 0 then
    am_ix v2 450 fun j55 =>
    if (s53.2.1 1 j55) = (ic 1) then
      jX6_say_83 back call s53 v1 v2 v3 (ic 1) (ic 1)
    else
      am_ix v2 450 fun j56 =>
      if (s53.2.1 1 j56) = 0 then
        am_ix v2 450 fun j60 =>
        am_cv (call 27 [.inl (.ref 0), .inl (.int (s53.2.1 2 j60))] s53) am_tx fun s61 =>
        jX6_say_270_183 back call s61 v1 v2 v3 none none
      else
        am_ix v2 450 fun j57 =>
        if (s53.2.1 1 j57) = (ic 7) then
          jX6_say_222_200 back call s53 v1 v2 v3 (ic 25)
        else
          am_ix v2 450 fun j58 =>
          if (s53.2.1 1 j58) = (ic 8) then
            jX6_say_222_216 back call s53 v1 v2 v3 (ic 26)
          else
            am_ix v2 450 fun j59 =>
            jX6_say_222 back call s53 v1 v2 v3 (s53.2.1 2 j59)
  else
    am_ix v2 450 fun j62 =>
    am_cv (call 25 [.inl (.ref 0), .inl (.int v1), .inl (.int (s53.2.1 3 j62))] s53) am_tx fun s63 =>
    am_ix v2 450 fun j64 =>
    am_cv (call 27 [.inl (.ref 0), .inl (.int ((ic 18) + (s63.2.1 1 j64)))] s63) am_tx fun s65 =>
    am_ix v2 450 fun j66 =>
    am_cv (call 25 [.inl (.ref 0), .inl (.int v1), .inl (.int (s65.2.1 4 j66))] s65) am_tx fun s67 =>
    jX6_say_270_67 back call s67 v1 v2 v3 none none := rfl
noncomputable def dX6_say (back : mm_bt) (call : mm_ct) (s : mm_S) (x1 : Int32) (x2 : Int32) : am_R mm_S :=
  am_ci (call 26 [.inl (.ref 0), .inl (.int x1), .inl (.int x2)] s) am_tx fun r69 s68 =>
  if r69 = 0 then
    jX6_say_17_11 back call s68 x1 x2 r69
  else
    am_cv (call 27 [.inl (.ref 0), .inl (.int (ic 29))] s68) am_tx fun s70 =>
    jX6_say_17 back call s70 x1 x2 r69
theorem dX6_say_rs (back : mm_bt) (call : mm_ct) (s : mm_S) (x1 : Int32) (x2 : Int32) : (am_r2 back (gX6_say call)).1 [some (.inl (.ref 0)), some (.inl (.int x1)), some (.inl (.int x2)), none, none, none] [] s = dX6_say back call s x1 x2 := rfl
theorem dX6_say_eq (N f : Nat) (s : mm_S) (x1 : Int32) (x2 : Int32) : mm_call N (f + 1) 25 [.inl (.ref 0), .inl (.int x1), .inl (.int x2)] s = dX6_say (am_bk (mm_hop (mm_call N f)) am_no none kX6_say N) (mm_call N f) s x1 x2 := (mm_call_of (mt := 25) (nL := 6) (rt := none) (code := kX6_say) rfl rfl rfl rfl gX6_say_ok ⟨_, _, _, _, rfl⟩).trans (dX6_say_rs _ _ s x1 x2)
theorem jX6_say_83_bk (call : mm_ct) (n : Nat) (s : mm_S) (v1 : Int32) (v2 : Int32) (v3 : Int32) (v4 : Int32) (v5 : Int32) : am_bk (mm_hop call) am_no none kX6_say (n + 1) 83 [some (.inl (.ref 0)), some (.inl (.int v1)), some (.inl (.int v2)), some (.inl (.int v3)), some (.inl (.int v4)), some (.inl (.int v5))] [] s = jX6_say_83 (am_bk (mm_hop call) am_no none kX6_say n) call s v1 v2 v3 v4 v5 := (am_bk_of rfl (gX6_say_ok call)).trans rfl
theorem jX6_say_121_bk (call : mm_ct) (n : Nat) (s : mm_S) (v1 : Int32) (v2 : Int32) (v3 : Int32) (v4 : Int32) (v5 : Int32) : am_bk (mm_hop call) am_no none kX6_say (n + 1) 121 [some (.inl (.ref 0)), some (.inl (.int v1)), some (.inl (.int v2)), some (.inl (.int v3)), some (.inl (.int v4)), some (.inl (.int v5))] [] s = jX6_say_121 (am_bk (mm_hop call) am_no none kX6_say n) call s v1 v2 v3 v4 v5 := (am_bk_of rfl (gX6_say_ok call)).trans rfl
noncomputable def jX6_keepsIt_19 (back : mm_bt) (call : mm_ct) (s : mm_S) (v1 : Int32) (v2 : Int32) : am_R mm_S := (am_r2 back (gX6_keepsIt_19 call)).1 [some (.inl (.ref 0)), some (.inl (.int v1)), some (.inl (.int v2))] [] s
noncomputable def jX6_keepsIt_19_7 (back : mm_bt) (call : mm_ct) (s : mm_S) (v1 : Int32) (v2 : Int32) : am_R mm_S := (am_r2 back (gX6_keepsIt_7 call)).2 19 [some (.inl (.ref 0)), some (.inl (.int v1)), some (.inl (.int v2))] [] s
theorem jX6_keepsIt_19_7_eq (back : mm_bt) (call : mm_ct) (s : mm_S) (v1 : Int32) (v2 : Int32) : jX6_keepsIt_19_7 back call s v1 v2 = jX6_keepsIt_19 back call s v1 v2 := rfl
theorem jX6_keepsIt_19_eq (back : mm_bt) (call : mm_ct) (s : mm_S) (v1 : Int32) (v2 : Int32) : jX6_keepsIt_19 back call s v1 v2 =
  am_ix v2 450 fun j6 =>
  am_ix (((ic 10) * v1) + (s.2.1 1 j6)) 90 fun j7 =>
  some (.inl (some (.inl (.int ((s.2.1 8 j7) &&& 1)))), s) := rfl
noncomputable def dX6_keepsIt (back : mm_bt) (call : mm_ct) (s : mm_S) (x1 : Int32) (x2 : Int32) : am_R mm_S :=
  if (s.1 19) < 0 then
    jX6_keepsIt_19_7 back call s x1 x2
  else
    am_ix x2 450 fun j8 =>
    am_ci (call 18 [.inl (.int (s.2.1 1 j8))] s) am_tx fun r10 s9 =>
    if r10 = 0 then
      jX6_keepsIt_19 back call s9 x1 x2
    else
      if ((((mm_p s9 20 ((s9.1 20) + (ic 1))).1 19) >>> ((((mm_p s9 20 ((s9.1 20) + (ic 1))).1 21) - ((mm_p s9 20 ((s9.1 20) + (ic 1))).1 20)) &&& 31)) &&& (ic 1)) = (ic 1) then
        some (.inl (some (.inl (.int ((ic 1) &&& 1)))), (mm_p s9 20 ((s9.1 20) + (ic 1))))
      else
        some (.inl (some (.inl (.int ((ic 0) &&& 1)))), (mm_p s9 20 ((s9.1 20) + (ic 1))))
theorem dX6_keepsIt_rs (back : mm_bt) (call : mm_ct) (s : mm_S) (x1 : Int32) (x2 : Int32) : (am_r2 back (gX6_keepsIt call)).1 [some (.inl (.ref 0)), some (.inl (.int x1)), some (.inl (.int x2))] [] s = dX6_keepsIt back call s x1 x2 := rfl
theorem dX6_keepsIt_eq (N f : Nat) (s : mm_S) (x1 : Int32) (x2 : Int32) : mm_call N (f + 1) 26 [.inl (.ref 0), .inl (.int x1), .inl (.int x2)] s = dX6_keepsIt (am_bk (mm_hop (mm_call N f)) am_no (some .boolean) kX6_keepsIt N) (mm_call N f) s x1 x2 := (mm_call_of (mt := 26) (nL := 3) (rt := (some .boolean)) (code := kX6_keepsIt) rfl rfl rfl rfl gX6_keepsIt_ok ⟨_, _, _, _, rfl⟩).trans (dX6_keepsIt_rs _ _ s x1 x2)
noncomputable def dX6_says (back : mm_bt) (call : mm_ct) (s : mm_S) (x1 : Int32) : am_R mm_S :=
  am_ix (s.1 18) 256 fun j2 =>
  some (.inl none, (mm_p (mm_pa s 17 j2 x1) 18 (((mm_pa s 17 j2 x1).1 18) + (ic 1))))
theorem dX6_says_rs (back : mm_bt) (call : mm_ct) (s : mm_S) (x1 : Int32) : (am_r2 back (gX6_says call)).1 [some (.inl (.ref 0)), some (.inl (.int x1))] [] s = dX6_says back call s x1 := rfl
theorem dX6_says_eq (N f : Nat) (s : mm_S) (x1 : Int32) : mm_call N (f + 1) 27 [.inl (.ref 0), .inl (.int x1)] s = dX6_says (am_bk (mm_hop (mm_call N f)) am_no none kX6_says N) (mm_call N f) s x1 := (mm_call_of (mt := 27) (nL := 2) (rt := none) (code := kX6_says) rfl rfl rfl rfl gX6_says_ok ⟨_, _, _, _, rfl⟩).trans (dX6_says_rs _ _ s x1)
noncomputable def jX6_sound_159 (back : mm_bt) (call : mm_ct) (s : mm_S) (v1 : Int32) (v2 : Int32) (v3 : Int32) (v4 : Int32) (v5 : Int32) (v6 : Int32) (v7 : Int32) : am_R mm_S := (am_r2 back (gX6_sound_159 call)).1 [some (.inl (.ref 0)), some (.inl (.int v1)), some (.inl (.int v2)), some (.inl (.int v3)), some (.inl (.int v4)), some (.inl (.int v5)), some (.inl (.int v6)), some (.inl (.int v7))] [] s
noncomputable def jX6_sound_151 (back : mm_bt) (call : mm_ct) (s : mm_S) (v1 : Int32) (v2 : Int32) (v3 : Int32) (v4 : Int32) (v5 : Int32) (v6 : Int32) (v7 : Int32) (vs0 : Int32) : am_R mm_S := (am_r2 back (gX6_sound_151 call)).1 [some (.inl (.ref 0)), some (.inl (.int v1)), some (.inl (.int v2)), some (.inl (.int v3)), some (.inl (.int v4)), some (.inl (.int v5)), some (.inl (.int v6)), some (.inl (.int v7))] [.inl (.int vs0)] s
noncomputable def jX6_sound_117 (back : mm_bt) (call : mm_ct) (s : mm_S) (v1 : Int32) (v2 : Int32) (v3 : Int32) (v4 : Int32) (v5 : Int32) (v6 : Int32) (v7 : Int32) : am_R mm_S := (am_r2 back (gX6_sound_117 call)).1 [some (.inl (.ref 0)), some (.inl (.int v1)), some (.inl (.int v2)), some (.inl (.int v3)), some (.inl (.int v4)), some (.inl (.int v5)), some (.inl (.int v6)), some (.inl (.int v7))] [] s
noncomputable def jX6_sound_112 (back : mm_bt) (call : mm_ct) (s : mm_S) (v1 : Int32) (v2 : Int32) (v3 : Int32) (v4 : Int32) (v5 : Int32) (v6 : Int32) (vs0 : Int32) : am_R mm_S := (am_r2 back (gX6_sound_112 call)).1 [some (.inl (.ref 0)), some (.inl (.int v1)), some (.inl (.int v2)), some (.inl (.int v3)), some (.inl (.int v4)), some (.inl (.int v5)), some (.inl (.int v6)), none] [.inl (.int vs0)] s
noncomputable def jX6_sound_67 (back : mm_bt) (call : mm_ct) (s : mm_S) (v1 : Int32) (v2 : Int32) (v3 : Int32) (v4 : Int32) (v5 : Int32) (v6 : Int32) : am_R mm_S := (am_r2 back (gX6_sound_67 call)).1 [some (.inl (.ref 0)), some (.inl (.int v1)), some (.inl (.int v2)), some (.inl (.int v3)), some (.inl (.int v4)), some (.inl (.int v5)), some (.inl (.int v6)), none] [] s
noncomputable def jX6_sound_112_111 (back : mm_bt) (call : mm_ct) (s : mm_S) (v1 : Int32) (v2 : Int32) (v3 : Int32) (v4 : Int32) (v5 : Int32) (v6 : Int32) (vs0 : Int32) : am_R mm_S := (am_r2 back (gX6_sound_111 call)).2 112 [some (.inl (.ref 0)), some (.inl (.int v1)), some (.inl (.int v2)), some (.inl (.int v3)), some (.inl (.int v4)), some (.inl (.int v5)), some (.inl (.int v6)), none] [.inl (.int vs0)] s
theorem jX6_sound_112_111_eq (back : mm_bt) (call : mm_ct) (s : mm_S) (v1 : Int32) (v2 : Int32) (v3 : Int32) (v4 : Int32) (v5 : Int32) (v6 : Int32) (vs0 : Int32) : jX6_sound_112_111 back call s v1 v2 v3 v4 v5 v6 vs0 = jX6_sound_112 back call s v1 v2 v3 v4 v5 v6 vs0 := rfl
noncomputable def jX6_sound_151_150 (back : mm_bt) (call : mm_ct) (s : mm_S) (v1 : Int32) (v2 : Int32) (v3 : Int32) (v4 : Int32) (v5 : Int32) (v6 : Int32) (v7 : Int32) (vs0 : Int32) : am_R mm_S := (am_r2 back (gX6_sound_150 call)).2 151 [some (.inl (.ref 0)), some (.inl (.int v1)), some (.inl (.int v2)), some (.inl (.int v3)), some (.inl (.int v4)), some (.inl (.int v5)), some (.inl (.int v6)), some (.inl (.int v7))] [.inl (.int vs0)] s
theorem jX6_sound_151_150_eq (back : mm_bt) (call : mm_ct) (s : mm_S) (v1 : Int32) (v2 : Int32) (v3 : Int32) (v4 : Int32) (v5 : Int32) (v6 : Int32) (v7 : Int32) (vs0 : Int32) : jX6_sound_151_150 back call s v1 v2 v3 v4 v5 v6 v7 vs0 = jX6_sound_151 back call s v1 v2 v3 v4 v5 v6 v7 vs0 := rfl
noncomputable def jX6_sound_159_124 (back : mm_bt) (call : mm_ct) (s : mm_S) (v1 : Int32) (v2 : Int32) (v3 : Int32) (v4 : Int32) (v5 : Int32) (v6 : Int32) (v7 : Int32) : am_R mm_S := (am_r2 back (gX6_sound_124 call)).2 159 [some (.inl (.ref 0)), some (.inl (.int v1)), some (.inl (.int v2)), some (.inl (.int v3)), some (.inl (.int v4)), some (.inl (.int v5)), some (.inl (.int v6)), some (.inl (.int v7))] [] s
theorem jX6_sound_159_124_eq (back : mm_bt) (call : mm_ct) (s : mm_S) (v1 : Int32) (v2 : Int32) (v3 : Int32) (v4 : Int32) (v5 : Int32) (v6 : Int32) (v7 : Int32) : jX6_sound_159_124 back call s v1 v2 v3 v4 v5 v6 v7 = jX6_sound_159 back call s v1 v2 v3 v4 v5 v6 v7 := rfl
noncomputable def jX6_sound_159_129 (back : mm_bt) (call : mm_ct) (s : mm_S) (v1 : Int32) (v2 : Int32) (v3 : Int32) (v4 : Int32) (v5 : Int32) (v6 : Int32) (v7 : Int32) : am_R mm_S := (am_r2 back (gX6_sound_129 call)).2 159 [some (.inl (.ref 0)), some (.inl (.int v1)), some (.inl (.int v2)), some (.inl (.int v3)), some (.inl (.int v4)), some (.inl (.int v5)), some (.inl (.int v6)), some (.inl (.int v7))] [] s
theorem jX6_sound_159_129_eq (back : mm_bt) (call : mm_ct) (s : mm_S) (v1 : Int32) (v2 : Int32) (v3 : Int32) (v4 : Int32) (v5 : Int32) (v6 : Int32) (v7 : Int32) : jX6_sound_159_129 back call s v1 v2 v3 v4 v5 v6 v7 = jX6_sound_159 back call s v1 v2 v3 v4 v5 v6 v7 := rfl
theorem jX6_sound_159_eq (back : mm_bt) (call : mm_ct) (s : mm_S) (v1 : Int32) (v2 : Int32) (v3 : Int32) (v4 : Int32) (v5 : Int32) (v6 : Int32) (v7 : Int32) : jX6_sound_159 back call s v1 v2 v3 v4 v5 v6 v7 =
  if v6 = 0 then
    some (.inl (some (.inl (.int (ic 0)))), s)
  else
    some (.inl (some (.inl (.int (ic 1)))), s) := rfl
theorem jX6_sound_151_eq (back : mm_bt) (call : mm_ct) (s : mm_S) (v1 : Int32) (v2 : Int32) (v3 : Int32) (v4 : Int32) (v5 : Int32) (v6 : Int32) (v7 : Int32) (vs0 : Int32) : jX6_sound_151 back call s v1 v2 v3 v4 v5 v6 v7 vs0 =
  back 117 [some (.inl (.ref 0)), some (.inl (.int v1)), some (.inl (.int v2)), some (.inl (.int v3)), some (.inl (.int v4)), some (.inl (.int v5)), some (.inl (.int vs0)), some (.inl (.int (v7 + ic 1)))] [] s := rfl
theorem jX6_sound_117_eq (back : mm_bt) (call : mm_ct) (s : mm_S) (v1 : Int32) (v2 : Int32) (v3 : Int32) (v4 : Int32) (v5 : Int32) (v6 : Int32) (v7 : Int32) : jX6_sound_117 back call s v1 v2 v3 v4 v5 v6 v7 =
  if v4 ≤ v7 then
    jX6_sound_159_124 back call s v1 v2 v3 v4 v5 v6 v7
  else
    if v6 = 0 then
      jX6_sound_159_129 back call s v1 v2 v3 v4 v5 v6 v7
    else
      am_ix v7 256 fun j17 =>
      am_ix v7 256 fun j18 =>
      if (s.2.1 22 j17) = (s.2.1 17 j18) then
        jX6_sound_151_150 back call s v1 v2 v3 v4 v5 v6 v7 (ic 1)
      else
        jX6_sound_151 back call s v1 v2 v3 v4 v5 v6 v7 (ic 0) := rfl
theorem jX6_sound_112_eq (back : mm_bt) (call : mm_ct) (s : mm_S) (v1 : Int32) (v2 : Int32) (v3 : Int32) (v4 : Int32) (v5 : Int32) (v6 : Int32) (vs0 : Int32) : jX6_sound_112 back call s v1 v2 v3 v4 v5 v6 vs0 =
  jX6_sound_117 back call s v1 v2 v3 v4 v5 vs0 (ic 0) := rfl
theorem jX6_sound_67_eq (back : mm_bt) (call : mm_ct) (s : mm_S) (v1 : Int32) (v2 : Int32) (v3 : Int32) (v4 : Int32) (v5 : Int32) (v6 : Int32) : jX6_sound_67 back call s v1 v2 v3 v4 v5 v6 =
  if v4 ≤ v6 then
    am_cv (call 24 [.inl (.ref 0), .inl (.int v1), .inl (.int v3)] s) am_tx fun s19 =>
    if v4 = v5 then
      jX6_sound_112_111 back call s19 v1 v2 v3 v4 v5 v6 (ic 1)
    else
      jX6_sound_112 back call s19 v1 v2 v3 v4 v5 v6 (ic 0)
  else
    am_ix v6 256 fun j20 =>
    am_ix v6 256 fun j21 =>
    back 67 [some (.inl (.ref 0)), some (.inl (.int v1)), some (.inl (.int v2)), some (.inl (.int v3)), some (.inl (.int v4)), some (.inl (.int v5)), some (.inl (.int (v6 + ic 1))), none] [] (mm_pa s 22 j21 (s.2.1 17 j20)) := rfl
noncomputable def dX6_sound (back : mm_bt) (call : mm_ct) (s : mm_S) (x1 : Int32) (x2 : Int32) (x3 : Int32) : am_R mm_S :=
  am_ci (call 17 [.inl (.int x1)] s) am_tx fun r23 s22 =>
  if r23 = 0 then
    some (.inl (some (.inl (.int (ic (-1))))), s22)
  else
    am_ci (call 6 [.inl (.ref 0), .inl (.int x2)] s22) am_tx fun r25 s24 =>
    if r25 = 0 then
      some (.inl (some (.inl (.int (ic (-1))))), s24)
    else
      am_ci (call 6 [.inl (.ref 0), .inl (.int x3)] s24) am_tx fun r27 s26 =>
      if r27 = 0 then
        some (.inl (some (.inl (.int (ic (-1))))), s26)
      else
        am_ci (call 20 [.inl (.ref 0), .inl (.int x1), .inl (.int x2)] s26) am_tx fun r29 s28 =>
        am_ci (call 20 [.inl (.ref 0), .inl (.int x1), .inl (.int x3)] s28) am_tx fun r31 s30 =>
        if (ic 80) < r29 then
          some (.inl (some (.inl (.int (ic (-5))))), s30)
        else
          if r31 ≤ (ic 80) then
            am_cv (call 24 [.inl (.ref 0), .inl (.int x1), .inl (.int x2)] s30) am_tx fun s32 =>
            jX6_sound_67 back call s32 x1 x2 x3 r29 r31 (ic 0)
          else
            some (.inl (some (.inl (.int (ic (-5))))), s30)
theorem dX6_sound_rs (back : mm_bt) (call : mm_ct) (s : mm_S) (x1 : Int32) (x2 : Int32) (x3 : Int32) : (am_r2 back (gX6_sound call)).1 [some (.inl (.ref 0)), some (.inl (.int x1)), some (.inl (.int x2)), some (.inl (.int x3)), none, none, none, none] [] s = dX6_sound back call s x1 x2 x3 := rfl
theorem dX6_sound_eq (N f : Nat) (s : mm_S) (x1 : Int32) (x2 : Int32) (x3 : Int32) : mm_call N (f + 1) 28 [.inl (.ref 0), .inl (.int x1), .inl (.int x2), .inl (.int x3)] s = dX6_sound (am_bk (mm_hop (mm_call N f)) am_no (some .int) kX6_sound N) (mm_call N f) s x1 x2 x3 := (mm_call_of (mt := 28) (nL := 8) (rt := (some .int)) (code := kX6_sound) rfl rfl rfl rfl gX6_sound_ok ⟨_, _, _, _, rfl⟩).trans (dX6_sound_rs _ _ s x1 x2 x3)
theorem jX6_sound_67_bk (call : mm_ct) (n : Nat) (s : mm_S) (v1 : Int32) (v2 : Int32) (v3 : Int32) (v4 : Int32) (v5 : Int32) (v6 : Int32) : am_bk (mm_hop call) am_no (some .int) kX6_sound (n + 1) 67 [some (.inl (.ref 0)), some (.inl (.int v1)), some (.inl (.int v2)), some (.inl (.int v3)), some (.inl (.int v4)), some (.inl (.int v5)), some (.inl (.int v6)), none] [] s = jX6_sound_67 (am_bk (mm_hop call) am_no (some .int) kX6_sound n) call s v1 v2 v3 v4 v5 v6 := (am_bk_of rfl (gX6_sound_ok call)).trans rfl
theorem jX6_sound_117_bk (call : mm_ct) (n : Nat) (s : mm_S) (v1 : Int32) (v2 : Int32) (v3 : Int32) (v4 : Int32) (v5 : Int32) (v6 : Int32) (v7 : Int32) : am_bk (mm_hop call) am_no (some .int) kX6_sound (n + 1) 117 [some (.inl (.ref 0)), some (.inl (.int v1)), some (.inl (.int v2)), some (.inl (.int v3)), some (.inl (.int v4)), some (.inl (.int v5)), some (.inl (.int v6)), some (.inl (.int v7))] [] s = jX6_sound_117 (am_bk (mm_hop call) am_no (some .int) kX6_sound n) call s v1 v2 v3 v4 v5 v6 v7 := (am_bk_of rfl (gX6_sound_ok call)).trans rfl
noncomputable def jX6_clear_149 (back : mm_bt) (call : mm_ct) (s : mm_S) (v1 : Int32) (v2 : Int32) (v3 : Int32) (v4 : Int32) : am_R mm_S := (am_r2 back (gX6_clear_149 call)).1 [some (.inl (.ref 0)), some (.inl (.int v1)), some (.inl (.int v2)), some (.inl (.int v3)), some (.inl (.int v4))] [] s
noncomputable def jX6_clear_138 (back : mm_bt) (call : mm_ct) (s : mm_S) (v1 : Int32) (v2 : Int32) (v3 : Int32) (o4 : Option am_V) : am_R mm_S := (am_r2 back (gX6_clear_138 call)).1 [some (.inl (.ref 0)), some (.inl (.int v1)), some (.inl (.int v2)), some (.inl (.int v3)), o4] [] s
noncomputable def jX6_clear_96 (back : mm_bt) (call : mm_ct) (s : mm_S) (v1 : Int32) (v2 : Int32) (v3 : Int32) (v4 : Int32) : am_R mm_S := (am_r2 back (gX6_clear_96 call)).1 [some (.inl (.ref 0)), some (.inl (.int v1)), some (.inl (.int v2)), some (.inl (.int v3)), some (.inl (.int v4))] [] s
noncomputable def jX6_clear_66 (back : mm_bt) (call : mm_ct) (s : mm_S) (v1 : Int32) (v2 : Int32) (v3 : Int32) (o4 : Option am_V) : am_R mm_S := (am_r2 back (gX6_clear_66 call)).1 [some (.inl (.ref 0)), some (.inl (.int v1)), some (.inl (.int v2)), some (.inl (.int v3)), o4] [] s
noncomputable def jX6_clear_48 (back : mm_bt) (call : mm_ct) (s : mm_S) (v1 : Int32) (v2 : Int32) (v3 : Int32) : am_R mm_S := (am_r2 back (gX6_clear_48 call)).1 [some (.inl (.ref 0)), some (.inl (.int v1)), some (.inl (.int v2)), some (.inl (.int v3)), none] [] s
theorem jX6_clear_149_eq (back : mm_bt) (call : mm_ct) (s : mm_S) (v1 : Int32) (v2 : Int32) (v3 : Int32) (v4 : Int32) : jX6_clear_149 back call s v1 v2 v3 v4 =
  if v3 ≤ v4 then
    back 138 [some (.inl (.ref 0)), some (.inl (.int v1)), some (.inl (.int v2)), some (.inl (.int (v3 + ic 1))), some (.inl (.int v4))] [] s
  else
    am_ci (call 32 [.inl (.ref 0), .inl (.int v3), .inl (.int v4)] s) am_tx fun r17 s16 =>
    if r17 = 0 then
      back 149 [some (.inl (.ref 0)), some (.inl (.int v1)), some (.inl (.int v2)), some (.inl (.int v3)), some (.inl (.int (v4 + ic 1)))] [] s16
    else
      some (.inl (some (.inl (.int (ic 0)))), s16) := rfl
theorem jX6_clear_138_eq (back : mm_bt) (call : mm_ct) (s : mm_S) (v1 : Int32) (v2 : Int32) (v3 : Int32) (o4 : Option am_V) : jX6_clear_138 back call s v1 v2 v3 o4 =
  if (s.1 23) ≤ v3 then
    some (.inl (some (.inl (.int (ic 1)))), s)
  else
    jX6_clear_149 back call s v1 v2 v3 (ic 0) := rfl
theorem jX6_clear_96_eq (back : mm_bt) (call : mm_ct) (s : mm_S) (v1 : Int32) (v2 : Int32) (v3 : Int32) (v4 : Int32) : jX6_clear_96 back call s v1 v2 v3 v4 =
  if (s.1 18) ≤ v4 then
    back 66 [some (.inl (.ref 0)), some (.inl (.int v1)), some (.inl (.int v2)), some (.inl (.int (v3 + ic 1))), some (.inl (.int v4))] [] s
  else
    am_ix v4 256 fun j18 =>
    am_ix (((ic 20) * v3) + v4) 5600 fun j19 =>
    back 96 [some (.inl (.ref 0)), some (.inl (.int v1)), some (.inl (.int v2)), some (.inl (.int v3)), some (.inl (.int (v4 + ic 1)))] [] (mm_pa s 24 j19 (s.2.1 17 j18)) := rfl
theorem jX6_clear_66_eq (back : mm_bt) (call : mm_ct) (s : mm_S) (v1 : Int32) (v2 : Int32) (v3 : Int32) (o4 : Option am_V) : jX6_clear_66 back call s v1 v2 v3 o4 =
  if (s.1 23) ≤ v3 then
    jX6_clear_138 back call s v1 v2 (ic 0) o4
  else
    am_cv (call 24 [.inl (.ref 0), .inl (.int v1), .inl (.int ((ic 120) + v3))] s) am_tx fun s20 =>
    am_ix v3 280 fun j21 =>
    jX6_clear_96 back call (mm_pa s20 25 j21 (s20.1 18)) v1 v2 v3 (ic 0) := rfl
theorem jX6_clear_48_eq (back : mm_bt) (call : mm_ct) (s : mm_S) (v1 : Int32) (v2 : Int32) (v3 : Int32) : jX6_clear_48 back call s v1 v2 v3 =
  if v2 < v3 then
    jX6_clear_66 back call s v1 v2 (ic 0) none
  else
    am_cv (call 31 [.inl (.ref 0), .inl (.int v3)] s) am_tx fun s22 =>
    back 48 [some (.inl (.ref 0)), some (.inl (.int v1)), some (.inl (.int v2)), some (.inl (.int (v3 + ic 1))), none] [] s22 := rfl
noncomputable def dX6_clear (back : mm_bt) (call : mm_ct) (s : mm_S) (x1 : Int32) (x2 : Int32) : am_R mm_S :=
  am_ci (call 17 [.inl (.int x1)] s) am_tx fun r24 s23 =>
  if r24 = 0 then
    some (.inl (some (.inl (.int (ic (-1))))), s23)
  else
    am_ci (call 3 [.inl (.long x2.toInt64), .inl (.long (lN 1)), .inl (.long 4)] s23) am_tx fun r26 s25 =>
    if r26 = 0 then
      some (.inl (some (.inl (.int (ic (-1))))), s25)
    else
      am_cv (call 30 [.inl (.ref 0), .inl (.int (ic 0)), .inl (.int (ic 0)), .inl (.int (ic (-2))), .inl (.int (ic (-2)))] (mm_p s25 23 (ic 0))) am_tx fun s27 =>
      am_cv (call 30 [.inl (.ref 0), .inl (.int (ic 1)), .inl (.int (ic 1)), .inl (.int (ic (-2))), .inl (.int (ic (-2)))] s27) am_tx fun s28 =>
      jX6_clear_48 back call s28 x1 x2 (ic 2)
theorem dX6_clear_rs (back : mm_bt) (call : mm_ct) (s : mm_S) (x1 : Int32) (x2 : Int32) : (am_r2 back (gX6_clear call)).1 [some (.inl (.ref 0)), some (.inl (.int x1)), some (.inl (.int x2)), none, none] [] s = dX6_clear back call s x1 x2 := rfl
theorem dX6_clear_eq (N f : Nat) (s : mm_S) (x1 : Int32) (x2 : Int32) : mm_call N (f + 1) 29 [.inl (.ref 0), .inl (.int x1), .inl (.int x2)] s = dX6_clear (am_bk (mm_hop (mm_call N f)) am_no (some .int) kX6_clear N) (mm_call N f) s x1 x2 := (mm_call_of (mt := 29) (nL := 5) (rt := (some .int)) (code := kX6_clear) rfl rfl rfl rfl gX6_clear_ok ⟨_, _, _, _, rfl⟩).trans (dX6_clear_rs _ _ s x1 x2)
theorem jX6_clear_48_bk (call : mm_ct) (n : Nat) (s : mm_S) (v1 : Int32) (v2 : Int32) (v3 : Int32) : am_bk (mm_hop call) am_no (some .int) kX6_clear (n + 1) 48 [some (.inl (.ref 0)), some (.inl (.int v1)), some (.inl (.int v2)), some (.inl (.int v3)), none] [] s = jX6_clear_48 (am_bk (mm_hop call) am_no (some .int) kX6_clear n) call s v1 v2 v3 := (am_bk_of rfl (gX6_clear_ok call)).trans rfl
theorem jX6_clear_66_bk (call : mm_ct) (n : Nat) (s : mm_S) (v1 : Int32) (v2 : Int32) (v3 : Int32) (o4 : Option am_V) : am_bk (mm_hop call) am_no (some .int) kX6_clear (n + 1) 66 [some (.inl (.ref 0)), some (.inl (.int v1)), some (.inl (.int v2)), some (.inl (.int v3)), o4] [] s = jX6_clear_66 (am_bk (mm_hop call) am_no (some .int) kX6_clear n) call s v1 v2 v3 o4 := (am_bk_of rfl (gX6_clear_ok call)).trans rfl
theorem jX6_clear_96_bk (call : mm_ct) (n : Nat) (s : mm_S) (v1 : Int32) (v2 : Int32) (v3 : Int32) (v4 : Int32) : am_bk (mm_hop call) am_no (some .int) kX6_clear (n + 1) 96 [some (.inl (.ref 0)), some (.inl (.int v1)), some (.inl (.int v2)), some (.inl (.int v3)), some (.inl (.int v4))] [] s = jX6_clear_96 (am_bk (mm_hop call) am_no (some .int) kX6_clear n) call s v1 v2 v3 v4 := (am_bk_of rfl (gX6_clear_ok call)).trans rfl
theorem jX6_clear_138_bk (call : mm_ct) (n : Nat) (s : mm_S) (v1 : Int32) (v2 : Int32) (v3 : Int32) (o4 : Option am_V) : am_bk (mm_hop call) am_no (some .int) kX6_clear (n + 1) 138 [some (.inl (.ref 0)), some (.inl (.int v1)), some (.inl (.int v2)), some (.inl (.int v3)), o4] [] s = jX6_clear_138 (am_bk (mm_hop call) am_no (some .int) kX6_clear n) call s v1 v2 v3 o4 := (am_bk_of rfl (gX6_clear_ok call)).trans rfl
theorem jX6_clear_149_bk (call : mm_ct) (n : Nat) (s : mm_S) (v1 : Int32) (v2 : Int32) (v3 : Int32) (v4 : Int32) : am_bk (mm_hop call) am_no (some .int) kX6_clear (n + 1) 149 [some (.inl (.ref 0)), some (.inl (.int v1)), some (.inl (.int v2)), some (.inl (.int v3)), some (.inl (.int v4))] [] s = jX6_clear_149 (am_bk (mm_hop call) am_no (some .int) kX6_clear n) call s v1 v2 v3 v4 := (am_bk_of rfl (gX6_clear_ok call)).trans rfl
noncomputable def dX6_adds (back : mm_bt) (call : mm_ct) (s : mm_S) (x1 : Int32) (x2 : Int32) (x3 : Int32) (x4 : Int32) : am_R mm_S :=
  am_cv (call 4 [.inl (.ref 0), .inl (.int ((ic 120) + (s.1 23))), .inl (.int x1), .inl (.int x2), .inl (.int x3), .inl (.int x4)] s) am_tx fun s2 =>
  some (.inl none, (mm_p s2 23 ((s2.1 23) + (ic 1))))
theorem dX6_adds_rs (back : mm_bt) (call : mm_ct) (s : mm_S) (x1 : Int32) (x2 : Int32) (x3 : Int32) (x4 : Int32) : (am_r2 back (gX6_adds call)).1 [some (.inl (.ref 0)), some (.inl (.int x1)), some (.inl (.int x2)), some (.inl (.int x3)), some (.inl (.int x4))] [] s = dX6_adds back call s x1 x2 x3 x4 := rfl
theorem dX6_adds_eq (N f : Nat) (s : mm_S) (x1 : Int32) (x2 : Int32) (x3 : Int32) (x4 : Int32) : mm_call N (f + 1) 30 [.inl (.ref 0), .inl (.int x1), .inl (.int x2), .inl (.int x3), .inl (.int x4)] s = dX6_adds (am_bk (mm_hop (mm_call N f)) am_no none kX6_adds N) (mm_call N f) s x1 x2 x3 x4 := (mm_call_of (mt := 30) (nL := 5) (rt := none) (code := kX6_adds) rfl rfl rfl rfl gX6_adds_ok ⟨_, _, _, _, rfl⟩).trans (dX6_adds_rs _ _ s x1 x2 x3 x4)
noncomputable def jX6_grows_121 (back : mm_bt) (call : mm_ct) (s : mm_S) (v1 : Int32) (v2 : Int32) (v3 : Int32) (v4 : Int32) (v5 : Int32) : am_R mm_S := (am_r2 back (gX6_grows_121 call)).1 [some (.inl (.ref 0)), some (.inl (.int v1)), some (.inl (.int v2)), some (.inl (.int v3)), some (.inl (.int v4)), some (.inl (.int v5))] [] s
noncomputable def jX6_grows_77 (back : mm_bt) (call : mm_ct) (s : mm_S) (v1 : Int32) (v2 : Int32) (v3 : Int32) (v4 : Int32) (v5 : Int32) : am_R mm_S := (am_r2 back (gX6_grows_77 call)).1 [some (.inl (.ref 0)), some (.inl (.int v1)), some (.inl (.int v2)), some (.inl (.int v3)), some (.inl (.int v4)), some (.inl (.int v5))] [] s
noncomputable def jX6_grows_65 (back : mm_bt) (call : mm_ct) (s : mm_S) (v1 : Int32) (v2 : Int32) (v3 : Int32) (v4 : Int32) (o5 : Option am_V) : am_R mm_S := (am_r2 back (gX6_grows_65 call)).1 [some (.inl (.ref 0)), some (.inl (.int v1)), some (.inl (.int v2)), some (.inl (.int v3)), some (.inl (.int v4)), o5] [] s
noncomputable def jX6_grows_61 (back : mm_bt) (call : mm_ct) (s : mm_S) (v1 : Int32) (v2 : Int32) (v3 : Int32) (o4 : Option am_V) (o5 : Option am_V) : am_R mm_S := (am_r2 back (gX6_grows_61 call)).1 [some (.inl (.ref 0)), some (.inl (.int v1)), some (.inl (.int v2)), some (.inl (.int v3)), o4, o5] [] s
noncomputable def jX6_grows_8 (back : mm_bt) (call : mm_ct) (s : mm_S) (v1 : Int32) (v2 : Int32) (v3 : Int32) (o4 : Option am_V) (o5 : Option am_V) : am_R mm_S := (am_r2 back (gX6_grows_8 call)).1 [some (.inl (.ref 0)), some (.inl (.int v1)), some (.inl (.int v2)), some (.inl (.int v3)), o4, o5] [] s
noncomputable def jX6_grows_61_28 (back : mm_bt) (call : mm_ct) (s : mm_S) (v1 : Int32) (v2 : Int32) (v3 : Int32) (o4 : Option am_V) (o5 : Option am_V) : am_R mm_S := (am_r2 back (gX6_grows_28 call)).2 61 [some (.inl (.ref 0)), some (.inl (.int v1)), some (.inl (.int v2)), some (.inl (.int v3)), o4, o5] [] s
theorem jX6_grows_61_28_eq (back : mm_bt) (call : mm_ct) (s : mm_S) (v1 : Int32) (v2 : Int32) (v3 : Int32) (o4 : Option am_V) (o5 : Option am_V) : jX6_grows_61_28 back call s v1 v2 v3 o4 o5 = jX6_grows_61 back call s v1 v2 v3 o4 o5 := rfl
noncomputable def jX6_grows_121_84 (back : mm_bt) (call : mm_ct) (s : mm_S) (v1 : Int32) (v2 : Int32) (v3 : Int32) (v4 : Int32) (v5 : Int32) : am_R mm_S := (am_r2 back (gX6_grows_84 call)).2 121 [some (.inl (.ref 0)), some (.inl (.int v1)), some (.inl (.int v2)), some (.inl (.int v3)), some (.inl (.int v4)), some (.inl (.int v5))] [] s
theorem jX6_grows_121_84_eq (back : mm_bt) (call : mm_ct) (s : mm_S) (v1 : Int32) (v2 : Int32) (v3 : Int32) (v4 : Int32) (v5 : Int32) : jX6_grows_121_84 back call s v1 v2 v3 v4 v5 = jX6_grows_121 back call s v1 v2 v3 v4 v5 := rfl
noncomputable def jX6_grows_121_104 (back : mm_bt) (call : mm_ct) (s : mm_S) (v1 : Int32) (v2 : Int32) (v3 : Int32) (v4 : Int32) (v5 : Int32) : am_R mm_S := (am_r2 back (gX6_grows_104 call)).2 121 [some (.inl (.ref 0)), some (.inl (.int v1)), some (.inl (.int v2)), some (.inl (.int v3)), some (.inl (.int v4)), some (.inl (.int v5))] [] s
theorem jX6_grows_121_104_eq (back : mm_bt) (call : mm_ct) (s : mm_S) (v1 : Int32) (v2 : Int32) (v3 : Int32) (v4 : Int32) (v5 : Int32) : jX6_grows_121_104 back call s v1 v2 v3 v4 v5 = jX6_grows_121 back call s v1 v2 v3 v4 v5 := rfl
theorem jX6_grows_121_eq (back : mm_bt) (call : mm_ct) (s : mm_S) (v1 : Int32) (v2 : Int32) (v3 : Int32) (v4 : Int32) (v5 : Int32) : jX6_grows_121 back call s v1 v2 v3 v4 v5 =
  back 65 [some (.inl (.ref 0)), some (.inl (.int v1)), some (.inl (.int v2)), some (.inl (.int v3)), some (.inl (.int (v4 + ic 1))), some (.inl (.int v5))] [] s := rfl
theorem jX6_grows_77_eq (back : mm_bt) (call : mm_ct) (s : mm_S) (v1 : Int32) (v2 : Int32) (v3 : Int32) (v4 : Int32) (v5 : Int32) : jX6_grows_77 back call s v1 v2 v3 v4 v5 =
  if (ic 6) < v5 then
    jX6_grows_121_84 back call s v1 v2 v3 v4 v5
  else
    am_ix v3 450 fun j12 =>
    am_ix v4 450 fun j13 =>
    if ((s.2.1 5 j12) + (s.2.1 5 j13)) = (v1 - (ic 1)) then
      am_cv (call 30 [.inl (.ref 0), .inl (.int v5), .inl (.int (ic (-2))), .inl (.int v3), .inl (.int v4)] s) am_tx fun s14 =>
      back 77 [some (.inl (.ref 0)), some (.inl (.int v1)), some (.inl (.int v2)), some (.inl (.int v3)), some (.inl (.int v4)), some (.inl (.int (v5 + ic 1)))] [] s14
    else
      jX6_grows_121_104 back call s v1 v2 v3 v4 v5 := rfl
theorem jX6_grows_65_eq (back : mm_bt) (call : mm_ct) (s : mm_S) (v1 : Int32) (v2 : Int32) (v3 : Int32) (v4 : Int32) (o5 : Option am_V) : jX6_grows_65 back call s v1 v2 v3 v4 o5 =
  if ((ic 120) + v2) ≤ v4 then
    back 8 [some (.inl (.ref 0)), some (.inl (.int v1)), some (.inl (.int v2)), some (.inl (.int (v3 + ic 1))), some (.inl (.int v4)), o5] [] s
  else
    jX6_grows_77 back call s v1 v2 v3 v4 (ic 2) := rfl
theorem jX6_grows_61_eq (back : mm_bt) (call : mm_ct) (s : mm_S) (v1 : Int32) (v2 : Int32) (v3 : Int32) (o4 : Option am_V) (o5 : Option am_V) : jX6_grows_61 back call s v1 v2 v3 o4 o5 =
  jX6_grows_65 back call s v1 v2 v3 (ic 120) o5 := rfl
theorem jX6_grows_8_eq (back : mm_bt) (call : mm_ct) (s : mm_S) (v1 : Int32) (v2 : Int32) (v3 : Int32) (o4 : Option am_V) (o5 : Option am_V) : jX6_grows_8 back call s v1 v2 v3 o4 o5 =
  if ((ic 120) + v2) ≤ v3 then
    some (.inl none, s)
  else
    am_ix v3 450 fun j15 =>
    if (s.2.1 5 j15) = (v1 - (ic 1)) then
      am_cv (call 30 [.inl (.ref 0), .inl (.int (ic 7)), .inl (.int (ic (-2))), .inl (.int v3), .inl (.int (ic (-2)))] s) am_tx fun s16 =>
      am_cv (call 30 [.inl (.ref 0), .inl (.int (ic 8)), .inl (.int (ic (-2))), .inl (.int v3), .inl (.int (ic (-2)))] s16) am_tx fun s17 =>
      am_cv (call 30 [.inl (.ref 0), .inl (.int (ic 9)), .inl (.int (ic 9)), .inl (.int v3), .inl (.int (ic (-2)))] s17) am_tx fun s18 =>
      jX6_grows_61 back call s18 v1 v2 v3 o4 o5
    else
      jX6_grows_61_28 back call s v1 v2 v3 o4 o5 := rfl
noncomputable def dX6_grows (back : mm_bt) (call : mm_ct) (s : mm_S) (x1 : Int32) : am_R mm_S :=
  jX6_grows_8 back call s x1 (s.1 23) (ic 120) none none
theorem dX6_grows_rs (back : mm_bt) (call : mm_ct) (s : mm_S) (x1 : Int32) : (am_r2 back (gX6_grows call)).1 [some (.inl (.ref 0)), some (.inl (.int x1)), none, none, none, none] [] s = dX6_grows back call s x1 := rfl
theorem dX6_grows_eq (N f : Nat) (s : mm_S) (x1 : Int32) : mm_call N (f + 1) 31 [.inl (.ref 0), .inl (.int x1)] s = dX6_grows (am_bk (mm_hop (mm_call N f)) am_no none kX6_grows N) (mm_call N f) s x1 := (mm_call_of (mt := 31) (nL := 6) (rt := none) (code := kX6_grows) rfl rfl rfl rfl gX6_grows_ok ⟨_, _, _, _, rfl⟩).trans (dX6_grows_rs _ _ s x1)
theorem jX6_grows_8_bk (call : mm_ct) (n : Nat) (s : mm_S) (v1 : Int32) (v2 : Int32) (v3 : Int32) (o4 : Option am_V) (o5 : Option am_V) : am_bk (mm_hop call) am_no none kX6_grows (n + 1) 8 [some (.inl (.ref 0)), some (.inl (.int v1)), some (.inl (.int v2)), some (.inl (.int v3)), o4, o5] [] s = jX6_grows_8 (am_bk (mm_hop call) am_no none kX6_grows n) call s v1 v2 v3 o4 o5 := (am_bk_of rfl (gX6_grows_ok call)).trans rfl
theorem jX6_grows_65_bk (call : mm_ct) (n : Nat) (s : mm_S) (v1 : Int32) (v2 : Int32) (v3 : Int32) (v4 : Int32) (o5 : Option am_V) : am_bk (mm_hop call) am_no none kX6_grows (n + 1) 65 [some (.inl (.ref 0)), some (.inl (.int v1)), some (.inl (.int v2)), some (.inl (.int v3)), some (.inl (.int v4)), o5] [] s = jX6_grows_65 (am_bk (mm_hop call) am_no none kX6_grows n) call s v1 v2 v3 v4 o5 := (am_bk_of rfl (gX6_grows_ok call)).trans rfl
theorem jX6_grows_77_bk (call : mm_ct) (n : Nat) (s : mm_S) (v1 : Int32) (v2 : Int32) (v3 : Int32) (v4 : Int32) (v5 : Int32) : am_bk (mm_hop call) am_no none kX6_grows (n + 1) 77 [some (.inl (.ref 0)), some (.inl (.int v1)), some (.inl (.int v2)), some (.inl (.int v3)), some (.inl (.int v4)), some (.inl (.int v5))] [] s = jX6_grows_77 (am_bk (mm_hop call) am_no none kX6_grows n) call s v1 v2 v3 v4 v5 := (am_bk_of rfl (gX6_grows_ok call)).trans rfl
noncomputable def jX6_isSame_71 (back : mm_bt) (call : mm_ct) (s : mm_S) (v1 : Int32) (v2 : Int32) (v3 : Int32) (v4 : Int32) (vs0 : Int32) : am_R mm_S := (am_r2 back (gX6_isSame_71 call)).1 [some (.inl (.ref 0)), some (.inl (.int v1)), some (.inl (.int v2)), some (.inl (.int v3)), some (.inl (.int v4))] [.inl (.int vs0)] s
noncomputable def jX6_isSame_24 (back : mm_bt) (call : mm_ct) (s : mm_S) (v1 : Int32) (v2 : Int32) (v3 : Int32) (v4 : Int32) : am_R mm_S := (am_r2 back (gX6_isSame_24 call)).1 [some (.inl (.ref 0)), some (.inl (.int v1)), some (.inl (.int v2)), some (.inl (.int v3)), some (.inl (.int v4))] [] s
noncomputable def jX6_isSame_20 (back : mm_bt) (call : mm_ct) (s : mm_S) (v1 : Int32) (v2 : Int32) (vs0 : Int32) : am_R mm_S := (am_r2 back (gX6_isSame_20 call)).1 [some (.inl (.ref 0)), some (.inl (.int v1)), some (.inl (.int v2)), none, none] [.inl (.int vs0)] s
noncomputable def jX6_isSame_20_19 (back : mm_bt) (call : mm_ct) (s : mm_S) (v1 : Int32) (v2 : Int32) (vs0 : Int32) : am_R mm_S := (am_r2 back (gX6_isSame_19 call)).2 20 [some (.inl (.ref 0)), some (.inl (.int v1)), some (.inl (.int v2)), none, none] [.inl (.int vs0)] s
theorem jX6_isSame_20_19_eq (back : mm_bt) (call : mm_ct) (s : mm_S) (v1 : Int32) (v2 : Int32) (vs0 : Int32) : jX6_isSame_20_19 back call s v1 v2 vs0 = jX6_isSame_20 back call s v1 v2 vs0 := rfl
noncomputable def jX6_isSame_71_70 (back : mm_bt) (call : mm_ct) (s : mm_S) (v1 : Int32) (v2 : Int32) (v3 : Int32) (v4 : Int32) (vs0 : Int32) : am_R mm_S := (am_r2 back (gX6_isSame_70 call)).2 71 [some (.inl (.ref 0)), some (.inl (.int v1)), some (.inl (.int v2)), some (.inl (.int v3)), some (.inl (.int v4))] [.inl (.int vs0)] s
theorem jX6_isSame_71_70_eq (back : mm_bt) (call : mm_ct) (s : mm_S) (v1 : Int32) (v2 : Int32) (v3 : Int32) (v4 : Int32) (vs0 : Int32) : jX6_isSame_71_70 back call s v1 v2 v3 v4 vs0 = jX6_isSame_71 back call s v1 v2 v3 v4 vs0 := rfl
theorem jX6_isSame_71_eq (back : mm_bt) (call : mm_ct) (s : mm_S) (v1 : Int32) (v2 : Int32) (v3 : Int32) (v4 : Int32) (vs0 : Int32) : jX6_isSame_71 back call s v1 v2 v3 v4 vs0 =
  back 24 [some (.inl (.ref 0)), some (.inl (.int v1)), some (.inl (.int v2)), some (.inl (.int vs0)), some (.inl (.int (v4 + ic 1)))] [] s := rfl
theorem jX6_isSame_24_eq (back : mm_bt) (call : mm_ct) (s : mm_S) (v1 : Int32) (v2 : Int32) (v3 : Int32) (v4 : Int32) : jX6_isSame_24 back call s v1 v2 v3 v4 =
  am_ix v1 280 fun j6 =>
  if (s.2.1 25 j6) ≤ v4 then
    some (.inl (some (.inl (.int (v3 &&& 1)))), s)
  else
    if v3 = 0 then
      some (.inl (some (.inl (.int (v3 &&& 1)))), s)
    else
      am_ix (((ic 20) * v1) + v4) 5600 fun j7 =>
      am_ix (((ic 20) * v2) + v4) 5600 fun j8 =>
      if (s.2.1 24 j7) = (s.2.1 24 j8) then
        jX6_isSame_71_70 back call s v1 v2 v3 v4 (ic 1)
      else
        jX6_isSame_71 back call s v1 v2 v3 v4 (ic 0) := rfl
theorem jX6_isSame_20_eq (back : mm_bt) (call : mm_ct) (s : mm_S) (v1 : Int32) (v2 : Int32) (vs0 : Int32) : jX6_isSame_20 back call s v1 v2 vs0 =
  jX6_isSame_24 back call s v1 v2 vs0 (ic 0) := rfl
noncomputable def dX6_isSame (back : mm_bt) (call : mm_ct) (s : mm_S) (x1 : Int32) (x2 : Int32) : am_R mm_S :=
  am_ix x1 280 fun j9 =>
  am_ix x2 280 fun j10 =>
  if (s.2.1 25 j9) = (s.2.1 25 j10) then
    jX6_isSame_20_19 back call s x1 x2 (ic 1)
  else
    jX6_isSame_20 back call s x1 x2 (ic 0)
theorem dX6_isSame_rs (back : mm_bt) (call : mm_ct) (s : mm_S) (x1 : Int32) (x2 : Int32) : (am_r2 back (gX6_isSame call)).1 [some (.inl (.ref 0)), some (.inl (.int x1)), some (.inl (.int x2)), none, none] [] s = dX6_isSame back call s x1 x2 := rfl
theorem dX6_isSame_eq (N f : Nat) (s : mm_S) (x1 : Int32) (x2 : Int32) : mm_call N (f + 1) 32 [.inl (.ref 0), .inl (.int x1), .inl (.int x2)] s = dX6_isSame (am_bk (mm_hop (mm_call N f)) am_no (some .boolean) kX6_isSame N) (mm_call N f) s x1 x2 := (mm_call_of (mt := 32) (nL := 5) (rt := (some .boolean)) (code := kX6_isSame) rfl rfl rfl rfl gX6_isSame_ok ⟨_, _, _, _, rfl⟩).trans (dX6_isSame_rs _ _ s x1 x2)
theorem jX6_isSame_24_bk (call : mm_ct) (n : Nat) (s : mm_S) (v1 : Int32) (v2 : Int32) (v3 : Int32) (v4 : Int32) : am_bk (mm_hop call) am_no (some .boolean) kX6_isSame (n + 1) 24 [some (.inl (.ref 0)), some (.inl (.int v1)), some (.inl (.int v2)), some (.inl (.int v3)), some (.inl (.int v4))] [] s = jX6_isSame_24 (am_bk (mm_hop call) am_no (some .boolean) kX6_isSame n) call s v1 v2 v3 v4 := (am_bk_of rfl (gX6_isSame_ok call)).trans rfl
noncomputable def jX6_hear_60 (back : mm_bt) (call : mm_ct) (s : mm_S) (v1 : Int32) (v2 : Int32) (v3 : Int32) : am_R mm_S := (am_r2 back (gX6_hear_60 call)).1 [some (.inl (.ref 0)), some (.inl (.int v1)), some (.inl (.int v2)), some (.inl (.int v3))] [] s
noncomputable def jX6_hear_16 (back : mm_bt) (call : mm_ct) (s : mm_S) (v1 : Int32) (v2 : Int32) (v3 : Int32) : am_R mm_S := (am_r2 back (gX6_hear_16 call)).1 [some (.inl (.ref 0)), some (.inl (.int v1)), some (.inl (.int v2)), some (.inl (.int v3))] [] s
theorem jX6_hear_60_eq (back : mm_bt) (call : mm_ct) (s : mm_S) (v1 : Int32) (v2 : Int32) (v3 : Int32) : jX6_hear_60 back call s v1 v2 v3 =
  if v3 < 0 then
    some (.inl (some (.inl (.int (s.1 10)))), s)
  else
    am_ix (s.1 10) 20 fun j4 =>
    back 60 [some (.inl (.ref 0)), some (.inl (.int v1)), some (.inl (.int v2)), some (.inl (.int (v3 + ic (-1))))] [] (mm_p (mm_pa s 9 j4 ((v2 >>> (((ic 5) * v3) &&& 31)) &&& (ic 31))) 10 (((mm_pa s 9 j4 ((v2 >>> (((ic 5) * v3) &&& 31)) &&& (ic 31))).1 10) + (ic 1))) := rfl
theorem jX6_hear_16_eq (back : mm_bt) (call : mm_ct) (s : mm_S) (v1 : Int32) (v2 : Int32) (v3 : Int32) : jX6_hear_16 back call s v1 v2 v3 =
  if v1 ≤ v3 then
    if ((s.1 10) + v1) ≤ (ic 20) then
      jX6_hear_60 back call s v1 v2 (v1 - (ic 1))
    else
      some (.inl (some (.inl (.int (ic (-2))))), s)
  else
    if ((v2 >>> (((ic 5) * v3) &&& 31)) &&& (ic 31)) = (ic 31) then
      some (.inl (some (.inl (.int (ic (-1))))), s)
    else
      back 16 [some (.inl (.ref 0)), some (.inl (.int v1)), some (.inl (.int v2)), some (.inl (.int (v3 + ic 1)))] [] s := rfl
noncomputable def dX6_hear (back : mm_bt) (call : mm_ct) (s : mm_S) (x1 : Int32) (x2 : Int32) : am_R mm_S :=
  am_ci (call 3 [.inl (.long x1.toInt64), .inl (.long (lN 1)), .inl (.long 5)] s) am_tx fun r6 s5 =>
  if r6 = 0 then
    some (.inl (some (.inl (.int (ic (-1))))), s5)
  else
    jX6_hear_16 back call s5 x1 x2 (ic 0)
theorem dX6_hear_rs (back : mm_bt) (call : mm_ct) (s : mm_S) (x1 : Int32) (x2 : Int32) : (am_r2 back (gX6_hear call)).1 [some (.inl (.ref 0)), some (.inl (.int x1)), some (.inl (.int x2)), none] [] s = dX6_hear back call s x1 x2 := rfl
theorem dX6_hear_eq (N f : Nat) (s : mm_S) (x1 : Int32) (x2 : Int32) : mm_call N (f + 1) 33 [.inl (.ref 0), .inl (.int x1), .inl (.int x2)] s = dX6_hear (am_bk (mm_hop (mm_call N f)) am_no (some .int) kX6_hear N) (mm_call N f) s x1 x2 := (mm_call_of (mt := 33) (nL := 4) (rt := (some .int)) (code := kX6_hear) rfl rfl rfl rfl gX6_hear_ok ⟨_, _, _, _, rfl⟩).trans (dX6_hear_rs _ _ s x1 x2)
theorem jX6_hear_16_bk (call : mm_ct) (n : Nat) (s : mm_S) (v1 : Int32) (v2 : Int32) (v3 : Int32) : am_bk (mm_hop call) am_no (some .int) kX6_hear (n + 1) 16 [some (.inl (.ref 0)), some (.inl (.int v1)), some (.inl (.int v2)), some (.inl (.int v3))] [] s = jX6_hear_16 (am_bk (mm_hop call) am_no (some .int) kX6_hear n) call s v1 v2 v3 := (am_bk_of rfl (gX6_hear_ok call)).trans rfl
theorem jX6_hear_60_bk (call : mm_ct) (n : Nat) (s : mm_S) (v1 : Int32) (v2 : Int32) (v3 : Int32) : am_bk (mm_hop call) am_no (some .int) kX6_hear (n + 1) 60 [some (.inl (.ref 0)), some (.inl (.int v1)), some (.inl (.int v2)), some (.inl (.int v3))] [] s = jX6_hear_60 (am_bk (mm_hop call) am_no (some .int) kX6_hear n) call s v1 v2 v3 := (am_bk_of rfl (gX6_hear_ok call)).trans rfl
noncomputable def dX6_listen (back : mm_bt) (call : mm_ct) (s : mm_S) (x1 : Int32) (x2 : Int32) : am_R mm_S :=
  am_ci (call 17 [.inl (.int x1)] s) am_tx fun r10 s9 =>
  if r10 = 0 then
    some (.inl (some (.inl (.int (ic (-1))))), s9)
  else
    am_ci (call 6 [.inl (.ref 0), .inl (.int x2)] s9) am_tx fun r12 s11 =>
    if r12 = 0 then
      some (.inl (some (.inl (.int (ic (-1))))), s11)
    else
      am_ci (call 20 [.inl (.ref 0), .inl (.int x1), .inl (.int x2)] s11) am_tx fun r14 s13 =>
      if r14 ≤ (ic 80) then
        if r14 ≤ (ic 20) then
          am_cv (call 24 [.inl (.ref 0), .inl (.int x1), .inl (.int x2)] s13) am_tx fun s15 =>
          am_cv (call 35 [.inl (.ref 0)] s15) am_tx fun s16 =>
          some (.inl (some (.inl (.int (s16.1 10)))), s16)
        else
          some (.inl (some (.inl (.int (ic (-2))))), s13)
      else
        some (.inl (some (.inl (.int (ic (-5))))), s13)
theorem dX6_listen_rs (back : mm_bt) (call : mm_ct) (s : mm_S) (x1 : Int32) (x2 : Int32) : (am_r2 back (gX6_listen call)).1 [some (.inl (.ref 0)), some (.inl (.int x1)), some (.inl (.int x2)), none] [] s = dX6_listen back call s x1 x2 := rfl
theorem dX6_listen_eq (N f : Nat) (s : mm_S) (x1 : Int32) (x2 : Int32) : mm_call N (f + 1) 34 [.inl (.ref 0), .inl (.int x1), .inl (.int x2)] s = dX6_listen (am_bk (mm_hop (mm_call N f)) am_no (some .int) kX6_listen N) (mm_call N f) s x1 x2 := (mm_call_of (mt := 34) (nL := 4) (rt := (some .int)) (code := kX6_listen) rfl rfl rfl rfl gX6_listen_ok ⟨_, _, _, _, rfl⟩).trans (dX6_listen_rs _ _ s x1 x2)
noncomputable def jX6_hears_2 (back : mm_bt) (call : mm_ct) (s : mm_S) (v1 : Int32) : am_R mm_S := (am_r2 back (gX6_hears_2 call)).1 [some (.inl (.ref 0)), some (.inl (.int v1))] [] s
theorem jX6_hears_2_eq (back : mm_bt) (call : mm_ct) (s : mm_S) (v1 : Int32) : jX6_hears_2 back call s v1 =
  if (s.1 18) ≤ v1 then
    some (.inl none, (mm_p s 10 (s.1 18)))
  else
    am_ix v1 256 fun j3 =>
    am_ix v1 20 fun j4 =>
    back 2 [some (.inl (.ref 0)), some (.inl (.int (v1 + ic 1)))] [] (mm_pa s 9 j4 (s.2.1 17 j3)) := rfl
noncomputable def dX6_hears (back : mm_bt) (call : mm_ct) (s : mm_S)  : am_R mm_S :=
  jX6_hears_2 back call s (ic 0)
theorem dX6_hears_rs (back : mm_bt) (call : mm_ct) (s : mm_S)  : (am_r2 back (gX6_hears call)).1 [some (.inl (.ref 0)), none] [] s = dX6_hears back call s  := rfl
theorem dX6_hears_eq (N f : Nat) (s : mm_S)  : mm_call N (f + 1) 35 [.inl (.ref 0)] s = dX6_hears (am_bk (mm_hop (mm_call N f)) am_no none kX6_hears N) (mm_call N f) s  := (mm_call_of (mt := 35) (nL := 2) (rt := none) (code := kX6_hears) rfl rfl rfl rfl gX6_hears_ok ⟨_, _, _, _, rfl⟩).trans (dX6_hears_rs _ _ s )
theorem jX6_hears_2_bk (call : mm_ct) (n : Nat) (s : mm_S) (v1 : Int32) : am_bk (mm_hop call) am_no none kX6_hears (n + 1) 2 [some (.inl (.ref 0)), some (.inl (.int v1))] [] s = jX6_hears_2 (am_bk (mm_hop call) am_no none kX6_hears n) call s v1 := (am_bk_of rfl (gX6_hears_ok call)).trans rfl
noncomputable def dX6_hush (back : mm_bt) (call : mm_ct) (s : mm_S)  : am_R mm_S :=
  some (.inl (some (.inl (.int (s.1 10)))), (mm_p s 10 (ic 0)))
theorem dX6_hush_rs (back : mm_bt) (call : mm_ct) (s : mm_S)  : (am_r2 back (gX6_hush call)).1 [some (.inl (.ref 0)), none] [] s = dX6_hush back call s  := rfl
theorem dX6_hush_eq (N f : Nat) (s : mm_S)  : mm_call N (f + 1) 36 [.inl (.ref 0)] s = dX6_hush (am_bk (mm_hop (mm_call N f)) am_no (some .int) kX6_hush N) (mm_call N f) s  := (mm_call_of (mt := 36) (nL := 2) (rt := (some .int)) (code := kX6_hush) rfl rfl rfl rfl gX6_hush_ok ⟨_, _, _, _, rfl⟩).trans (dX6_hush_rs _ _ s )
noncomputable def dX6_ear (back : mm_bt) (call : mm_ct) (s : mm_S) (x1 : Int32) : am_R mm_S :=
  am_ci (call 3 [.inl (.long x1.toInt64), .inl (.long (lN 0)), .inl (.long ((s.1 10) - (ic 1)).toInt64)] s) am_tx fun r5 s4 =>
  if r5 = 0 then
    some (.inl (some (.inl (.int (ic (-1))))), s4)
  else
    am_ix x1 20 fun j6 =>
    some (.inl (some (.inl (.int (s4.2.1 9 j6)))), s4)
theorem dX6_ear_rs (back : mm_bt) (call : mm_ct) (s : mm_S) (x1 : Int32) : (am_r2 back (gX6_ear call)).1 [some (.inl (.ref 0)), some (.inl (.int x1))] [] s = dX6_ear back call s x1 := rfl
theorem dX6_ear_eq (N f : Nat) (s : mm_S) (x1 : Int32) : mm_call N (f + 1) 37 [.inl (.ref 0), .inl (.int x1)] s = dX6_ear (am_bk (mm_hop (mm_call N f)) am_no (some .int) kX6_ear N) (mm_call N f) s x1 := (mm_call_of (mt := 37) (nL := 2) (rt := (some .int)) (code := kX6_ear) rfl rfl rfl rfl gX6_ear_ok ⟨_, _, _, _, rfl⟩).trans (dX6_ear_rs _ _ s x1)
noncomputable def jX6_readings_18 (back : mm_bt) (call : mm_ct) (s : mm_S) (v1 : Int32) (vs0 : Int32) : am_R mm_S := (am_r2 back (gX6_readings_18 call)).1 [some (.inl (.ref 0)), some (.inl (.int v1))] [.inl (.int vs0), .inl (.ref 0)] s
noncomputable def jX6_readings_18_17 (back : mm_bt) (call : mm_ct) (s : mm_S) (v1 : Int32) (vs0 : Int32) : am_R mm_S := (am_r2 back (gX6_readings_17 call)).2 18 [some (.inl (.ref 0)), some (.inl (.int v1))] [.inl (.int vs0), .inl (.ref 0)] s
theorem jX6_readings_18_17_eq (back : mm_bt) (call : mm_ct) (s : mm_S) (v1 : Int32) (vs0 : Int32) : jX6_readings_18_17 back call s v1 vs0 = jX6_readings_18 back call s v1 vs0 := rfl
theorem jX6_readings_18_eq (back : mm_bt) (call : mm_ct) (s : mm_S) (v1 : Int32) (vs0 : Int32) : jX6_readings_18 back call s v1 vs0 =
  if ((mm_p s 16 vs0).1 16) = 0 then
    am_cl (call 39 [.inl (.ref 0), .inl (.int v1)] (mm_p s 16 vs0)) am_tx fun r6 s5 =>
    some (.inl (some (.inl (.long r6))), s5)
  else
    some (.inl (some (.inl (.long (lN 0)))), (mm_p s 16 vs0)) := rfl
noncomputable def dX6_readings (back : mm_bt) (call : mm_ct) (s : mm_S) (x1 : Int32) : am_R mm_S :=
  am_ci (call 3 [.inl (.long x1.toInt64), .inl (.long (lN 0)), .inl (.long 8)] s) am_tx fun r8 s7 =>
  if r8 = 0 then
    jX6_readings_18 back call s7 x1 (ic 1)
  else
    jX6_readings_18_17 back call s7 x1 (ic 0)
theorem dX6_readings_rs (back : mm_bt) (call : mm_ct) (s : mm_S) (x1 : Int32) : (am_r2 back (gX6_readings call)).1 [some (.inl (.ref 0)), some (.inl (.int x1))] [] s = dX6_readings back call s x1 := rfl
theorem dX6_readings_eq (N f : Nat) (s : mm_S) (x1 : Int32) : mm_call N (f + 1) 38 [.inl (.ref 0), .inl (.int x1)] s = dX6_readings (am_bk (mm_hop (mm_call N f)) am_no (some .long) kX6_readings N) (mm_call N f) s x1 := (mm_call_of (mt := 38) (nL := 2) (rt := (some .long)) (code := kX6_readings) rfl rfl rfl rfl gX6_readings_ok ⟨_, _, _, _, rfl⟩).trans (dX6_readings_rs _ _ s x1)
noncomputable def dX6_counted (back : mm_bt) (call : mm_ct) (s : mm_S) (x1 : Int32) : am_R mm_S :=
  am_cv (call 40 [.inl (.ref 0), .inl (.int x1)] s) am_tx fun s3 =>
  if (s3.1 10) = 0 then
    some (.inl (some (.inl (.long (lN 0)))), s3)
  else
    am_ix (s3.1 10) 441 fun j4 =>
    some (.inl (some (.inl (.long (s3.2.2 27 j4)))), s3)
theorem dX6_counted_rs (back : mm_bt) (call : mm_ct) (s : mm_S) (x1 : Int32) : (am_r2 back (gX6_counted call)).1 [some (.inl (.ref 0)), some (.inl (.int x1))] [] s = dX6_counted back call s x1 := rfl
theorem dX6_counted_eq (N f : Nat) (s : mm_S) (x1 : Int32) : mm_call N (f + 1) 39 [.inl (.ref 0), .inl (.int x1)] s = dX6_counted (am_bk (mm_hop (mm_call N f)) am_no (some .long) kX6_counted N) (mm_call N f) s x1 := (mm_call_of (mt := 39) (nL := 2) (rt := (some .long)) (code := kX6_counted) rfl rfl rfl rfl gX6_counted_ok ⟨_, _, _, _, rfl⟩).trans (dX6_counted_rs _ _ s x1)
noncomputable def jX6_reckons_153 (back : mm_bt) (call : mm_ct) (s : mm_S) (v1 : Int32) (v2 : Int32) (v3 : Int32) (v4 : Int32) (w5 : Int64) (v7 : Int32) (v8 : Int32) (v9 : Int32) (o10 : Option am_V) (ws0 : Int64) : am_R mm_S := (am_r2 back (gX6_reckons_153 call)).1 [some (.inl (.ref 0)), some (.inl (.int v1)), some (.inl (.int v2)), some (.inl (.int v3)), some (.inl (.int v4)), some (.inl (.long w5)), none, some (.inl (.int v7)), some (.inl (.int v8)), some (.inl (.int v9)), o10, none] [.inl (.long ws0)] s
noncomputable def jX6_reckons_108 (back : mm_bt) (call : mm_ct) (s : mm_S) (v1 : Int32) (v2 : Int32) (v3 : Int32) (v4 : Int32) (w5 : Int64) (v7 : Int32) (v8 : Int32) (o9 : Option am_V) (o10 : Option am_V) (vs0 : Int32) : am_R mm_S := (am_r2 back (gX6_reckons_108 call)).1 [some (.inl (.ref 0)), some (.inl (.int v1)), some (.inl (.int v2)), some (.inl (.int v3)), some (.inl (.int v4)), some (.inl (.long w5)), none, some (.inl (.int v7)), some (.inl (.int v8)), o9, o10, none] [.inl (.int vs0)] s
noncomputable def jX6_reckons_107 (back : mm_bt) (call : mm_ct) (s : mm_S) (v1 : Int32) (v2 : Int32) (v3 : Int32) (v4 : Int32) (w5 : Int64) (v7 : Int32) (v8 : Int32) (o9 : Option am_V) (o10 : Option am_V) : am_R mm_S := (am_r2 back (gX6_reckons_107 call)).1 [some (.inl (.ref 0)), some (.inl (.int v1)), some (.inl (.int v2)), some (.inl (.int v3)), some (.inl (.int v4)), some (.inl (.long w5)), none, some (.inl (.int v7)), some (.inl (.int v8)), o9, o10, none] [] s
noncomputable def jX6_reckons_103 (back : mm_bt) (call : mm_ct) (s : mm_S) (v1 : Int32) (v2 : Int32) (v3 : Int32) (v4 : Int32) (w5 : Int64) (v7 : Int32) (v8 : Int32) (o9 : Option am_V) (o10 : Option am_V) : am_R mm_S := (am_r2 back (gX6_reckons_103 call)).1 [some (.inl (.ref 0)), some (.inl (.int v1)), some (.inl (.int v2)), some (.inl (.int v3)), some (.inl (.int v4)), some (.inl (.long w5)), none, some (.inl (.int v7)), some (.inl (.int v8)), o9, o10, none] [] s
noncomputable def jX6_reckons_58 (back : mm_bt) (call : mm_ct) (s : mm_S) (v1 : Int32) (v2 : Int32) (v3 : Int32) (v4 : Int32) (w5 : Int64) (v7 : Int32) (o8 : Option am_V) (o9 : Option am_V) (o10 : Option am_V) (vs0 : Int32) : am_R mm_S := (am_r2 back (gX6_reckons_58 call)).1 [some (.inl (.ref 0)), some (.inl (.int v1)), some (.inl (.int v2)), some (.inl (.int v3)), some (.inl (.int v4)), some (.inl (.long w5)), none, some (.inl (.int v7)), o8, o9, o10, none] [.inl (.int vs0)] s
noncomputable def jX6_reckons_38 (back : mm_bt) (call : mm_ct) (s : mm_S) (v1 : Int32) (v2 : Int32) (v3 : Int32) (v4 : Int32) (w5 : Int64) (v7 : Int32) (o8 : Option am_V) (o9 : Option am_V) (o10 : Option am_V) : am_R mm_S := (am_r2 back (gX6_reckons_38 call)).1 [some (.inl (.ref 0)), some (.inl (.int v1)), some (.inl (.int v2)), some (.inl (.int v3)), some (.inl (.int v4)), some (.inl (.long w5)), none, some (.inl (.int v7)), o8, o9, o10, none] [] s
noncomputable def jX6_reckons_17 (back : mm_bt) (call : mm_ct) (s : mm_S) (v1 : Int32) (v2 : Int32) (v3 : Int32) (o4 : Option am_V) (o5 : Option am_V) (o7 : Option am_V) (o8 : Option am_V) (o9 : Option am_V) (o10 : Option am_V) : am_R mm_S := (am_r2 back (gX6_reckons_17 call)).1 [some (.inl (.ref 0)), some (.inl (.int v1)), some (.inl (.int v2)), some (.inl (.int v3)), o4, o5, none, o7, o8, o9, o10, none] [] s
noncomputable def jX6_reckons_7 (back : mm_bt) (call : mm_ct) (s : mm_S) (v1 : Int32) (v2 : Int32) (o3 : Option am_V) (o4 : Option am_V) (o5 : Option am_V) (o7 : Option am_V) (o8 : Option am_V) (o9 : Option am_V) (o10 : Option am_V) : am_R mm_S := (am_r2 back (gX6_reckons_7 call)).1 [some (.inl (.ref 0)), some (.inl (.int v1)), some (.inl (.int v2)), o3, o4, o5, none, o7, o8, o9, o10, none] [] s
noncomputable def jX6_reckons_58_57 (back : mm_bt) (call : mm_ct) (s : mm_S) (v1 : Int32) (v2 : Int32) (v3 : Int32) (v4 : Int32) (w5 : Int64) (v7 : Int32) (o8 : Option am_V) (o9 : Option am_V) (o10 : Option am_V) (vs0 : Int32) : am_R mm_S := (am_r2 back (gX6_reckons_57 call)).2 58 [some (.inl (.ref 0)), some (.inl (.int v1)), some (.inl (.int v2)), some (.inl (.int v3)), some (.inl (.int v4)), some (.inl (.long w5)), none, some (.inl (.int v7)), o8, o9, o10, none] [.inl (.int vs0)] s
theorem jX6_reckons_58_57_eq (back : mm_bt) (call : mm_ct) (s : mm_S) (v1 : Int32) (v2 : Int32) (v3 : Int32) (v4 : Int32) (w5 : Int64) (v7 : Int32) (o8 : Option am_V) (o9 : Option am_V) (o10 : Option am_V) (vs0 : Int32) : jX6_reckons_58_57 back call s v1 v2 v3 v4 w5 v7 o8 o9 o10 vs0 = jX6_reckons_58 back call s v1 v2 v3 v4 w5 v7 o8 o9 o10 vs0 := rfl
noncomputable def jX6_reckons_103_78 (back : mm_bt) (call : mm_ct) (s : mm_S) (v1 : Int32) (v2 : Int32) (v3 : Int32) (v4 : Int32) (w5 : Int64) (v7 : Int32) (v8 : Int32) (o9 : Option am_V) (o10 : Option am_V) : am_R mm_S := (am_r2 back (gX6_reckons_78 call)).2 103 [some (.inl (.ref 0)), some (.inl (.int v1)), some (.inl (.int v2)), some (.inl (.int v3)), some (.inl (.int v4)), some (.inl (.long w5)), none, some (.inl (.int v7)), some (.inl (.int v8)), o9, o10, none] [] s
theorem jX6_reckons_103_78_eq (back : mm_bt) (call : mm_ct) (s : mm_S) (v1 : Int32) (v2 : Int32) (v3 : Int32) (v4 : Int32) (w5 : Int64) (v7 : Int32) (v8 : Int32) (o9 : Option am_V) (o10 : Option am_V) : jX6_reckons_103_78 back call s v1 v2 v3 v4 w5 v7 v8 o9 o10 = jX6_reckons_103 back call s v1 v2 v3 v4 w5 v7 v8 o9 o10 := rfl
noncomputable def jX6_reckons_107_73 (back : mm_bt) (call : mm_ct) (s : mm_S) (v1 : Int32) (v2 : Int32) (v3 : Int32) (v4 : Int32) (w5 : Int64) (v7 : Int32) (v8 : Int32) (o9 : Option am_V) (o10 : Option am_V) : am_R mm_S := (am_r2 back (gX6_reckons_73 call)).2 107 [some (.inl (.ref 0)), some (.inl (.int v1)), some (.inl (.int v2)), some (.inl (.int v3)), some (.inl (.int v4)), some (.inl (.long w5)), none, some (.inl (.int v7)), some (.inl (.int v8)), o9, o10, none] [] s
theorem jX6_reckons_107_73_eq (back : mm_bt) (call : mm_ct) (s : mm_S) (v1 : Int32) (v2 : Int32) (v3 : Int32) (v4 : Int32) (w5 : Int64) (v7 : Int32) (v8 : Int32) (o9 : Option am_V) (o10 : Option am_V) : jX6_reckons_107_73 back call s v1 v2 v3 v4 w5 v7 v8 o9 o10 = jX6_reckons_107 back call s v1 v2 v3 v4 w5 v7 v8 o9 o10 := rfl
noncomputable def jX6_reckons_107_89 (back : mm_bt) (call : mm_ct) (s : mm_S) (v1 : Int32) (v2 : Int32) (v3 : Int32) (v4 : Int32) (w5 : Int64) (v7 : Int32) (v8 : Int32) (o9 : Option am_V) (o10 : Option am_V) : am_R mm_S := (am_r2 back (gX6_reckons_89 call)).2 107 [some (.inl (.ref 0)), some (.inl (.int v1)), some (.inl (.int v2)), some (.inl (.int v3)), some (.inl (.int v4)), some (.inl (.long w5)), none, some (.inl (.int v7)), some (.inl (.int v8)), o9, o10, none] [] s
theorem jX6_reckons_107_89_eq (back : mm_bt) (call : mm_ct) (s : mm_S) (v1 : Int32) (v2 : Int32) (v3 : Int32) (v4 : Int32) (w5 : Int64) (v7 : Int32) (v8 : Int32) (o9 : Option am_V) (o10 : Option am_V) : jX6_reckons_107_89 back call s v1 v2 v3 v4 w5 v7 v8 o9 o10 = jX6_reckons_107 back call s v1 v2 v3 v4 w5 v7 v8 o9 o10 := rfl
noncomputable def jX6_reckons_107_103 (back : mm_bt) (call : mm_ct) (s : mm_S) (v1 : Int32) (v2 : Int32) (v3 : Int32) (v4 : Int32) (w5 : Int64) (v7 : Int32) (v8 : Int32) (o9 : Option am_V) (o10 : Option am_V) : am_R mm_S := (am_r2 back (gX6_reckons_103 call)).2 107 [some (.inl (.ref 0)), some (.inl (.int v1)), some (.inl (.int v2)), some (.inl (.int v3)), some (.inl (.int v4)), some (.inl (.long w5)), none, some (.inl (.int v7)), some (.inl (.int v8)), o9, o10, none] [] s
theorem jX6_reckons_107_103_eq (back : mm_bt) (call : mm_ct) (s : mm_S) (v1 : Int32) (v2 : Int32) (v3 : Int32) (v4 : Int32) (w5 : Int64) (v7 : Int32) (v8 : Int32) (o9 : Option am_V) (o10 : Option am_V) : jX6_reckons_107_103 back call s v1 v2 v3 v4 w5 v7 v8 o9 o10 = jX6_reckons_107 back call s v1 v2 v3 v4 w5 v7 v8 o9 o10 := rfl
noncomputable def jX6_reckons_108_107 (back : mm_bt) (call : mm_ct) (s : mm_S) (v1 : Int32) (v2 : Int32) (v3 : Int32) (v4 : Int32) (w5 : Int64) (v7 : Int32) (v8 : Int32) (o9 : Option am_V) (o10 : Option am_V) (vs0 : Int32) : am_R mm_S := (am_r2 back (gX6_reckons_107 call)).2 108 [some (.inl (.ref 0)), some (.inl (.int v1)), some (.inl (.int v2)), some (.inl (.int v3)), some (.inl (.int v4)), some (.inl (.long w5)), none, some (.inl (.int v7)), some (.inl (.int v8)), o9, o10, none] [.inl (.int vs0)] s
theorem jX6_reckons_108_107_eq (back : mm_bt) (call : mm_ct) (s : mm_S) (v1 : Int32) (v2 : Int32) (v3 : Int32) (v4 : Int32) (w5 : Int64) (v7 : Int32) (v8 : Int32) (o9 : Option am_V) (o10 : Option am_V) (vs0 : Int32) : jX6_reckons_108_107 back call s v1 v2 v3 v4 w5 v7 v8 o9 o10 vs0 = jX6_reckons_108 back call s v1 v2 v3 v4 w5 v7 v8 o9 o10 vs0 := rfl
noncomputable def jX6_reckons_153_119 (back : mm_bt) (call : mm_ct) (s : mm_S) (v1 : Int32) (v2 : Int32) (v3 : Int32) (v4 : Int32) (w5 : Int64) (v7 : Int32) (v8 : Int32) (v9 : Int32) (o10 : Option am_V) (ws0 : Int64) : am_R mm_S := (am_r2 back (gX6_reckons_119 call)).2 153 [some (.inl (.ref 0)), some (.inl (.int v1)), some (.inl (.int v2)), some (.inl (.int v3)), some (.inl (.int v4)), some (.inl (.long w5)), none, some (.inl (.int v7)), some (.inl (.int v8)), some (.inl (.int v9)), o10, none] [.inl (.long ws0)] s
theorem jX6_reckons_153_119_eq (back : mm_bt) (call : mm_ct) (s : mm_S) (v1 : Int32) (v2 : Int32) (v3 : Int32) (v4 : Int32) (w5 : Int64) (v7 : Int32) (v8 : Int32) (v9 : Int32) (o10 : Option am_V) (ws0 : Int64) : jX6_reckons_153_119 back call s v1 v2 v3 v4 w5 v7 v8 v9 o10 ws0 = jX6_reckons_153 back call s v1 v2 v3 v4 w5 v7 v8 v9 o10 ws0 := rfl
noncomputable def jX6_reckons_153_142 (back : mm_bt) (call : mm_ct) (s : mm_S) (v1 : Int32) (v2 : Int32) (v3 : Int32) (v4 : Int32) (w5 : Int64) (v7 : Int32) (v8 : Int32) (v9 : Int32) (o10 : Option am_V) (ws0 : Int64) : am_R mm_S := (am_r2 back (gX6_reckons_142 call)).2 153 [some (.inl (.ref 0)), some (.inl (.int v1)), some (.inl (.int v2)), some (.inl (.int v3)), some (.inl (.int v4)), some (.inl (.long w5)), none, some (.inl (.int v7)), some (.inl (.int v8)), some (.inl (.int v9)), o10, none] [.inl (.long ws0)] s
theorem jX6_reckons_153_142_eq (back : mm_bt) (call : mm_ct) (s : mm_S) (v1 : Int32) (v2 : Int32) (v3 : Int32) (v4 : Int32) (w5 : Int64) (v7 : Int32) (v8 : Int32) (v9 : Int32) (o10 : Option am_V) (ws0 : Int64) : jX6_reckons_153_142 back call s v1 v2 v3 v4 w5 v7 v8 v9 o10 ws0 = jX6_reckons_153 back call s v1 v2 v3 v4 w5 v7 v8 v9 o10 ws0 := rfl
theorem jX6_reckons_153_eq (back : mm_bt) (call : mm_ct) (s : mm_S) (v1 : Int32) (v2 : Int32) (v3 : Int32) (v4 : Int32) (w5 : Int64) (v7 : Int32) (v8 : Int32) (v9 : Int32) (o10 : Option am_V) (ws0 : Int64) : jX6_reckons_153 back call s v1 v2 v3 v4 w5 v7 v8 v9 o10 ws0 =
  am_ix (((ic 20) * (((ic 21) * v3) + v4)) + v7) 8820 fun j25 =>
  am_cl (call 45 [.inl (.long w5), .inl (.long ws0)] (mm_pl s 26 j25 ws0)) am_tx fun r27 s26 =>
  back 38 [some (.inl (.ref 0)), some (.inl (.int v1)), some (.inl (.int v2)), some (.inl (.int v3)), some (.inl (.int v4)), some (.inl (.long r27)), none, some (.inl (.int (v7 + ic 1))), some (.inl (.int v8)), some (.inl (.int v9)), some (.inl (.long ws0)), none] [] s26 := rfl
theorem jX6_reckons_108_eq (back : mm_bt) (call : mm_ct) (s : mm_S) (v1 : Int32) (v2 : Int32) (v3 : Int32) (v4 : Int32) (w5 : Int64) (v7 : Int32) (v8 : Int32) (o9 : Option am_V) (o10 : Option am_V) (vs0 : Int32) : jX6_reckons_108 back call s v1 v2 v3 v4 w5 v7 v8 o9 o10 vs0 =
  if vs0 = 0 then
    jX6_reckons_153_119 back call s v1 v2 v3 v4 w5 v7 v8 vs0 o10 (lN 0)
  else
    if v8 = 0 then
      am_dz (ic 2) (am_cl (call 42 [.inl (.ref 0), .inl (.int (v7 / (ic 2))), .inl (.int v3), .inl (.int v4)] s) am_tx fun r29 s28 =>
      jX6_reckons_153 back call s28 v1 v2 v3 v4 w5 v7 v8 vs0 o10 r29)
    else
      am_dz (ic 2) (am_cl (call 42 [.inl (.ref 0), .inl (.int (v7 / (ic 2))), .inl (.int (v3 + (ic 1))), .inl (.int (v4 - (ic 1)))] s) am_tx fun r31 s30 =>
      jX6_reckons_153_142 back call s30 v1 v2 v3 v4 w5 v7 v8 vs0 o10 r31) := rfl
theorem jX6_reckons_107_eq (back : mm_bt) (call : mm_ct) (s : mm_S) (v1 : Int32) (v2 : Int32) (v3 : Int32) (v4 : Int32) (w5 : Int64) (v7 : Int32) (v8 : Int32) (o9 : Option am_V) (o10 : Option am_V) : jX6_reckons_107 back call s v1 v2 v3 v4 w5 v7 v8 o9 o10 =
  jX6_reckons_108 back call s v1 v2 v3 v4 w5 v7 v8 o9 o10 (ic 0) := rfl
theorem jX6_reckons_103_eq (back : mm_bt) (call : mm_ct) (s : mm_S) (v1 : Int32) (v2 : Int32) (v3 : Int32) (v4 : Int32) (w5 : Int64) (v7 : Int32) (v8 : Int32) (o9 : Option am_V) (o10 : Option am_V) : jX6_reckons_103 back call s v1 v2 v3 v4 w5 v7 v8 o9 o10 =
  jX6_reckons_108_107 back call s v1 v2 v3 v4 w5 v7 v8 o9 o10 (ic 1) := rfl
theorem jX6_reckons_58_eq (back : mm_bt) (call : mm_ct) (s : mm_S) (v1 : Int32) (v2 : Int32) (v3 : Int32) (v4 : Int32) (w5 : Int64) (v7 : Int32) (o8 : Option am_V) (o9 : Option am_V) (o10 : Option am_V) (vs0 : Int32) : jX6_reckons_58 back call s v1 v2 v3 v4 w5 v7 o8 o9 o10 vs0 =
  am_dz (ic 2) (am_ci (call 41 [.inl (.ref 0), .inl (.int (v7 / (ic 2))), .inl (.int vs0)] s) am_tx fun r33 s32 =>
  if r33 = 0 then
    jX6_reckons_107_73 back call s32 v1 v2 v3 v4 w5 v7 vs0 o9 o10
  else
    if vs0 = 0 then
      jX6_reckons_103_78 back call s32 v1 v2 v3 v4 w5 v7 vs0 o9 o10
    else
      am_ix v3 20 fun j34 =>
      if (s32.2.1 9 j34) = (ic 29) then
        am_ix (v4 - (ic 1)) 20 fun j35 =>
        if (s32.2.1 9 j35) = (ic 30) then
          jX6_reckons_103 back call s32 v1 v2 v3 v4 w5 v7 vs0 o9 o10
        else
          jX6_reckons_107_103 back call s32 v1 v2 v3 v4 w5 v7 vs0 o9 o10
      else
        jX6_reckons_107_89 back call s32 v1 v2 v3 v4 w5 v7 vs0 o9 o10) := rfl
theorem jX6_reckons_38_eq (back : mm_bt) (call : mm_ct) (s : mm_S) (v1 : Int32) (v2 : Int32) (v3 : Int32) (v4 : Int32) (w5 : Int64) (v7 : Int32) (o8 : Option am_V) (o9 : Option am_V) (o10 : Option am_V) : jX6_reckons_38 back call s v1 v2 v3 v4 w5 v7 o8 o9 o10 =
  if (ic 20) ≤ v7 then
    am_ix (((ic 21) * v3) + v4) 441 fun j36 =>
    back 17 [some (.inl (.ref 0)), some (.inl (.int v1)), some (.inl (.int v2)), some (.inl (.int (v3 + ic 1))), some (.inl (.int v4)), some (.inl (.long w5)), none, some (.inl (.int v7)), o8, o9, o10, none] [] (mm_pl s 27 j36 w5)
  else
    am_dz (ic 2) (if (v7 - v7 / (ic 2) * (ic 2)) = (ic 1) then
      jX6_reckons_58_57 back call s v1 v2 v3 v4 w5 v7 o8 o9 o10 (ic 1)
    else
      jX6_reckons_58 back call s v1 v2 v3 v4 w5 v7 o8 o9 o10 (ic 0)) := rfl
theorem jX6_reckons_17_eq (back : mm_bt) (call : mm_ct) (s : mm_S) (v1 : Int32) (v2 : Int32) (v3 : Int32) (o4 : Option am_V) (o5 : Option am_V) (o7 : Option am_V) (o8 : Option am_V) (o9 : Option am_V) (o10 : Option am_V) : jX6_reckons_17 back call s v1 v2 v3 o4 o5 o7 o8 o9 o10 =
  if (s.1 10) < (v3 + v2) then
    back 7 [some (.inl (.ref 0)), some (.inl (.int v1)), some (.inl (.int (v2 + ic 1))), some (.inl (.int v3)), o4, o5, none, o7, o8, o9, o10, none] [] s
  else
    jX6_reckons_38 back call s v1 v2 v3 (v3 + v2) (lN 0) (ic 0) o8 o9 o10 := rfl
theorem jX6_reckons_7_eq (back : mm_bt) (call : mm_ct) (s : mm_S) (v1 : Int32) (v2 : Int32) (o3 : Option am_V) (o4 : Option am_V) (o5 : Option am_V) (o7 : Option am_V) (o8 : Option am_V) (o9 : Option am_V) (o10 : Option am_V) : jX6_reckons_7 back call s v1 v2 o3 o4 o5 o7 o8 o9 o10 =
  if (s.1 10) < v2 then
    some (.inl none, s)
  else
    jX6_reckons_17 back call s v1 v2 (ic 0) o4 o5 o7 o8 o9 o10 := rfl
noncomputable def dX6_reckons (back : mm_bt) (call : mm_ct) (s : mm_S) (x1 : Int32) : am_R mm_S :=
  jX6_reckons_7 back call (mm_p s 28 x1) x1 (ic 1) none none none none none none none
theorem dX6_reckons_rs (back : mm_bt) (call : mm_ct) (s : mm_S) (x1 : Int32) : (am_r2 back (gX6_reckons call)).1 [some (.inl (.ref 0)), some (.inl (.int x1)), none, none, none, none, none, none, none, none, none, none] [] s = dX6_reckons back call s x1 := rfl
theorem dX6_reckons_eq (N f : Nat) (s : mm_S) (x1 : Int32) : mm_call N (f + 1) 40 [.inl (.ref 0), .inl (.int x1)] s = dX6_reckons (am_bk (mm_hop (mm_call N f)) am_no none kX6_reckons N) (mm_call N f) s x1 := (mm_call_of (mt := 40) (nL := 12) (rt := none) (code := kX6_reckons) rfl rfl rfl rfl gX6_reckons_ok ⟨_, _, _, _, rfl⟩).trans (dX6_reckons_rs _ _ s x1)
theorem jX6_reckons_7_bk (call : mm_ct) (n : Nat) (s : mm_S) (v1 : Int32) (v2 : Int32) (o3 : Option am_V) (o4 : Option am_V) (o5 : Option am_V) (o7 : Option am_V) (o8 : Option am_V) (o9 : Option am_V) (o10 : Option am_V) : am_bk (mm_hop call) am_no none kX6_reckons (n + 1) 7 [some (.inl (.ref 0)), some (.inl (.int v1)), some (.inl (.int v2)), o3, o4, o5, none, o7, o8, o9, o10, none] [] s = jX6_reckons_7 (am_bk (mm_hop call) am_no none kX6_reckons n) call s v1 v2 o3 o4 o5 o7 o8 o9 o10 := (am_bk_of rfl (gX6_reckons_ok call)).trans rfl
theorem jX6_reckons_17_bk (call : mm_ct) (n : Nat) (s : mm_S) (v1 : Int32) (v2 : Int32) (v3 : Int32) (o4 : Option am_V) (o5 : Option am_V) (o7 : Option am_V) (o8 : Option am_V) (o9 : Option am_V) (o10 : Option am_V) : am_bk (mm_hop call) am_no none kX6_reckons (n + 1) 17 [some (.inl (.ref 0)), some (.inl (.int v1)), some (.inl (.int v2)), some (.inl (.int v3)), o4, o5, none, o7, o8, o9, o10, none] [] s = jX6_reckons_17 (am_bk (mm_hop call) am_no none kX6_reckons n) call s v1 v2 v3 o4 o5 o7 o8 o9 o10 := (am_bk_of rfl (gX6_reckons_ok call)).trans rfl
theorem jX6_reckons_38_bk (call : mm_ct) (n : Nat) (s : mm_S) (v1 : Int32) (v2 : Int32) (v3 : Int32) (v4 : Int32) (w5 : Int64) (v7 : Int32) (o8 : Option am_V) (o9 : Option am_V) (o10 : Option am_V) : am_bk (mm_hop call) am_no none kX6_reckons (n + 1) 38 [some (.inl (.ref 0)), some (.inl (.int v1)), some (.inl (.int v2)), some (.inl (.int v3)), some (.inl (.int v4)), some (.inl (.long w5)), none, some (.inl (.int v7)), o8, o9, o10, none] [] s = jX6_reckons_38 (am_bk (mm_hop call) am_no none kX6_reckons n) call s v1 v2 v3 v4 w5 v7 o8 o9 o10 := (am_bk_of rfl (gX6_reckons_ok call)).trans rfl
noncomputable def dX6_isLet (back : mm_bt) (call : mm_ct) (s : mm_S) (x1 : Int32) (x2 : Int32) : am_R mm_S :=
  if (s.1 28) = (ic 8) then
    if x2 = 0 then
      some (.inl (some (.inl (.int ((ic 1) &&& 1)))), s)
    else
      am_ci (call 18 [.inl (.int x1)] s) am_tx fun r6 s5 =>
      if r6 = 0 then
        some (.inl (some (.inl (.int ((ic 0) &&& 1)))), s5)
      else
        some (.inl (some (.inl (.int ((ic 1) &&& 1)))), s5)
  else
    am_ix (((ic 10) * (s.1 28)) + x1) 90 fun j4 =>
    if (s.2.1 8 j4) = x2 then
      some (.inl (some (.inl (.int ((ic 1) &&& 1)))), s)
    else
      some (.inl (some (.inl (.int ((ic 0) &&& 1)))), s)
theorem dX6_isLet_rs (back : mm_bt) (call : mm_ct) (s : mm_S) (x1 : Int32) (x2 : Int32) : (am_r2 back (gX6_isLet call)).1 [some (.inl (.ref 0)), some (.inl (.int x1)), some (.inl (.int x2))] [] s = dX6_isLet back call s x1 x2 := rfl
theorem dX6_isLet_eq (N f : Nat) (s : mm_S) (x1 : Int32) (x2 : Int32) : mm_call N (f + 1) 41 [.inl (.ref 0), .inl (.int x1), .inl (.int x2)] s = dX6_isLet (am_bk (mm_hop (mm_call N f)) am_no (some .boolean) kX6_isLet N) (mm_call N f) s x1 x2 := (mm_call_of (mt := 41) (nL := 3) (rt := (some .boolean)) (code := kX6_isLet) rfl rfl rfl rfl gX6_isLet_ok ⟨_, _, _, _, rfl⟩).trans (dX6_isLet_rs _ _ s x1 x2)
noncomputable def jX6_within_145 (back : mm_bt) (call : mm_ct) (s : mm_S) (v1 : Int32) (v2 : Int32) (v3 : Int32) (w4 : Int64) (v6 : Int32) (ws0 : Int64) : am_R mm_S := (am_r2 back (gX6_within_145 call)).1 [some (.inl (.ref 0)), some (.inl (.int v1)), some (.inl (.int v2)), some (.inl (.int v3)), some (.inl (.long w4)), none, some (.inl (.int v6))] [.inl (.long ws0)] s
noncomputable def jX6_within_84 (back : mm_bt) (call : mm_ct) (s : mm_S) (v1 : Int32) (v2 : Int32) (v3 : Int32) (w4 : Int64) (v6 : Int32) : am_R mm_S := (am_r2 back (gX6_within_84 call)).1 [some (.inl (.ref 0)), some (.inl (.int v1)), some (.inl (.int v2)), some (.inl (.int v3)), some (.inl (.long w4)), none, some (.inl (.int v6))] [] s
noncomputable def jX6_within_145_143 (back : mm_bt) (call : mm_ct) (s : mm_S) (v1 : Int32) (v2 : Int32) (v3 : Int32) (w4 : Int64) (v6 : Int32) (ws0 : Int64) : am_R mm_S := (am_r2 back (gX6_within_143 call)).2 145 [some (.inl (.ref 0)), some (.inl (.int v1)), some (.inl (.int v2)), some (.inl (.int v3)), some (.inl (.long w4)), none, some (.inl (.int v6))] [.inl (.long ws0)] s
theorem jX6_within_145_143_eq (back : mm_bt) (call : mm_ct) (s : mm_S) (v1 : Int32) (v2 : Int32) (v3 : Int32) (w4 : Int64) (v6 : Int32) (ws0 : Int64) : jX6_within_145_143 back call s v1 v2 v3 w4 v6 ws0 = jX6_within_145 back call s v1 v2 v3 w4 v6 ws0 := rfl
theorem jX6_within_145_eq (back : mm_bt) (call : mm_ct) (s : mm_S) (v1 : Int32) (v2 : Int32) (v3 : Int32) (w4 : Int64) (v6 : Int32) (ws0 : Int64) : jX6_within_145 back call s v1 v2 v3 w4 v6 ws0 =
  back 84 [some (.inl (.ref 0)), some (.inl (.int v1)), some (.inl (.int v2)), some (.inl (.int v3)), some (.inl (.long ws0)), none, some (.inl (.int (v6 + ic 1)))] [] s := rfl
theorem jX6_within_84_eq (back : mm_bt) (call : mm_ct) (s : mm_S) (v1 : Int32) (v2 : Int32) (v3 : Int32) (w4 : Int64) (v6 : Int32) : jX6_within_84 back call s v1 v2 v3 w4 v6 =
  if (v3 - (ic 1)) ≤ v6 then
    some (.inl (some (.inl (.long w4))), s)
  else
    am_ix v6 20 fun j25 =>
    if (s.2.1 9 j25) = ((ic 18) + v1) then
      am_ix (((ic 21) * v2) + v6) 441 fun j26 =>
      am_ix (((ic 21) * (v6 + (ic 1))) + v3) 441 fun j27 =>
      am_cl (call 44 [.inl (.long (s.2.2 27 j26)), .inl (.long (s.2.2 27 j27))] s) am_tx fun r29 s28 =>
      am_cl (call 45 [.inl (.long w4), .inl (.long r29)] s28) am_tx fun r31 s30 =>
      jX6_within_145_143 back call s30 v1 v2 v3 w4 v6 r31
    else
      jX6_within_145 back call s v1 v2 v3 w4 v6 w4 := rfl
noncomputable def dX6_within (back : mm_bt) (call : mm_ct) (s : mm_S) (x1 : Int32) (x2 : Int32) (x3 : Int32) : am_R mm_S :=
  if x2 < x3 then
    if x1 = 0 then
      if (x3 - x2) = (ic 1) then
        am_ix x2 20 fun j46 =>
        if (ic 10) ≤ (s.2.1 9 j46) then
          some (.inl (some (.inl (.long (lN 0)))), s)
        else
          am_ix x2 20 fun j47 =>
          am_ix (s.2.1 9 j47) 10 fun j48 =>
          if (s.2.1 7 j48) = 0 then
            some (.inl (some (.inl (.long (lN 1)))), s)
          else
            some (.inl (some (.inl (.long (lN 0)))), s)
      else
        some (.inl (some (.inl (.long (lN 0)))), s)
    else
      if x1 = (ic 1) then
        am_ci (call 43 [.inl (.ref 0), .inl (.int x2), .inl (.int x3)] s) am_tx fun r45 s44 =>
        if r45 = 0 then
          some (.inl (some (.inl (.long (lN 0)))), s44)
        else
          some (.inl (some (.inl (.long (lN 1)))), s44)
      else
        am_ci (call 7 [.inl (.int x1)] s) am_tx fun r33 s32 =>
        if r33 = 0 then
          if x1 = (ic 7) then
            am_ix x2 20 fun j42 =>
            if (s32.2.1 9 j42) = (ic 25) then
              if (x3 - x2) ≤ (ic 1) then
                some (.inl (some (.inl (.long (lN 0)))), s32)
              else
                am_ix (((ic 21) * (x2 + (ic 1))) + x3) 441 fun j43 =>
                some (.inl (some (.inl (.long (s32.2.2 27 j43)))), s32)
            else
              some (.inl (some (.inl (.long (lN 0)))), s32)
          else
            if x1 = (ic 8) then
              am_ix x2 20 fun j39 =>
              if (s32.2.1 9 j39) = (ic 26) then
                am_ix (x3 - (ic 1)) 20 fun j40 =>
                if (s32.2.1 9 j40) = (ic 27) then
                  if (x3 - x2) ≤ (ic 2) then
                    some (.inl (some (.inl (.long (lN 0)))), s32)
                  else
                    am_ix ((((ic 21) * (x2 + (ic 1))) + x3) - (ic 1)) 441 fun j41 =>
                    some (.inl (some (.inl (.long (s32.2.2 27 j41)))), s32)
                else
                  some (.inl (some (.inl (.long (lN 0)))), s32)
              else
                some (.inl (some (.inl (.long (lN 0)))), s32)
            else
              am_ix x2 20 fun j34 =>
              if (ic 10) ≤ (s32.2.1 9 j34) then
                some (.inl (some (.inl (.long (lN 0)))), s32)
              else
                am_ix x2 20 fun j35 =>
                am_ix (s32.2.1 9 j35) 10 fun j36 =>
                if (s32.2.1 7 j36) = 0 then
                  some (.inl (some (.inl (.long (lN 0)))), s32)
                else
                  if (x3 - x2) ≤ (ic 2) then
                    some (.inl (some (.inl (.long (lN 0)))), s32)
                  else
                    am_ix (x2 + (ic 1)) 20 fun j37 =>
                    if (s32.2.1 9 j37) = (ic 28) then
                      am_ix (((ic 21) * (x2 + (ic 2))) + x3) 441 fun j38 =>
                      some (.inl (some (.inl (.long (s32.2.2 27 j38)))), s32)
                    else
                      some (.inl (some (.inl (.long (lN 0)))), s32)
        else
          jX6_within_84 back call s32 x1 x2 x3 (lN 0) (x2 + (ic 1))
  else
    some (.inl (some (.inl (.long (lN 0)))), s)
theorem dX6_within_rs (back : mm_bt) (call : mm_ct) (s : mm_S) (x1 : Int32) (x2 : Int32) (x3 : Int32) : (am_r2 back (gX6_within call)).1 [some (.inl (.ref 0)), some (.inl (.int x1)), some (.inl (.int x2)), some (.inl (.int x3)), none, none, none] [] s = dX6_within back call s x1 x2 x3 := rfl
theorem dX6_within_eq (N f : Nat) (s : mm_S) (x1 : Int32) (x2 : Int32) (x3 : Int32) : mm_call N (f + 1) 42 [.inl (.ref 0), .inl (.int x1), .inl (.int x2), .inl (.int x3)] s = dX6_within (am_bk (mm_hop (mm_call N f)) am_no (some .long) kX6_within N) (mm_call N f) s x1 x2 x3 := (mm_call_of (mt := 42) (nL := 7) (rt := (some .long)) (code := kX6_within) rfl rfl rfl rfl gX6_within_ok ⟨_, _, _, _, rfl⟩).trans (dX6_within_rs _ _ s x1 x2 x3)
theorem jX6_within_84_bk (call : mm_ct) (n : Nat) (s : mm_S) (v1 : Int32) (v2 : Int32) (v3 : Int32) (w4 : Int64) (v6 : Int32) : am_bk (mm_hop call) am_no (some .long) kX6_within (n + 1) 84 [some (.inl (.ref 0)), some (.inl (.int v1)), some (.inl (.int v2)), some (.inl (.int v3)), some (.inl (.long w4)), none, some (.inl (.int v6))] [] s = jX6_within_84 (am_bk (mm_hop call) am_no (some .long) kX6_within n) call s v1 v2 v3 w4 v6 := (am_bk_of rfl (gX6_within_ok call)).trans rfl
noncomputable def jX6_isNumber_41 (back : mm_bt) (call : mm_ct) (s : mm_S) (v1 : Int32) (v2 : Int32) (v3 : Int32) (v4 : Int32) : am_R mm_S := (am_r2 back (gX6_isNumber_41 call)).1 [some (.inl (.ref 0)), some (.inl (.int v1)), some (.inl (.int v2)), some (.inl (.int v3)), some (.inl (.int v4))] [] s
noncomputable def jX6_isNumber_37 (back : mm_bt) (call : mm_ct) (s : mm_S) (v1 : Int32) (v2 : Int32) (vs0 : Int32) : am_R mm_S := (am_r2 back (gX6_isNumber_37 call)).1 [some (.inl (.ref 0)), some (.inl (.int v1)), some (.inl (.int v2)), none, none] [.inl (.int vs0)] s
noncomputable def jX6_isNumber_36 (back : mm_bt) (call : mm_ct) (s : mm_S) (v1 : Int32) (v2 : Int32) : am_R mm_S := (am_r2 back (gX6_isNumber_36 call)).1 [some (.inl (.ref 0)), some (.inl (.int v1)), some (.inl (.int v2)), none, none] [] s
noncomputable def jX6_isNumber_32 (back : mm_bt) (call : mm_ct) (s : mm_S) (v1 : Int32) (v2 : Int32) : am_R mm_S := (am_r2 back (gX6_isNumber_32 call)).1 [some (.inl (.ref 0)), some (.inl (.int v1)), some (.inl (.int v2)), none, none] [] s
noncomputable def jX6_isNumber_32_25 (back : mm_bt) (call : mm_ct) (s : mm_S) (v1 : Int32) (v2 : Int32) : am_R mm_S := (am_r2 back (gX6_isNumber_25 call)).2 32 [some (.inl (.ref 0)), some (.inl (.int v1)), some (.inl (.int v2)), none, none] [] s
theorem jX6_isNumber_32_25_eq (back : mm_bt) (call : mm_ct) (s : mm_S) (v1 : Int32) (v2 : Int32) : jX6_isNumber_32_25 back call s v1 v2 = jX6_isNumber_32 back call s v1 v2 := rfl
noncomputable def jX6_isNumber_36_7 (back : mm_bt) (call : mm_ct) (s : mm_S) (v1 : Int32) (v2 : Int32) : am_R mm_S := (am_r2 back (gX6_isNumber_7 call)).2 36 [some (.inl (.ref 0)), some (.inl (.int v1)), some (.inl (.int v2)), none, none] [] s
theorem jX6_isNumber_36_7_eq (back : mm_bt) (call : mm_ct) (s : mm_S) (v1 : Int32) (v2 : Int32) : jX6_isNumber_36_7 back call s v1 v2 = jX6_isNumber_36 back call s v1 v2 := rfl
noncomputable def jX6_isNumber_36_14 (back : mm_bt) (call : mm_ct) (s : mm_S) (v1 : Int32) (v2 : Int32) : am_R mm_S := (am_r2 back (gX6_isNumber_14 call)).2 36 [some (.inl (.ref 0)), some (.inl (.int v1)), some (.inl (.int v2)), none, none] [] s
theorem jX6_isNumber_36_14_eq (back : mm_bt) (call : mm_ct) (s : mm_S) (v1 : Int32) (v2 : Int32) : jX6_isNumber_36_14 back call s v1 v2 = jX6_isNumber_36 back call s v1 v2 := rfl
noncomputable def jX6_isNumber_36_32 (back : mm_bt) (call : mm_ct) (s : mm_S) (v1 : Int32) (v2 : Int32) : am_R mm_S := (am_r2 back (gX6_isNumber_32 call)).2 36 [some (.inl (.ref 0)), some (.inl (.int v1)), some (.inl (.int v2)), none, none] [] s
theorem jX6_isNumber_36_32_eq (back : mm_bt) (call : mm_ct) (s : mm_S) (v1 : Int32) (v2 : Int32) : jX6_isNumber_36_32 back call s v1 v2 = jX6_isNumber_36 back call s v1 v2 := rfl
noncomputable def jX6_isNumber_37_36 (back : mm_bt) (call : mm_ct) (s : mm_S) (v1 : Int32) (v2 : Int32) (vs0 : Int32) : am_R mm_S := (am_r2 back (gX6_isNumber_36 call)).2 37 [some (.inl (.ref 0)), some (.inl (.int v1)), some (.inl (.int v2)), none, none] [.inl (.int vs0)] s
theorem jX6_isNumber_37_36_eq (back : mm_bt) (call : mm_ct) (s : mm_S) (v1 : Int32) (v2 : Int32) (vs0 : Int32) : jX6_isNumber_37_36 back call s v1 v2 vs0 = jX6_isNumber_37 back call s v1 v2 vs0 := rfl
theorem jX6_isNumber_41_eq (back : mm_bt) (call : mm_ct) (s : mm_S) (v1 : Int32) (v2 : Int32) (v3 : Int32) (v4 : Int32) : jX6_isNumber_41 back call s v1 v2 v3 v4 =
  if v2 ≤ v4 then
    some (.inl (some (.inl (.int (v3 &&& 1)))), s)
  else
    if v3 = 0 then
      some (.inl (some (.inl (.int (v3 &&& 1)))), s)
    else
      am_ix v4 20 fun j5 =>
      am_ci (call 3 [.inl (.long (s.2.1 9 j5).toInt64), .inl (.long 10), .inl (.long 19)] s) am_tx fun r7 s6 =>
      back 41 [some (.inl (.ref 0)), some (.inl (.int v1)), some (.inl (.int v2)), some (.inl (.int r7)), some (.inl (.int (v4 + ic 1)))] [] s6 := rfl
theorem jX6_isNumber_37_eq (back : mm_bt) (call : mm_ct) (s : mm_S) (v1 : Int32) (v2 : Int32) (vs0 : Int32) : jX6_isNumber_37 back call s v1 v2 vs0 =
  jX6_isNumber_41 back call s v1 v2 vs0 v1 := rfl
theorem jX6_isNumber_36_eq (back : mm_bt) (call : mm_ct) (s : mm_S) (v1 : Int32) (v2 : Int32) : jX6_isNumber_36 back call s v1 v2 =
  jX6_isNumber_37 back call s v1 v2 (ic 0) := rfl
theorem jX6_isNumber_32_eq (back : mm_bt) (call : mm_ct) (s : mm_S) (v1 : Int32) (v2 : Int32) : jX6_isNumber_32 back call s v1 v2 =
  jX6_isNumber_37_36 back call s v1 v2 (ic 1) := rfl
noncomputable def dX6_isNumber (back : mm_bt) (call : mm_ct) (s : mm_S) (x1 : Int32) (x2 : Int32) : am_R mm_S :=
  if (x2 - x1) < (ic 1) then
    jX6_isNumber_36_7 back call s x1 x2
  else
    if (ic 4) < (x2 - x1) then
      jX6_isNumber_36_14 back call s x1 x2
    else
      am_ix x1 20 fun j8 =>
      if (s.2.1 9 j8) = (ic 10) then
        if (x2 - x1) = (ic 1) then
          jX6_isNumber_32 back call s x1 x2
        else
          jX6_isNumber_36_32 back call s x1 x2
      else
        jX6_isNumber_32_25 back call s x1 x2
theorem dX6_isNumber_rs (back : mm_bt) (call : mm_ct) (s : mm_S) (x1 : Int32) (x2 : Int32) : (am_r2 back (gX6_isNumber call)).1 [some (.inl (.ref 0)), some (.inl (.int x1)), some (.inl (.int x2)), none, none] [] s = dX6_isNumber back call s x1 x2 := rfl
theorem dX6_isNumber_eq (N f : Nat) (s : mm_S) (x1 : Int32) (x2 : Int32) : mm_call N (f + 1) 43 [.inl (.ref 0), .inl (.int x1), .inl (.int x2)] s = dX6_isNumber (am_bk (mm_hop (mm_call N f)) am_no (some .boolean) kX6_isNumber N) (mm_call N f) s x1 x2 := (mm_call_of (mt := 43) (nL := 5) (rt := (some .boolean)) (code := kX6_isNumber) rfl rfl rfl rfl gX6_isNumber_ok ⟨_, _, _, _, rfl⟩).trans (dX6_isNumber_rs _ _ s x1 x2)
theorem jX6_isNumber_41_bk (call : mm_ct) (n : Nat) (s : mm_S) (v1 : Int32) (v2 : Int32) (v3 : Int32) (v4 : Int32) : am_bk (mm_hop call) am_no (some .boolean) kX6_isNumber (n + 1) 41 [some (.inl (.ref 0)), some (.inl (.int v1)), some (.inl (.int v2)), some (.inl (.int v3)), some (.inl (.int v4))] [] s = jX6_isNumber_41 (am_bk (mm_hop call) am_no (some .boolean) kX6_isNumber n) call s v1 v2 v3 v4 := (am_bk_of rfl (gX6_isNumber_ok call)).trans rfl
noncomputable def jX6_times_2_22 (back : mm_bt) (call : mm_ct) (s : mm_S) (w0 : Int64) (w2 : Int64) : am_R mm_S := (am_r2 back (gX6_times_2_22 call)).1 [some (.inl (.long w0)), none, some (.inl (.long w2)), none] [] s
noncomputable def jX6_times_2_22_6 (back : mm_bt) (call : mm_ct) (s : mm_S) (w0 : Int64) (w2 : Int64) : am_R mm_S := (am_r2 back (gX6_times_2_6 call)).2 22 [some (.inl (.long w0)), none, some (.inl (.long w2)), none] [] s
theorem jX6_times_2_22_6_eq (back : mm_bt) (call : mm_ct) (s : mm_S) (w0 : Int64) (w2 : Int64) : jX6_times_2_22_6 back call s w0 w2 = jX6_times_2_22 back call s w0 w2 := rfl
noncomputable def jX6_times_2_22_16 (back : mm_bt) (call : mm_ct) (s : mm_S) (w0 : Int64) (w2 : Int64) : am_R mm_S := (am_r2 back (gX6_times_2_16 call)).2 22 [some (.inl (.long w0)), none, some (.inl (.long w2)), none] [] s
theorem jX6_times_2_22_16_eq (back : mm_bt) (call : mm_ct) (s : mm_S) (w0 : Int64) (w2 : Int64) : jX6_times_2_22_16 back call s w0 w2 = jX6_times_2_22 back call s w0 w2 := rfl
theorem jX6_times_2_22_eq (back : mm_bt) (call : mm_ct) (s : mm_S) (w0 : Int64) (w2 : Int64) : jX6_times_2_22 back call s w0 w2 =
  some (.inl (some (.inl (.long (w0 * w2)))), s) := rfl
noncomputable def dX6_times_2 (back : mm_bt) (call : mm_ct) (s : mm_S) (x1 : Int64) (x2 : Int64) : am_R mm_S :=
  if (lg_cmp x1 (lN 0)) = 0 then
    jX6_times_2_22_6 back call s x1 x2
  else
    am_dzl x1 (if (lg_cmp x2 (1000000000000000 / x1)) ≤ 0 then
      jX6_times_2_22_16 back call s x1 x2
    else
      some (.inl (some (.inl (.long 1000000000000000))), s))
theorem dX6_times_2_rs (back : mm_bt) (call : mm_ct) (s : mm_S) (x1 : Int64) (x2 : Int64) : (am_r2 back (gX6_times_2 call)).1 [some (.inl (.long x1)), none, some (.inl (.long x2)), none] [] s = dX6_times_2 back call s x1 x2 := rfl
theorem dX6_times_2_eq (N f : Nat) (s : mm_S) (x1 : Int64) (x2 : Int64) : mm_call N (f + 1) 44 [.inl (.long x1), .inl (.long x2)] s = dX6_times_2 (am_bk (mm_hop (mm_call N f)) am_no (some .long) kX6_times_2 N) (mm_call N f) s x1 x2 := (mm_call_of (mt := 44) (nL := 4) (rt := (some .long)) (code := kX6_times_2) rfl rfl rfl rfl gX6_times_2_ok ⟨_, _, _, _, rfl⟩).trans (dX6_times_2_rs _ _ s x1 x2)
noncomputable def dX6_plus (back : mm_bt) (call : mm_ct) (s : mm_S) (x1 : Int64) (x2 : Int64) : am_R mm_S :=
  if (lg_cmp (x1 + x2) 1000000000000000) ≤ 0 then
    some (.inl (some (.inl (.long (x1 + x2)))), s)
  else
    some (.inl (some (.inl (.long 1000000000000000))), s)
theorem dX6_plus_rs (back : mm_bt) (call : mm_ct) (s : mm_S) (x1 : Int64) (x2 : Int64) : (am_r2 back (gX6_plus call)).1 [some (.inl (.long x1)), none, some (.inl (.long x2)), none] [] s = dX6_plus back call s x1 x2 := rfl
theorem dX6_plus_eq (N f : Nat) (s : mm_S) (x1 : Int64) (x2 : Int64) : mm_call N (f + 1) 45 [.inl (.long x1), .inl (.long x2)] s = dX6_plus (am_bk (mm_hop (mm_call N f)) am_no (some .long) kX6_plus N) (mm_call N f) s x1 x2 := (mm_call_of (mt := 45) (nL := 4) (rt := (some .long)) (code := kX6_plus) rfl rfl rfl rfl gX6_plus_ok ⟨_, _, _, _, rfl⟩).trans (dX6_plus_rs _ _ s x1 x2)
noncomputable def dX6_write (back : mm_bt) (call : mm_ct) (s : mm_S) (x1 : Int32) (x2 : Int64) : am_R mm_S :=
  am_ci (call 3 [.inl (.long x1.toInt64), .inl (.long (lN 0)), .inl (.long 8)] s) am_tx fun r10 s9 =>
  if r10 = 0 then
    some (.inl (some (.inl (.int (ic (-1))))), s9)
  else
    if 0 ≤ (lg_cmp x2 (lN 0)) then
      am_cl (call 39 [.inl (.ref 0), .inl (.int x1)] s9) am_tx fun r12 s11 =>
      if (lg_cmp x2 r12) < 0 then
        am_ci (call 47 [.inl (.ref 0), .inl (.int (ic 0)), .inl (.int ((mm_p s11 29 (ic 0)).1 10)), .inl (.long x2)] (mm_p s11 29 (ic 0))) am_tx fun r14 s13 =>
        if ((s13.1 0) + (s13.1 29)) ≤ (ic 120) then
          am_ci (call 50 [.inl (.ref 0), .inl (.int r14)] s13) am_tx fun r16 s15 =>
          some (.inl (some (.inl (.int r16))), s15)
        else
          some (.inl (some (.inl (.int (ic (-2))))), s13)
      else
        some (.inl (some (.inl (.int (ic (-4))))), s11)
    else
      some (.inl (some (.inl (.int (ic (-1))))), s9)
theorem dX6_write_rs (back : mm_bt) (call : mm_ct) (s : mm_S) (x1 : Int32) (x2 : Int64) : (am_r2 back (gX6_write call)).1 [some (.inl (.ref 0)), some (.inl (.int x1)), some (.inl (.long x2)), none, none] [] s = dX6_write back call s x1 x2 := rfl
theorem dX6_write_eq (N f : Nat) (s : mm_S) (x1 : Int32) (x2 : Int64) : mm_call N (f + 1) 46 [.inl (.ref 0), .inl (.int x1), .inl (.long x2)] s = dX6_write (am_bk (mm_hop (mm_call N f)) am_no (some .int) kX6_write N) (mm_call N f) s x1 x2 := (mm_call_of (mt := 46) (nL := 5) (rt := (some .int)) (code := kX6_write) rfl rfl rfl rfl gX6_write_ok ⟨_, _, _, _, rfl⟩).trans (dX6_write_rs _ _ s x1 x2)
noncomputable def jX6_takes_172 (back : mm_bt) (call : mm_ct) (s : mm_S) (v1 : Int32) (v2 : Int32) (w3 : Int64) (w5 : Int64) (v7 : Int32) (v8 : Int32) (v9 : Int32) (v10 : Int32) (v11 : Int32) : am_R mm_S := (am_r2 back (gX6_takes_172 call)).1 [some (.inl (.ref 0)), some (.inl (.int v1)), some (.inl (.int v2)), some (.inl (.long w3)), none, some (.inl (.long w5)), none, some (.inl (.int v7)), some (.inl (.int v8)), some (.inl (.int v9)), some (.inl (.int v10)), some (.inl (.int v11))] [] s
noncomputable def jX6_takes_89 (back : mm_bt) (call : mm_ct) (s : mm_S) (v1 : Int32) (v2 : Int32) (w3 : Int64) (w5 : Int64) (v7 : Int32) (v8 : Int32) (vs0 : Int32) : am_R mm_S := (am_r2 back (gX6_takes_89 call)).1 [some (.inl (.ref 0)), some (.inl (.int v1)), some (.inl (.int v2)), some (.inl (.long w3)), none, some (.inl (.long w5)), none, some (.inl (.int v7)), some (.inl (.int v8)), none, none, none] [.inl (.int vs0)] s
noncomputable def jX6_takes_72 (back : mm_bt) (call : mm_ct) (s : mm_S) (v1 : Int32) (v2 : Int32) (w3 : Int64) (w5 : Int64) (v7 : Int32) (vs0 : Int32) : am_R mm_S := (am_r2 back (gX6_takes_72 call)).1 [some (.inl (.ref 0)), some (.inl (.int v1)), some (.inl (.int v2)), some (.inl (.long w3)), none, some (.inl (.long w5)), none, some (.inl (.int v7)), none, none, none, none] [.inl (.int vs0)] s
noncomputable def jX6_takes_6 (back : mm_bt) (call : mm_ct) (s : mm_S) (v1 : Int32) (v2 : Int32) (w3 : Int64) (w5 : Int64) (v7 : Int32) : am_R mm_S := (am_r2 back (gX6_takes_6 call)).1 [some (.inl (.ref 0)), some (.inl (.int v1)), some (.inl (.int v2)), some (.inl (.long w3)), none, some (.inl (.long w5)), none, some (.inl (.int v7)), none, none, none, none] [] s
noncomputable def jX6_takes_72_71 (back : mm_bt) (call : mm_ct) (s : mm_S) (v1 : Int32) (v2 : Int32) (w3 : Int64) (w5 : Int64) (v7 : Int32) (vs0 : Int32) : am_R mm_S := (am_r2 back (gX6_takes_71 call)).2 72 [some (.inl (.ref 0)), some (.inl (.int v1)), some (.inl (.int v2)), some (.inl (.long w3)), none, some (.inl (.long w5)), none, some (.inl (.int v7)), none, none, none, none] [.inl (.int vs0)] s
theorem jX6_takes_72_71_eq (back : mm_bt) (call : mm_ct) (s : mm_S) (v1 : Int32) (v2 : Int32) (w3 : Int64) (w5 : Int64) (v7 : Int32) (vs0 : Int32) : jX6_takes_72_71 back call s v1 v2 w3 w5 v7 vs0 = jX6_takes_72 back call s v1 v2 w3 w5 v7 vs0 := rfl
noncomputable def jX6_takes_89_88 (back : mm_bt) (call : mm_ct) (s : mm_S) (v1 : Int32) (v2 : Int32) (w3 : Int64) (w5 : Int64) (v7 : Int32) (v8 : Int32) (vs0 : Int32) : am_R mm_S := (am_r2 back (gX6_takes_88 call)).2 89 [some (.inl (.ref 0)), some (.inl (.int v1)), some (.inl (.int v2)), some (.inl (.long w3)), none, some (.inl (.long w5)), none, some (.inl (.int v7)), some (.inl (.int v8)), none, none, none] [.inl (.int vs0)] s
theorem jX6_takes_89_88_eq (back : mm_bt) (call : mm_ct) (s : mm_S) (v1 : Int32) (v2 : Int32) (w3 : Int64) (w5 : Int64) (v7 : Int32) (v8 : Int32) (vs0 : Int32) : jX6_takes_89_88 back call s v1 v2 w3 w5 v7 v8 vs0 = jX6_takes_89 back call s v1 v2 w3 w5 v7 v8 vs0 := rfl
theorem jX6_takes_172_eq (back : mm_bt) (call : mm_ct) (s : mm_S) (v1 : Int32) (v2 : Int32) (w3 : Int64) (w5 : Int64) (v7 : Int32) (v8 : Int32) (v9 : Int32) (v10 : Int32) (v11 : Int32) : jX6_takes_172 back call s v1 v2 w3 w5 v7 v8 v9 v10 v11 =
  if v9 ≤ v11 then
    am_ci (call 48 [.inl (.ref 0), .inl (.int (ic 1)), .inl (.int v10), .inl (.int (ic (-2))), .inl (.int (ic (-2)))] s) am_tx fun r35 s34 =>
    some (.inl (some (.inl (.int r35))), s34)
  else
    am_ix v11 20 fun j36 =>
    back 172 [some (.inl (.ref 0)), some (.inl (.int v1)), some (.inl (.int v2)), some (.inl (.long w3)), none, some (.inl (.long w5)), none, some (.inl (.int v7)), some (.inl (.int v8)), some (.inl (.int v9)), some (.inl (.int ((((ic 10) * v10) + (s.2.1 9 j36)) - (ic 10)))), some (.inl (.int (v11 + ic 1)))] [] s := rfl
theorem jX6_takes_89_eq (back : mm_bt) (call : mm_ct) (s : mm_S) (v1 : Int32) (v2 : Int32) (w3 : Int64) (w5 : Int64) (v7 : Int32) (v8 : Int32) (vs0 : Int32) : jX6_takes_89 back call s v1 v2 w3 w5 v7 v8 vs0 =
  am_dz (ic 2) (if (v7 / (ic 2)) = nI 0 then
    am_ix v8 20 fun j62 =>
    am_ci (call 48 [.inl (.ref 0), .inl (.int (ic 0)), .inl (.int (s.2.1 9 j62)), .inl (.int (ic (-2))), .inl (.int (ic (-2)))] s) am_tx fun r64 s63 =>
    some (.inl (some (.inl (.int r64))), s63)
  else
  if (v7 / (ic 2)) = nI 1 then
    jX6_takes_172 back call s v1 v2 w3 w5 v7 v8 vs0 (ic 0) v8
  else
  if (v7 / (ic 2)) = nI 2 then
    am_dz (ic 2) (am_ci (call 49 [.inl (.ref 0), .inl (.int (v7 / (ic 2))), .inl (.int v8), .inl (.int vs0), .inl (.long w5)] s) am_tx fun r61 s60 =>
    some (.inl (some (.inl (.int r61))), s60))
  else
  if (v7 / (ic 2)) = nI 3 then
    am_dz (ic 2) (am_ci (call 49 [.inl (.ref 0), .inl (.int (v7 / (ic 2))), .inl (.int v8), .inl (.int vs0), .inl (.long w5)] s) am_tx fun r59 s58 =>
    some (.inl (some (.inl (.int r59))), s58))
  else
  if (v7 / (ic 2)) = nI 4 then
    am_dz (ic 2) (am_ci (call 49 [.inl (.ref 0), .inl (.int (v7 / (ic 2))), .inl (.int v8), .inl (.int vs0), .inl (.long w5)] s) am_tx fun r57 s56 =>
    some (.inl (some (.inl (.int r57))), s56))
  else
  if (v7 / (ic 2)) = nI 5 then
    am_dz (ic 2) (am_ci (call 49 [.inl (.ref 0), .inl (.int (v7 / (ic 2))), .inl (.int v8), .inl (.int vs0), .inl (.long w5)] s) am_tx fun r55 s54 =>
    some (.inl (some (.inl (.int r55))), s54))
  else
  if (v7 / (ic 2)) = nI 6 then
    am_dz (ic 2) (am_ci (call 49 [.inl (.ref 0), .inl (.int (v7 / (ic 2))), .inl (.int v8), .inl (.int vs0), .inl (.long w5)] s) am_tx fun r53 s52 =>
    some (.inl (some (.inl (.int r53))), s52))
  else
  if (v7 / (ic 2)) = nI 7 then
    am_ci (call 47 [.inl (.ref 0), .inl (.int (v8 + (ic 1))), .inl (.int vs0), .inl (.long w5)] s) am_tx fun r49 s48 =>
    am_ci (call 48 [.inl (.ref 0), .inl (.int (ic 7)), .inl (.int (ic (-2))), .inl (.int r49), .inl (.int (ic (-2)))] s48) am_tx fun r51 s50 =>
    some (.inl (some (.inl (.int r51))), s50)
  else
  if (v7 / (ic 2)) = nI 8 then
    am_ci (call 47 [.inl (.ref 0), .inl (.int (v8 + (ic 1))), .inl (.int (vs0 - (ic 1))), .inl (.long w5)] s) am_tx fun r45 s44 =>
    am_ci (call 48 [.inl (.ref 0), .inl (.int (ic 8)), .inl (.int (ic (-2))), .inl (.int r45), .inl (.int (ic (-2)))] s44) am_tx fun r47 s46 =>
    some (.inl (some (.inl (.int r47))), s46)
  else
  if (v7 / (ic 2)) = nI 9 then
    am_ix v8 20 fun j39 =>
    am_ci (call 47 [.inl (.ref 0), .inl (.int (v8 + (ic 2))), .inl (.int vs0), .inl (.long w5)] s) am_tx fun r41 s40 =>
    am_ci (call 48 [.inl (.ref 0), .inl (.int (ic 9)), .inl (.int (s.2.1 9 j39)), .inl (.int r41), .inl (.int (ic (-2)))] s40) am_tx fun r43 s42 =>
    some (.inl (some (.inl (.int r43))), s42)
  else
  am_dz (ic 2) (am_ci (call 49 [.inl (.ref 0), .inl (.int (v7 / (ic 2))), .inl (.int v8), .inl (.int vs0), .inl (.long w5)] s) am_tx fun r38 s37 =>
  some (.inl (some (.inl (.int r38))), s37))) := rfl
theorem jX6_takes_72_eq (back : mm_bt) (call : mm_ct) (s : mm_S) (v1 : Int32) (v2 : Int32) (w3 : Int64) (w5 : Int64) (v7 : Int32) (vs0 : Int32) : jX6_takes_72 back call s v1 v2 w3 w5 v7 vs0 =
  am_dz (ic 2) (if (v7 - v7 / (ic 2) * (ic 2)) = (ic 1) then
    jX6_takes_89_88 back call s v1 v2 w3 w5 v7 vs0 (v2 - (ic 1))
  else
    jX6_takes_89 back call s v1 v2 w3 w5 v7 vs0 v2) := rfl
theorem jX6_takes_6_eq (back : mm_bt) (call : mm_ct) (s : mm_S) (v1 : Int32) (v2 : Int32) (w3 : Int64) (w5 : Int64) (v7 : Int32) : jX6_takes_6 back call s v1 v2 w3 w5 v7 =
  am_ix (((ic 20) * (((ic 21) * v1) + v2)) + v7) 8820 fun j65 =>
  if (lg_cmp w5 (s.2.2 26 j65)) < 0 then
    am_dz (ic 2) (if (v7 - v7 / (ic 2) * (ic 2)) = (ic 1) then
      jX6_takes_72_71 back call s v1 v2 w3 w5 v7 (v1 + (ic 1))
    else
      jX6_takes_72 back call s v1 v2 w3 w5 v7 v1)
  else
    am_ix (((ic 20) * (((ic 21) * v1) + v2)) + v7) 8820 fun j66 =>
    back 6 [some (.inl (.ref 0)), some (.inl (.int v1)), some (.inl (.int v2)), some (.inl (.long w3)), none, some (.inl (.long (w5 - (s.2.2 26 j66)))), none, some (.inl (.int (v7 + ic 1))), none, none, none, none] [] s := rfl
noncomputable def dX6_takes (back : mm_bt) (call : mm_ct) (s : mm_S) (x1 : Int32) (x2 : Int32) (x3 : Int64) : am_R mm_S :=
  jX6_takes_6 back call s x1 x2 x3 x3 (ic 0)
theorem dX6_takes_rs (back : mm_bt) (call : mm_ct) (s : mm_S) (x1 : Int32) (x2 : Int32) (x3 : Int64) : (am_r2 back (gX6_takes call)).1 [some (.inl (.ref 0)), some (.inl (.int x1)), some (.inl (.int x2)), some (.inl (.long x3)), none, none, none, none, none, none, none, none] [] s = dX6_takes back call s x1 x2 x3 := rfl
theorem dX6_takes_eq (N f : Nat) (s : mm_S) (x1 : Int32) (x2 : Int32) (x3 : Int64) : mm_call N (f + 1) 47 [.inl (.ref 0), .inl (.int x1), .inl (.int x2), .inl (.long x3)] s = dX6_takes (am_bk (mm_hop (mm_call N f)) am_no (some .int) kX6_takes N) (mm_call N f) s x1 x2 x3 := (mm_call_of (mt := 47) (nL := 12) (rt := (some .int)) (code := kX6_takes) rfl rfl rfl rfl gX6_takes_ok ⟨_, _, _, _, rfl⟩).trans (dX6_takes_rs _ _ s x1 x2 x3)
theorem jX6_takes_6_bk (call : mm_ct) (n : Nat) (s : mm_S) (v1 : Int32) (v2 : Int32) (w3 : Int64) (w5 : Int64) (v7 : Int32) : am_bk (mm_hop call) am_no (some .int) kX6_takes (n + 1) 6 [some (.inl (.ref 0)), some (.inl (.int v1)), some (.inl (.int v2)), some (.inl (.long w3)), none, some (.inl (.long w5)), none, some (.inl (.int v7)), none, none, none, none] [] s = jX6_takes_6 (am_bk (mm_hop call) am_no (some .int) kX6_takes n) call s v1 v2 w3 w5 v7 := (am_bk_of rfl (gX6_takes_ok call)).trans rfl
theorem jX6_takes_172_bk (call : mm_ct) (n : Nat) (s : mm_S) (v1 : Int32) (v2 : Int32) (w3 : Int64) (w5 : Int64) (v7 : Int32) (v8 : Int32) (v9 : Int32) (v10 : Int32) (v11 : Int32) : am_bk (mm_hop call) am_no (some .int) kX6_takes (n + 1) 172 [some (.inl (.ref 0)), some (.inl (.int v1)), some (.inl (.int v2)), some (.inl (.long w3)), none, some (.inl (.long w5)), none, some (.inl (.int v7)), some (.inl (.int v8)), some (.inl (.int v9)), some (.inl (.int v10)), some (.inl (.int v11))] [] s = jX6_takes_172 (am_bk (mm_hop call) am_no (some .int) kX6_takes n) call s v1 v2 w3 w5 v7 v8 v9 v10 v11 := (am_bk_of rfl (gX6_takes_ok call)).trans rfl
noncomputable def dX6_makes (back : mm_bt) (call : mm_ct) (s : mm_S) (x1 : Int32) (x2 : Int32) (x3 : Int32) (x4 : Int32) : am_R mm_S :=
  am_cv (call 4 [.inl (.ref 0), .inl (.int ((ic 400) + (s.1 29))), .inl (.int x1), .inl (.int x2), .inl (.int x3), .inl (.int x4)] s) am_tx fun s2 =>
  some (.inl (some (.inl (.int (((ic 400) + ((mm_p s2 29 ((s2.1 29) + (ic 1))).1 29)) - (ic 1))))), (mm_p s2 29 ((s2.1 29) + (ic 1))))
theorem dX6_makes_rs (back : mm_bt) (call : mm_ct) (s : mm_S) (x1 : Int32) (x2 : Int32) (x3 : Int32) (x4 : Int32) : (am_r2 back (gX6_makes call)).1 [some (.inl (.ref 0)), some (.inl (.int x1)), some (.inl (.int x2)), some (.inl (.int x3)), some (.inl (.int x4))] [] s = dX6_makes back call s x1 x2 x3 x4 := rfl
theorem dX6_makes_eq (N f : Nat) (s : mm_S) (x1 : Int32) (x2 : Int32) (x3 : Int32) (x4 : Int32) : mm_call N (f + 1) 48 [.inl (.ref 0), .inl (.int x1), .inl (.int x2), .inl (.int x3), .inl (.int x4)] s = dX6_makes (am_bk (mm_hop (mm_call N f)) am_no (some .int) kX6_makes N) (mm_call N f) s x1 x2 x3 x4 := (mm_call_of (mt := 48) (nL := 5) (rt := (some .int)) (code := kX6_makes) rfl rfl rfl rfl gX6_makes_ok ⟨_, _, _, _, rfl⟩).trans (dX6_makes_rs _ _ s x1 x2 x3 x4)
noncomputable def jX6_takesTwo_107 (back : mm_bt) (call : mm_ct) (s : mm_S) (v1 : Int32) (v2 : Int32) (v3 : Int32) (w4 : Int64) (w6 : Int64) (v8 : Int32) (ws0 : Int64) (ws1 : Int64) : am_R mm_S := (am_r2 back (gX6_takesTwo_107 call)).1 [some (.inl (.ref 0)), some (.inl (.int v1)), some (.inl (.int v2)), some (.inl (.int v3)), some (.inl (.long w4)), none, some (.inl (.long w6)), none, some (.inl (.int v8)), none, none, none] [.inl (.long ws0), .inl (.long ws1)] s
noncomputable def jX6_takesTwo_58 (back : mm_bt) (call : mm_ct) (s : mm_S) (v1 : Int32) (v2 : Int32) (v3 : Int32) (w4 : Int64) (w6 : Int64) (v8 : Int32) : am_R mm_S := (am_r2 back (gX6_takesTwo_58 call)).1 [some (.inl (.ref 0)), some (.inl (.int v1)), some (.inl (.int v2)), some (.inl (.int v3)), some (.inl (.long w4)), none, some (.inl (.long w6)), none, some (.inl (.int v8)), none, none, none] [] s
noncomputable def jX6_takesTwo_9 (back : mm_bt) (call : mm_ct) (s : mm_S) (v1 : Int32) (v2 : Int32) (v3 : Int32) (w4 : Int64) (w6 : Int64) (v8 : Int32) : am_R mm_S := (am_r2 back (gX6_takesTwo_9 call)).1 [some (.inl (.ref 0)), some (.inl (.int v1)), some (.inl (.int v2)), some (.inl (.int v3)), some (.inl (.long w4)), none, some (.inl (.long w6)), none, some (.inl (.int v8)), none, none, none] [] s
noncomputable def jX6_takesTwo_58_23 (back : mm_bt) (call : mm_ct) (s : mm_S) (v1 : Int32) (v2 : Int32) (v3 : Int32) (w4 : Int64) (w6 : Int64) (v8 : Int32) : am_R mm_S := (am_r2 back (gX6_takesTwo_23 call)).2 58 [some (.inl (.ref 0)), some (.inl (.int v1)), some (.inl (.int v2)), some (.inl (.int v3)), some (.inl (.long w4)), none, some (.inl (.long w6)), none, some (.inl (.int v8)), none, none, none] [] s
theorem jX6_takesTwo_58_23_eq (back : mm_bt) (call : mm_ct) (s : mm_S) (v1 : Int32) (v2 : Int32) (v3 : Int32) (w4 : Int64) (w6 : Int64) (v8 : Int32) : jX6_takesTwo_58_23 back call s v1 v2 v3 w4 w6 v8 = jX6_takesTwo_58 back call s v1 v2 v3 w4 w6 v8 := rfl
noncomputable def jX6_takesTwo_107_106 (back : mm_bt) (call : mm_ct) (s : mm_S) (v1 : Int32) (v2 : Int32) (v3 : Int32) (w4 : Int64) (w6 : Int64) (v8 : Int32) (ws0 : Int64) (ws1 : Int64) : am_R mm_S := (am_r2 back (gX6_takesTwo_106 call)).2 107 [some (.inl (.ref 0)), some (.inl (.int v1)), some (.inl (.int v2)), some (.inl (.int v3)), some (.inl (.long w4)), none, some (.inl (.long w6)), none, some (.inl (.int v8)), none, none, none] [.inl (.long ws0), .inl (.long ws1)] s
theorem jX6_takesTwo_107_106_eq (back : mm_bt) (call : mm_ct) (s : mm_S) (v1 : Int32) (v2 : Int32) (v3 : Int32) (w4 : Int64) (w6 : Int64) (v8 : Int32) (ws0 : Int64) (ws1 : Int64) : jX6_takesTwo_107_106 back call s v1 v2 v3 w4 w6 v8 ws0 ws1 = jX6_takesTwo_107 back call s v1 v2 v3 w4 w6 v8 ws0 ws1 := rfl
theorem jX6_takesTwo_107_eq (back : mm_bt) (call : mm_ct) (s : mm_S) (v1 : Int32) (v2 : Int32) (v3 : Int32) (w4 : Int64) (w6 : Int64) (v8 : Int32) (ws0 : Int64) (ws1 : Int64) : jX6_takesTwo_107 back call s v1 v2 v3 w4 w6 v8 ws0 ws1 =
  back 9 [some (.inl (.ref 0)), some (.inl (.int v1)), some (.inl (.int v2)), some (.inl (.int v3)), some (.inl (.long w4)), none, some (.inl (.long (ws1 - ws0))), none, some (.inl (.int (v8 + ic 1))), none, none, none] [] s := rfl
theorem jX6_takesTwo_58_eq (back : mm_bt) (call : mm_ct) (s : mm_S) (v1 : Int32) (v2 : Int32) (v3 : Int32) (w4 : Int64) (w6 : Int64) (v8 : Int32) : jX6_takesTwo_58 back call s v1 v2 v3 w4 w6 v8 =
  am_ix v8 20 fun j18 =>
  if (s.2.1 9 j18) = ((ic 18) + v1) then
    am_ix (((ic 21) * v2) + v8) 441 fun j19 =>
    am_ix (((ic 21) * (v8 + (ic 1))) + v3) 441 fun j20 =>
    am_cl (call 44 [.inl (.long (s.2.2 27 j19)), .inl (.long (s.2.2 27 j20))] s) am_tx fun r22 s21 =>
    jX6_takesTwo_107_106 back call s21 v1 v2 v3 w4 w6 v8 r22 w6
  else
    jX6_takesTwo_107 back call s v1 v2 v3 w4 w6 v8 (lN 0) w6 := rfl
theorem jX6_takesTwo_9_eq (back : mm_bt) (call : mm_ct) (s : mm_S) (v1 : Int32) (v2 : Int32) (v3 : Int32) (w4 : Int64) (w6 : Int64) (v8 : Int32) : jX6_takesTwo_9 back call s v1 v2 v3 w4 w6 v8 =
  am_ix v8 20 fun j23 =>
  if (s.2.1 9 j23) = ((ic 18) + v1) then
    am_ix (((ic 21) * v2) + v8) 441 fun j24 =>
    am_ix (((ic 21) * (v8 + (ic 1))) + v3) 441 fun j25 =>
    am_cl (call 44 [.inl (.long (s.2.2 27 j24)), .inl (.long (s.2.2 27 j25))] s) am_tx fun r27 s26 =>
    if (lg_cmp w6 r27) < 0 then
      am_ix (((ic 21) * (v8 + (ic 1))) + v3) 441 fun j28 =>
      am_dzl (s26.2.2 27 j28) (am_ci (call 47 [.inl (.ref 0), .inl (.int v2), .inl (.int v8), .inl (.long (w6 / (s26.2.2 27 j28)))] s26) am_tx fun r30 s29 =>
      am_dzl (s26.2.2 27 j28) (am_ci (call 47 [.inl (.ref 0), .inl (.int (v8 + (ic 1))), .inl (.int v3), .inl (.long (w6 - w6 / (s26.2.2 27 j28) * (s26.2.2 27 j28)))] s29) am_tx fun r32 s31 =>
      am_ci (call 48 [.inl (.ref 0), .inl (.int v1), .inl (.int (ic (-2))), .inl (.int r30), .inl (.int r32)] s31) am_tx fun r34 s33 =>
      some (.inl (some (.inl (.int r34))), s33)))
    else
      jX6_takesTwo_58 back call s26 v1 v2 v3 w4 w6 v8
  else
    jX6_takesTwo_58_23 back call s v1 v2 v3 w4 w6 v8 := rfl
noncomputable def dX6_takesTwo (back : mm_bt) (call : mm_ct) (s : mm_S) (x1 : Int32) (x2 : Int32) (x3 : Int32) (x4 : Int64) : am_R mm_S :=
  jX6_takesTwo_9 back call s x1 x2 x3 x4 x4 (x2 + (ic 1))
theorem dX6_takesTwo_rs (back : mm_bt) (call : mm_ct) (s : mm_S) (x1 : Int32) (x2 : Int32) (x3 : Int32) (x4 : Int64) : (am_r2 back (gX6_takesTwo call)).1 [some (.inl (.ref 0)), some (.inl (.int x1)), some (.inl (.int x2)), some (.inl (.int x3)), some (.inl (.long x4)), none, none, none, none, none, none, none] [] s = dX6_takesTwo back call s x1 x2 x3 x4 := rfl
theorem dX6_takesTwo_eq (N f : Nat) (s : mm_S) (x1 : Int32) (x2 : Int32) (x3 : Int32) (x4 : Int64) : mm_call N (f + 1) 49 [.inl (.ref 0), .inl (.int x1), .inl (.int x2), .inl (.int x3), .inl (.long x4)] s = dX6_takesTwo (am_bk (mm_hop (mm_call N f)) am_no (some .int) kX6_takesTwo N) (mm_call N f) s x1 x2 x3 x4 := (mm_call_of (mt := 49) (nL := 12) (rt := (some .int)) (code := kX6_takesTwo) rfl rfl rfl rfl gX6_takesTwo_ok ⟨_, _, _, _, rfl⟩).trans (dX6_takesTwo_rs _ _ s x1 x2 x3 x4)
theorem jX6_takesTwo_9_bk (call : mm_ct) (n : Nat) (s : mm_S) (v1 : Int32) (v2 : Int32) (v3 : Int32) (w4 : Int64) (w6 : Int64) (v8 : Int32) : am_bk (mm_hop call) am_no (some .int) kX6_takesTwo (n + 1) 9 [some (.inl (.ref 0)), some (.inl (.int v1)), some (.inl (.int v2)), some (.inl (.int v3)), some (.inl (.long w4)), none, some (.inl (.long w6)), none, some (.inl (.int v8)), none, none, none] [] s = jX6_takesTwo_9 (am_bk (mm_hop call) am_no (some .int) kX6_takesTwo n) call s v1 v2 v3 w4 w6 v8 := (am_bk_of rfl (gX6_takesTwo_ok call)).trans rfl
noncomputable def jX6_copies_49 (back : mm_bt) (call : mm_ct) (s : mm_S) (v1 : Int32) (v2 : Int32) (vs0 : Int32) : am_R mm_S := (am_r2 back (gX6_copies_49 call)).1 [some (.inl (.ref 0)), some (.inl (.int v1)), some (.inl (.int v2)), none] [.inl (.int vs0)] s
noncomputable def jX6_copies_24 (back : mm_bt) (call : mm_ct) (s : mm_S) (v1 : Int32) (vs0 : Int32) : am_R mm_S := (am_r2 back (gX6_copies_24 call)).1 [some (.inl (.ref 0)), some (.inl (.int v1)), none, none] [.inl (.int vs0)] s
noncomputable def jX6_copies_24_14 (back : mm_bt) (call : mm_ct) (s : mm_S) (v1 : Int32) (vs0 : Int32) : am_R mm_S := (am_r2 back (gX6_copies_14 call)).2 24 [some (.inl (.ref 0)), some (.inl (.int v1)), none, none] [.inl (.int vs0)] s
theorem jX6_copies_24_14_eq (back : mm_bt) (call : mm_ct) (s : mm_S) (v1 : Int32) (vs0 : Int32) : jX6_copies_24_14 back call s v1 vs0 = jX6_copies_24 back call s v1 vs0 := rfl
noncomputable def jX6_copies_49_39 (back : mm_bt) (call : mm_ct) (s : mm_S) (v1 : Int32) (v2 : Int32) (vs0 : Int32) : am_R mm_S := (am_r2 back (gX6_copies_39 call)).2 49 [some (.inl (.ref 0)), some (.inl (.int v1)), some (.inl (.int v2)), none] [.inl (.int vs0)] s
theorem jX6_copies_49_39_eq (back : mm_bt) (call : mm_ct) (s : mm_S) (v1 : Int32) (v2 : Int32) (vs0 : Int32) : jX6_copies_49_39 back call s v1 v2 vs0 = jX6_copies_49 back call s v1 v2 vs0 := rfl
theorem jX6_copies_49_eq (back : mm_bt) (call : mm_ct) (s : mm_S) (v1 : Int32) (v2 : Int32) (vs0 : Int32) : jX6_copies_49 back call s v1 v2 vs0 =
  am_ix v1 450 fun j12 =>
  am_ix v1 450 fun j13 =>
  am_cv (call 4 [.inl (.ref 0), .inl (.int (s.1 0)), .inl (.int (s.2.1 1 j12)), .inl (.int (s.2.1 2 j13)), .inl (.int v2), .inl (.int vs0)] s) am_tx fun s14 =>
  some (.inl (some (.inl (.int (((mm_p s14 0 ((s14.1 0) + (ic 1))).1 0) - (ic 1))))), (mm_p s14 0 ((s14.1 0) + (ic 1)))) := rfl
theorem jX6_copies_24_eq (back : mm_bt) (call : mm_ct) (s : mm_S) (v1 : Int32) (vs0 : Int32) : jX6_copies_24 back call s v1 vs0 =
  am_ix v1 450 fun j15 =>
  if 0 ≤ (s.2.1 4 j15) then
    am_ix v1 450 fun j16 =>
    am_ci (call 50 [.inl (.ref 0), .inl (.int (s.2.1 4 j16))] s) am_tx fun r18 s17 =>
    jX6_copies_49 back call s17 v1 vs0 r18
  else
    jX6_copies_49_39 back call s v1 vs0 (ic (-2)) := rfl
noncomputable def dX6_copies (back : mm_bt) (call : mm_ct) (s : mm_S) (x1 : Int32) : am_R mm_S :=
  am_ix x1 450 fun j19 =>
  if 0 ≤ (s.2.1 3 j19) then
    am_ix x1 450 fun j20 =>
    am_ci (call 50 [.inl (.ref 0), .inl (.int (s.2.1 3 j20))] s) am_tx fun r22 s21 =>
    jX6_copies_24 back call s21 x1 r22
  else
    jX6_copies_24_14 back call s x1 (ic (-2))
theorem dX6_copies_rs (back : mm_bt) (call : mm_ct) (s : mm_S) (x1 : Int32) : (am_r2 back (gX6_copies call)).1 [some (.inl (.ref 0)), some (.inl (.int x1)), none, none] [] s = dX6_copies back call s x1 := rfl
theorem dX6_copies_eq (N f : Nat) (s : mm_S) (x1 : Int32) : mm_call N (f + 1) 50 [.inl (.ref 0), .inl (.int x1)] s = dX6_copies (am_bk (mm_hop (mm_call N f)) am_no (some .int) kX6_copies N) (mm_call N f) s x1 := (mm_call_of (mt := 50) (nL := 4) (rt := (some .int)) (code := kX6_copies) rfl rfl rfl rfl gX6_copies_ok ⟨_, _, _, _, rfl⟩).trans (dX6_copies_rs _ _ s x1)
noncomputable def jX6_place_20 (back : mm_bt) (call : mm_ct) (s : mm_S) (v1 : Int32) (v2 : Int32) : am_R mm_S := (am_r2 back (gX6_place_20 call)).1 [some (.inl (.ref 0)), some (.inl (.int v1)), some (.inl (.int v2)), none, none] [] s
noncomputable def jX6_place_20_12 (back : mm_bt) (call : mm_ct) (s : mm_S) (v1 : Int32) (v2 : Int32) : am_R mm_S := (am_r2 back (gX6_place_12 call)).2 20 [some (.inl (.ref 0)), some (.inl (.int v1)), some (.inl (.int v2)), none, none] [] s
theorem jX6_place_20_12_eq (back : mm_bt) (call : mm_ct) (s : mm_S) (v1 : Int32) (v2 : Int32) : jX6_place_20_12 back call s v1 v2 = jX6_place_20 back call s v1 v2 := rfl
theorem jX6_place_20_eq (back : mm_bt) (call : mm_ct) (s : mm_S) (v1 : Int32) (v2 : Int32) : jX6_place_20 back call s v1 v2 =
  some (.inl (some (.inl (.long (-1)))), s) := rfl
noncomputable def dX6_place (back : mm_bt) (call : mm_ct) (s : mm_S) (x1 : Int32) (x2 : Int32) : am_R mm_S :=
  am_ci (call 3 [.inl (.long x1.toInt64), .inl (.long (lN 0)), .inl (.long 8)] s) am_tx fun r10 s9 =>
  if r10 = 0 then
    jX6_place_20_12 back call s9 x1 x2
  else
    am_ci (call 6 [.inl (.ref 0), .inl (.int x2)] s9) am_tx fun r12 s11 =>
    if r12 = 0 then
      jX6_place_20 back call s11 x1 x2
    else
      am_cl (call 39 [.inl (.ref 0), .inl (.int x1)] s11) am_tx fun r14 s13 =>
      if (lg_cmp r14 (lN 0)) = 0 then
        some (.inl (some (.inl (.long (-2)))), s13)
      else
        am_cl (call 52 [.inl (.ref 0), .inl (.int x2), .inl (.int (ic 0)), .inl (.int (s13.1 10))] s13) am_tx fun r16 s15 =>
        if 0 ≤ (lg_cmp r16 (lN 0)) then
          some (.inl (some (.inl (.long r16))), s15)
        else
          some (.inl (some (.inl (.long (-2)))), s15)
theorem dX6_place_rs (back : mm_bt) (call : mm_ct) (s : mm_S) (x1 : Int32) (x2 : Int32) : (am_r2 back (gX6_place call)).1 [some (.inl (.ref 0)), some (.inl (.int x1)), some (.inl (.int x2)), none, none] [] s = dX6_place back call s x1 x2 := rfl
theorem dX6_place_eq (N f : Nat) (s : mm_S) (x1 : Int32) (x2 : Int32) : mm_call N (f + 1) 51 [.inl (.ref 0), .inl (.int x1), .inl (.int x2)] s = dX6_place (am_bk (mm_hop (mm_call N f)) am_no (some .long) kX6_place N) (mm_call N f) s x1 x2 := (mm_call_of (mt := 51) (nL := 5) (rt := (some .long)) (code := kX6_place) rfl rfl rfl rfl gX6_place_ok ⟨_, _, _, _, rfl⟩).trans (dX6_place_rs _ _ s x1 x2)
noncomputable def jX6_rank_149 (back : mm_bt) (call : mm_ct) (s : mm_S) (v1 : Int32) (v2 : Int32) (v3 : Int32) (v4 : Int32) (o5 : Option am_V) (o7 : Option am_V) : am_R mm_S := (am_r2 back (gX6_rank_149 call)).1 [some (.inl (.ref 0)), some (.inl (.int v1)), some (.inl (.int v2)), some (.inl (.int v3)), some (.inl (.int v4)), o5, none, o7] [] s
noncomputable def jX6_rank_139 (back : mm_bt) (call : mm_ct) (s : mm_S) (v1 : Int32) (v2 : Int32) (v3 : Int32) (v4 : Int32) (w5 : Int64) (v7 : Int32) : am_R mm_S := (am_r2 back (gX6_rank_139 call)).1 [some (.inl (.ref 0)), some (.inl (.int v1)), some (.inl (.int v2)), some (.inl (.int v3)), some (.inl (.int v4)), some (.inl (.long w5)), none, some (.inl (.int v7))] [] s
noncomputable def jX6_rank_97 (back : mm_bt) (call : mm_ct) (s : mm_S) (v1 : Int32) (v2 : Int32) (v3 : Int32) (v4 : Int32) (w5 : Int64) (v7 : Int32) : am_R mm_S := (am_r2 back (gX6_rank_97 call)).1 [some (.inl (.ref 0)), some (.inl (.int v1)), some (.inl (.int v2)), some (.inl (.int v3)), some (.inl (.int v4)), some (.inl (.long w5)), none, some (.inl (.int v7))] [] s
noncomputable def jX6_rank_92 (back : mm_bt) (call : mm_ct) (s : mm_S) (v1 : Int32) (v2 : Int32) (v3 : Int32) (v4 : Int32) (o5 : Option am_V) (o7 : Option am_V) (ws0 : Int64) : am_R mm_S := (am_r2 back (gX6_rank_92 call)).1 [some (.inl (.ref 0)), some (.inl (.int v1)), some (.inl (.int v2)), some (.inl (.int v3)), some (.inl (.int v4)), o5, none, o7] [.inl (.long ws0)] s
noncomputable def jX6_rank_26 (back : mm_bt) (call : mm_ct) (s : mm_S) (v1 : Int32) (v2 : Int32) (v3 : Int32) (v4 : Int32) (o5 : Option am_V) (o7 : Option am_V) : am_R mm_S := (am_r2 back (gX6_rank_26 call)).1 [some (.inl (.ref 0)), some (.inl (.int v1)), some (.inl (.int v2)), some (.inl (.int v3)), some (.inl (.int v4)), o5, none, o7] [] s
noncomputable def jX6_rank_92_85 (back : mm_bt) (call : mm_ct) (s : mm_S) (v1 : Int32) (v2 : Int32) (v3 : Int32) (v4 : Int32) (o5 : Option am_V) (o7 : Option am_V) (ws0 : Int64) : am_R mm_S := (am_r2 back (gX6_rank_85 call)).2 92 [some (.inl (.ref 0)), some (.inl (.int v1)), some (.inl (.int v2)), some (.inl (.int v3)), some (.inl (.int v4)), o5, none, o7] [.inl (.long ws0)] s
theorem jX6_rank_92_85_eq (back : mm_bt) (call : mm_ct) (s : mm_S) (v1 : Int32) (v2 : Int32) (v3 : Int32) (v4 : Int32) (o5 : Option am_V) (o7 : Option am_V) (ws0 : Int64) : jX6_rank_92_85 back call s v1 v2 v3 v4 o5 o7 ws0 = jX6_rank_92 back call s v1 v2 v3 v4 o5 o7 ws0 := rfl
noncomputable def jX6_rank_139_104 (back : mm_bt) (call : mm_ct) (s : mm_S) (v1 : Int32) (v2 : Int32) (v3 : Int32) (v4 : Int32) (w5 : Int64) (v7 : Int32) : am_R mm_S := (am_r2 back (gX6_rank_104 call)).2 139 [some (.inl (.ref 0)), some (.inl (.int v1)), some (.inl (.int v2)), some (.inl (.int v3)), some (.inl (.int v4)), some (.inl (.long w5)), none, some (.inl (.int v7))] [] s
theorem jX6_rank_139_104_eq (back : mm_bt) (call : mm_ct) (s : mm_S) (v1 : Int32) (v2 : Int32) (v3 : Int32) (v4 : Int32) (w5 : Int64) (v7 : Int32) : jX6_rank_139_104 back call s v1 v2 v3 v4 w5 v7 = jX6_rank_139 back call s v1 v2 v3 v4 w5 v7 := rfl
noncomputable def jX6_rank_139_111 (back : mm_bt) (call : mm_ct) (s : mm_S) (v1 : Int32) (v2 : Int32) (v3 : Int32) (v4 : Int32) (w5 : Int64) (v7 : Int32) : am_R mm_S := (am_r2 back (gX6_rank_111 call)).2 139 [some (.inl (.ref 0)), some (.inl (.int v1)), some (.inl (.int v2)), some (.inl (.int v3)), some (.inl (.int v4)), some (.inl (.long w5)), none, some (.inl (.int v7))] [] s
theorem jX6_rank_139_111_eq (back : mm_bt) (call : mm_ct) (s : mm_S) (v1 : Int32) (v2 : Int32) (v3 : Int32) (v4 : Int32) (w5 : Int64) (v7 : Int32) : jX6_rank_139_111 back call s v1 v2 v3 v4 w5 v7 = jX6_rank_139 back call s v1 v2 v3 v4 w5 v7 := rfl
noncomputable def jX6_rank_149_63 (back : mm_bt) (call : mm_ct) (s : mm_S) (v1 : Int32) (v2 : Int32) (v3 : Int32) (v4 : Int32) (o5 : Option am_V) (o7 : Option am_V) : am_R mm_S := (am_r2 back (gX6_rank_63 call)).2 149 [some (.inl (.ref 0)), some (.inl (.int v1)), some (.inl (.int v2)), some (.inl (.int v3)), some (.inl (.int v4)), o5, none, o7] [] s
theorem jX6_rank_149_63_eq (back : mm_bt) (call : mm_ct) (s : mm_S) (v1 : Int32) (v2 : Int32) (v3 : Int32) (v4 : Int32) (o5 : Option am_V) (o7 : Option am_V) : jX6_rank_149_63 back call s v1 v2 v3 v4 o5 o7 = jX6_rank_149 back call s v1 v2 v3 v4 o5 o7 := rfl
noncomputable def jX6_rank_149_146 (back : mm_bt) (call : mm_ct) (s : mm_S) (v1 : Int32) (v2 : Int32) (v3 : Int32) (v4 : Int32) (o5 : Option am_V) (o7 : Option am_V) : am_R mm_S := (am_r2 back (gX6_rank_146 call)).2 149 [some (.inl (.ref 0)), some (.inl (.int v1)), some (.inl (.int v2)), some (.inl (.int v3)), some (.inl (.int v4)), o5, none, o7] [] s
theorem jX6_rank_149_146_eq (back : mm_bt) (call : mm_ct) (s : mm_S) (v1 : Int32) (v2 : Int32) (v3 : Int32) (v4 : Int32) (o5 : Option am_V) (o7 : Option am_V) : jX6_rank_149_146 back call s v1 v2 v3 v4 o5 o7 = jX6_rank_149 back call s v1 v2 v3 v4 o5 o7 := rfl
theorem jX6_rank_149_eq (back : mm_bt) (call : mm_ct) (s : mm_S) (v1 : Int32) (v2 : Int32) (v3 : Int32) (v4 : Int32) (o5 : Option am_V) (o7 : Option am_V) : jX6_rank_149 back call s v1 v2 v3 v4 o5 o7 =
  back 26 [some (.inl (.ref 0)), some (.inl (.int v1)), some (.inl (.int v2)), some (.inl (.int v3)), some (.inl (.int (v4 + ic 1))), o5, none, o7] [] s := rfl
theorem jX6_rank_139_eq (back : mm_bt) (call : mm_ct) (s : mm_S) (v1 : Int32) (v2 : Int32) (v3 : Int32) (v4 : Int32) (w5 : Int64) (v7 : Int32) : jX6_rank_139 back call s v1 v2 v3 v4 w5 v7 =
  if (lg_cmp w5 (lN 0)) < 0 then
    jX6_rank_149_146 back call s v1 v2 v3 v4 (some (.inl (.long w5))) (some (.inl (.int v7)))
  else
    some (.inl (some (.inl (.long w5))), s) := rfl
theorem jX6_rank_97_eq (back : mm_bt) (call : mm_ct) (s : mm_S) (v1 : Int32) (v2 : Int32) (v3 : Int32) (v4 : Int32) (w5 : Int64) (v7 : Int32) : jX6_rank_97 back call s v1 v2 v3 v4 w5 v7 =
  if v4 ≤ v7 then
    jX6_rank_139_104 back call s v1 v2 v3 v4 w5 v7
  else
    if (lg_cmp w5 (lN 0)) < 0 then
      jX6_rank_139_111 back call s v1 v2 v3 v4 w5 v7
    else
      am_ix (((ic 20) * (((ic 21) * v2) + v3)) + v7) 8820 fun j16 =>
      back 97 [some (.inl (.ref 0)), some (.inl (.int v1)), some (.inl (.int v2)), some (.inl (.int v3)), some (.inl (.int v4)), some (.inl (.long (w5 + (s.2.2 26 j16)))), none, some (.inl (.int (v7 + ic 1)))] [] s := rfl
theorem jX6_rank_92_eq (back : mm_bt) (call : mm_ct) (s : mm_S) (v1 : Int32) (v2 : Int32) (v3 : Int32) (v4 : Int32) (o5 : Option am_V) (o7 : Option am_V) (ws0 : Int64) : jX6_rank_92 back call s v1 v2 v3 v4 o5 o7 ws0 =
  jX6_rank_97 back call s v1 v2 v3 v4 ws0 (ic 0) := rfl
theorem jX6_rank_26_eq (back : mm_bt) (call : mm_ct) (s : mm_S) (v1 : Int32) (v2 : Int32) (v3 : Int32) (v4 : Int32) (o5 : Option am_V) (o7 : Option am_V) : jX6_rank_26 back call s v1 v2 v3 v4 o5 o7 =
  am_ix v1 450 fun j17 =>
  if (((ic 2) * (s.2.1 1 j17)) + (ic 2)) ≤ v4 then
    some (.inl (some (.inl (.long (-1)))), s)
  else
    am_ix (((ic 20) * (((ic 21) * v2) + v3)) + v4) 8820 fun j18 =>
    if (lg_cmp (s.2.2 26 j18) (lN 0)) ≤ 0 then
      jX6_rank_149_63 back call s v1 v2 v3 v4 o5 o7
    else
      am_dz (ic 2) (if (v4 - v4 / (ic 2) * (ic 2)) = (ic 1) then
        am_cl (call 53 [.inl (.ref 0), .inl (.int v1), .inl (.int (v2 + (ic 1))), .inl (.int (v3 - (ic 1)))] s) am_tx fun r22 s21 =>
        jX6_rank_92_85 back call s21 v1 v2 v3 v4 o5 o7 r22
      else
        am_cl (call 53 [.inl (.ref 0), .inl (.int v1), .inl (.int v2), .inl (.int v3)] s) am_tx fun r20 s19 =>
        jX6_rank_92 back call s19 v1 v2 v3 v4 o5 o7 r20) := rfl
noncomputable def dX6_rank (back : mm_bt) (call : mm_ct) (s : mm_S) (x1 : Int32) (x2 : Int32) (x3 : Int32) : am_R mm_S :=
  am_ix x1 450 fun j23 =>
  if (s.2.1 5 j23) ≤ (x3 - x2) then
    am_ix x1 450 fun j24 =>
    jX6_rank_26 back call s x1 x2 x3 ((ic 2) * (s.2.1 1 j24)) none none
  else
    some (.inl (some (.inl (.long (-1)))), s)
theorem dX6_rank_rs (back : mm_bt) (call : mm_ct) (s : mm_S) (x1 : Int32) (x2 : Int32) (x3 : Int32) : (am_r2 back (gX6_rank call)).1 [some (.inl (.ref 0)), some (.inl (.int x1)), some (.inl (.int x2)), some (.inl (.int x3)), none, none, none, none] [] s = dX6_rank back call s x1 x2 x3 := rfl
theorem dX6_rank_eq (N f : Nat) (s : mm_S) (x1 : Int32) (x2 : Int32) (x3 : Int32) : mm_call N (f + 1) 52 [.inl (.ref 0), .inl (.int x1), .inl (.int x2), .inl (.int x3)] s = dX6_rank (am_bk (mm_hop (mm_call N f)) am_no (some .long) kX6_rank N) (mm_call N f) s x1 x2 x3 := (mm_call_of (mt := 52) (nL := 8) (rt := (some .long)) (code := kX6_rank) rfl rfl rfl rfl gX6_rank_ok ⟨_, _, _, _, rfl⟩).trans (dX6_rank_rs _ _ s x1 x2 x3)
theorem jX6_rank_26_bk (call : mm_ct) (n : Nat) (s : mm_S) (v1 : Int32) (v2 : Int32) (v3 : Int32) (v4 : Int32) (o5 : Option am_V) (o7 : Option am_V) : am_bk (mm_hop call) am_no (some .long) kX6_rank (n + 1) 26 [some (.inl (.ref 0)), some (.inl (.int v1)), some (.inl (.int v2)), some (.inl (.int v3)), some (.inl (.int v4)), o5, none, o7] [] s = jX6_rank_26 (am_bk (mm_hop call) am_no (some .long) kX6_rank n) call s v1 v2 v3 v4 o5 o7 := (am_bk_of rfl (gX6_rank_ok call)).trans rfl
theorem jX6_rank_97_bk (call : mm_ct) (n : Nat) (s : mm_S) (v1 : Int32) (v2 : Int32) (v3 : Int32) (v4 : Int32) (w5 : Int64) (v7 : Int32) : am_bk (mm_hop call) am_no (some .long) kX6_rank (n + 1) 97 [some (.inl (.ref 0)), some (.inl (.int v1)), some (.inl (.int v2)), some (.inl (.int v3)), some (.inl (.int v4)), some (.inl (.long w5)), none, some (.inl (.int v7))] [] s = jX6_rank_97 (am_bk (mm_hop call) am_no (some .long) kX6_rank n) call s v1 v2 v3 v4 w5 v7 := (am_bk_of rfl (gX6_rank_ok call)).trans rfl
noncomputable def jX6_inner_192 (back : mm_bt) (call : mm_ct) (s : mm_S) (v1 : Int32) (v2 : Int32) (v3 : Int32) (vs0 : Int32) (vs1 : Int32) (vs2 : Int32) : am_R mm_S := (am_r2 back (gX6_inner_192 call)).1 [some (.inl (.ref 0)), some (.inl (.int v1)), some (.inl (.int v2)), some (.inl (.int v3)), none, none] [.inl (.int vs0), .inl (.int vs1), .inl (.int vs2), .inl (.ref 0)] s
noncomputable def jX6_inner_36 (back : mm_bt) (call : mm_ct) (s : mm_S) (v1 : Int32) (v2 : Int32) (v3 : Int32) (v4 : Int32) (v5 : Int32) : am_R mm_S := (am_r2 back (gX6_inner_36 call)).1 [some (.inl (.ref 0)), some (.inl (.int v1)), some (.inl (.int v2)), some (.inl (.int v3)), some (.inl (.int v4)), some (.inl (.int v5))] [] s
noncomputable def jX6_inner_192_191 (back : mm_bt) (call : mm_ct) (s : mm_S) (v1 : Int32) (v2 : Int32) (v3 : Int32) (vs0 : Int32) (vs1 : Int32) (vs2 : Int32) : am_R mm_S := (am_r2 back (gX6_inner_191 call)).2 192 [some (.inl (.ref 0)), some (.inl (.int v1)), some (.inl (.int v2)), some (.inl (.int v3)), none, none] [.inl (.int vs0), .inl (.int vs1), .inl (.int vs2), .inl (.ref 0)] s
theorem jX6_inner_192_191_eq (back : mm_bt) (call : mm_ct) (s : mm_S) (v1 : Int32) (v2 : Int32) (v3 : Int32) (vs0 : Int32) (vs1 : Int32) (vs2 : Int32) : jX6_inner_192_191 back call s v1 v2 v3 vs0 vs1 vs2 = jX6_inner_192 back call s v1 v2 v3 vs0 vs1 vs2 := rfl
theorem jX6_inner_192_eq (back : mm_bt) (call : mm_ct) (s : mm_S) (v1 : Int32) (v2 : Int32) (v3 : Int32) (vs0 : Int32) (vs1 : Int32) (vs2 : Int32) : jX6_inner_192 back call s v1 v2 v3 vs0 vs1 vs2 =
  am_cl (call 52 [.inl (.ref 0), .inl (.int vs2), .inl (.int vs1), .inl (.int vs0)] s) am_tx fun r23 s22 =>
  some (.inl (some (.inl (.long r23))), s22) := rfl
theorem jX6_inner_36_eq (back : mm_bt) (call : mm_ct) (s : mm_S) (v1 : Int32) (v2 : Int32) (v3 : Int32) (v4 : Int32) (v5 : Int32) : jX6_inner_36 back call s v1 v2 v3 v4 v5 =
  if v3 ≤ v5 then
    am_ix v1 450 fun j24 =>
    if v4 = (s.2.1 2 j24) then
      some (.inl (some (.inl (.long (lN 0)))), s)
    else
      some (.inl (some (.inl (.long (-1)))), s)
  else
    am_ix v5 20 fun j25 =>
    back 36 [some (.inl (.ref 0)), some (.inl (.int v1)), some (.inl (.int v2)), some (.inl (.int v3)), some (.inl (.int ((((ic 10) * v4) + (s.2.1 9 j25)) - (ic 10)))), some (.inl (.int (v5 + ic 1)))] [] s := rfl
noncomputable def dX6_inner (back : mm_bt) (call : mm_ct) (s : mm_S) (x1 : Int32) (x2 : Int32) (x3 : Int32) : am_R mm_S :=
  am_ix x1 450 fun j26 =>
  am_ci (call 7 [.inl (.int (s.2.1 1 j26))] s) am_tx fun r28 s27 =>
  if r28 = 0 then
    am_ix x1 450 fun j29 =>
    if (s27.2.1 1 j29) = (ic 1) then
      jX6_inner_36 back call s27 x1 x2 x3 (ic 0) x2
    else
      am_ix x1 450 fun j30 =>
      if (s27.2.1 1 j30) = 0 then
        am_ix x2 20 fun j39 =>
        am_ix x1 450 fun j40 =>
        if (s27.2.1 9 j39) = (s27.2.1 2 j40) then
          some (.inl (some (.inl (.long (lN 0)))), s27)
        else
          some (.inl (some (.inl (.long (-1)))), s27)
      else
        am_ix x1 450 fun j31 =>
        if (s27.2.1 1 j31) = (ic 9) then
          am_ix x2 20 fun j34 =>
          am_ix x1 450 fun j35 =>
          if (s27.2.1 9 j34) = (s27.2.1 2 j35) then
            am_ix x1 450 fun j36 =>
            am_cl (call 52 [.inl (.ref 0), .inl (.int (s27.2.1 3 j36)), .inl (.int (x2 + (ic 2))), .inl (.int x3)] s27) am_tx fun r38 s37 =>
            some (.inl (some (.inl (.long r38))), s37)
          else
            some (.inl (some (.inl (.long (-1)))), s27)
        else
          am_ix x1 450 fun j32 =>
          am_ix x1 450 fun j33 =>
          if (s27.2.1 1 j33) = (ic 8) then
            jX6_inner_192_191 back call s27 x1 x2 x3 (x3 - (ic 1)) (x2 + (ic 1)) (s27.2.1 3 j32)
          else
            jX6_inner_192 back call s27 x1 x2 x3 x3 (x2 + (ic 1)) (s27.2.1 3 j32)
  else
    am_cl (call 54 [.inl (.ref 0), .inl (.int x1), .inl (.int x2), .inl (.int x3)] s27) am_tx fun r42 s41 =>
    some (.inl (some (.inl (.long r42))), s41)
theorem dX6_inner_rs (back : mm_bt) (call : mm_ct) (s : mm_S) (x1 : Int32) (x2 : Int32) (x3 : Int32) : (am_r2 back (gX6_inner call)).1 [some (.inl (.ref 0)), some (.inl (.int x1)), some (.inl (.int x2)), some (.inl (.int x3)), none, none] [] s = dX6_inner back call s x1 x2 x3 := rfl
theorem dX6_inner_eq (N f : Nat) (s : mm_S) (x1 : Int32) (x2 : Int32) (x3 : Int32) : mm_call N (f + 1) 53 [.inl (.ref 0), .inl (.int x1), .inl (.int x2), .inl (.int x3)] s = dX6_inner (am_bk (mm_hop (mm_call N f)) am_no (some .long) kX6_inner N) (mm_call N f) s x1 x2 x3 := (mm_call_of (mt := 53) (nL := 6) (rt := (some .long)) (code := kX6_inner) rfl rfl rfl rfl gX6_inner_ok ⟨_, _, _, _, rfl⟩).trans (dX6_inner_rs _ _ s x1 x2 x3)
theorem jX6_inner_36_bk (call : mm_ct) (n : Nat) (s : mm_S) (v1 : Int32) (v2 : Int32) (v3 : Int32) (v4 : Int32) (v5 : Int32) : am_bk (mm_hop call) am_no (some .long) kX6_inner (n + 1) 36 [some (.inl (.ref 0)), some (.inl (.int v1)), some (.inl (.int v2)), some (.inl (.int v3)), some (.inl (.int v4)), some (.inl (.int v5))] [] s = jX6_inner_36 (am_bk (mm_hop call) am_no (some .long) kX6_inner n) call s v1 v2 v3 v4 v5 := (am_bk_of rfl (gX6_inner_ok call)).trans rfl
noncomputable def jX6_innerTwo_167 (back : mm_bt) (call : mm_ct) (s : mm_S) (v1 : Int32) (v2 : Int32) (v3 : Int32) (w4 : Int64) (v6 : Int32) (o7 : Option am_V) (o9 : Option am_V) (o11 : Option am_V) : am_R mm_S := (am_r2 back (gX6_innerTwo_167 call)).1 [some (.inl (.ref 0)), some (.inl (.int v1)), some (.inl (.int v2)), some (.inl (.int v3)), some (.inl (.long w4)), none, some (.inl (.int v6)), o7, none, o9, none, o11, none] [] s
noncomputable def jX6_innerTwo_124 (back : mm_bt) (call : mm_ct) (s : mm_S) (v1 : Int32) (v2 : Int32) (v3 : Int32) (w4 : Int64) (v6 : Int32) (w7 : Int64) (w9 : Int64) (o11 : Option am_V) (ws0 : Int64) : am_R mm_S := (am_r2 back (gX6_innerTwo_124 call)).1 [some (.inl (.ref 0)), some (.inl (.int v1)), some (.inl (.int v2)), some (.inl (.int v3)), some (.inl (.long w4)), none, some (.inl (.int v6)), some (.inl (.long w7)), none, some (.inl (.long w9)), none, o11, none] [.inl (.long ws0)] s
noncomputable def jX6_innerTwo_94 (back : mm_bt) (call : mm_ct) (s : mm_S) (v1 : Int32) (v2 : Int32) (v3 : Int32) (w4 : Int64) (v6 : Int32) (w7 : Int64) (o9 : Option am_V) (o11 : Option am_V) (ws0 : Int64) : am_R mm_S := (am_r2 back (gX6_innerTwo_94 call)).1 [some (.inl (.ref 0)), some (.inl (.int v1)), some (.inl (.int v2)), some (.inl (.int v3)), some (.inl (.long w4)), none, some (.inl (.int v6)), some (.inl (.long w7)), none, o9, none, o11, none] [.inl (.long ws0)] s
noncomputable def jX6_innerTwo_91 (back : mm_bt) (call : mm_ct) (s : mm_S) (v1 : Int32) (v2 : Int32) (v3 : Int32) (w4 : Int64) (v6 : Int32) (w7 : Int64) (o9 : Option am_V) (o11 : Option am_V) : am_R mm_S := (am_r2 back (gX6_innerTwo_91 call)).1 [some (.inl (.ref 0)), some (.inl (.int v1)), some (.inl (.int v2)), some (.inl (.int v3)), some (.inl (.long w4)), none, some (.inl (.int v6)), some (.inl (.long w7)), none, o9, none, o11, none] [] s
noncomputable def jX6_innerTwo_8 (back : mm_bt) (call : mm_ct) (s : mm_S) (v1 : Int32) (v2 : Int32) (v3 : Int32) (w4 : Int64) (v6 : Int32) (o7 : Option am_V) (o9 : Option am_V) (o11 : Option am_V) : am_R mm_S := (am_r2 back (gX6_innerTwo_8 call)).1 [some (.inl (.ref 0)), some (.inl (.int v1)), some (.inl (.int v2)), some (.inl (.int v3)), some (.inl (.long w4)), none, some (.inl (.int v6)), o7, none, o9, none, o11, none] [] s
noncomputable def jX6_innerTwo_91_58 (back : mm_bt) (call : mm_ct) (s : mm_S) (v1 : Int32) (v2 : Int32) (v3 : Int32) (w4 : Int64) (v6 : Int32) (w7 : Int64) (o9 : Option am_V) (o11 : Option am_V) : am_R mm_S := (am_r2 back (gX6_innerTwo_58 call)).2 91 [some (.inl (.ref 0)), some (.inl (.int v1)), some (.inl (.int v2)), some (.inl (.int v3)), some (.inl (.long w4)), none, some (.inl (.int v6)), some (.inl (.long w7)), none, o9, none, o11, none] [] s
theorem jX6_innerTwo_91_58_eq (back : mm_bt) (call : mm_ct) (s : mm_S) (v1 : Int32) (v2 : Int32) (v3 : Int32) (w4 : Int64) (v6 : Int32) (w7 : Int64) (o9 : Option am_V) (o11 : Option am_V) : jX6_innerTwo_91_58 back call s v1 v2 v3 w4 v6 w7 o9 o11 = jX6_innerTwo_91 back call s v1 v2 v3 w4 v6 w7 o9 o11 := rfl
noncomputable def jX6_innerTwo_91_75 (back : mm_bt) (call : mm_ct) (s : mm_S) (v1 : Int32) (v2 : Int32) (v3 : Int32) (w4 : Int64) (v6 : Int32) (w7 : Int64) (o9 : Option am_V) (o11 : Option am_V) : am_R mm_S := (am_r2 back (gX6_innerTwo_75 call)).2 91 [some (.inl (.ref 0)), some (.inl (.int v1)), some (.inl (.int v2)), some (.inl (.int v3)), some (.inl (.long w4)), none, some (.inl (.int v6)), some (.inl (.long w7)), none, o9, none, o11, none] [] s
theorem jX6_innerTwo_91_75_eq (back : mm_bt) (call : mm_ct) (s : mm_S) (v1 : Int32) (v2 : Int32) (v3 : Int32) (w4 : Int64) (v6 : Int32) (w7 : Int64) (o9 : Option am_V) (o11 : Option am_V) : jX6_innerTwo_91_75 back call s v1 v2 v3 w4 v6 w7 o9 o11 = jX6_innerTwo_91 back call s v1 v2 v3 w4 v6 w7 o9 o11 := rfl
noncomputable def jX6_innerTwo_94_91 (back : mm_bt) (call : mm_ct) (s : mm_S) (v1 : Int32) (v2 : Int32) (v3 : Int32) (w4 : Int64) (v6 : Int32) (w7 : Int64) (o9 : Option am_V) (o11 : Option am_V) (ws0 : Int64) : am_R mm_S := (am_r2 back (gX6_innerTwo_91 call)).2 94 [some (.inl (.ref 0)), some (.inl (.int v1)), some (.inl (.int v2)), some (.inl (.int v3)), some (.inl (.long w4)), none, some (.inl (.int v6)), some (.inl (.long w7)), none, o9, none, o11, none] [.inl (.long ws0)] s
theorem jX6_innerTwo_94_91_eq (back : mm_bt) (call : mm_ct) (s : mm_S) (v1 : Int32) (v2 : Int32) (v3 : Int32) (w4 : Int64) (v6 : Int32) (w7 : Int64) (o9 : Option am_V) (o11 : Option am_V) (ws0 : Int64) : jX6_innerTwo_94_91 back call s v1 v2 v3 w4 v6 w7 o9 o11 ws0 = jX6_innerTwo_94 back call s v1 v2 v3 w4 v6 w7 o9 o11 ws0 := rfl
noncomputable def jX6_innerTwo_124_121 (back : mm_bt) (call : mm_ct) (s : mm_S) (v1 : Int32) (v2 : Int32) (v3 : Int32) (w4 : Int64) (v6 : Int32) (w7 : Int64) (w9 : Int64) (o11 : Option am_V) (ws0 : Int64) : am_R mm_S := (am_r2 back (gX6_innerTwo_121 call)).2 124 [some (.inl (.ref 0)), some (.inl (.int v1)), some (.inl (.int v2)), some (.inl (.int v3)), some (.inl (.long w4)), none, some (.inl (.int v6)), some (.inl (.long w7)), none, some (.inl (.long w9)), none, o11, none] [.inl (.long ws0)] s
theorem jX6_innerTwo_124_121_eq (back : mm_bt) (call : mm_ct) (s : mm_S) (v1 : Int32) (v2 : Int32) (v3 : Int32) (w4 : Int64) (v6 : Int32) (w7 : Int64) (w9 : Int64) (o11 : Option am_V) (ws0 : Int64) : jX6_innerTwo_124_121 back call s v1 v2 v3 w4 v6 w7 w9 o11 ws0 = jX6_innerTwo_124 back call s v1 v2 v3 w4 v6 w7 w9 o11 ws0 := rfl
noncomputable def jX6_innerTwo_167_35 (back : mm_bt) (call : mm_ct) (s : mm_S) (v1 : Int32) (v2 : Int32) (v3 : Int32) (w4 : Int64) (v6 : Int32) (o7 : Option am_V) (o9 : Option am_V) (o11 : Option am_V) : am_R mm_S := (am_r2 back (gX6_innerTwo_35 call)).2 167 [some (.inl (.ref 0)), some (.inl (.int v1)), some (.inl (.int v2)), some (.inl (.int v3)), some (.inl (.long w4)), none, some (.inl (.int v6)), o7, none, o9, none, o11, none] [] s
theorem jX6_innerTwo_167_35_eq (back : mm_bt) (call : mm_ct) (s : mm_S) (v1 : Int32) (v2 : Int32) (v3 : Int32) (w4 : Int64) (v6 : Int32) (o7 : Option am_V) (o9 : Option am_V) (o11 : Option am_V) : jX6_innerTwo_167_35 back call s v1 v2 v3 w4 v6 o7 o9 o11 = jX6_innerTwo_167 back call s v1 v2 v3 w4 v6 o7 o9 o11 := rfl
theorem jX6_innerTwo_167_eq (back : mm_bt) (call : mm_ct) (s : mm_S) (v1 : Int32) (v2 : Int32) (v3 : Int32) (w4 : Int64) (v6 : Int32) (o7 : Option am_V) (o9 : Option am_V) (o11 : Option am_V) : jX6_innerTwo_167 back call s v1 v2 v3 w4 v6 o7 o9 o11 =
  back 8 [some (.inl (.ref 0)), some (.inl (.int v1)), some (.inl (.int v2)), some (.inl (.int v3)), some (.inl (.long w4)), none, some (.inl (.int (v6 + ic 1))), o7, none, o9, none, o11, none] [] s := rfl
theorem jX6_innerTwo_124_eq (back : mm_bt) (call : mm_ct) (s : mm_S) (v1 : Int32) (v2 : Int32) (v3 : Int32) (w4 : Int64) (v6 : Int32) (w7 : Int64) (w9 : Int64) (o11 : Option am_V) (ws0 : Int64) : jX6_innerTwo_124 back call s v1 v2 v3 w4 v6 w7 w9 o11 ws0 =
  if (lg_cmp ws0 (lN 0)) < 0 then
    am_ix (((ic 21) * v2) + v6) 441 fun j27 =>
    am_cl (call 44 [.inl (.long (s.2.2 27 j27)), .inl (.long w7)] s) am_tx fun r29 s28 =>
    jX6_innerTwo_167 back call s28 v1 v2 v3 (w4 + r29) v6 (some (.inl (.long w7))) (some (.inl (.long w9))) (some (.inl (.long ws0)))
  else
    some (.inl (some (.inl (.long ((w4 + (w9 * w7)) + ws0)))), s) := rfl
theorem jX6_innerTwo_94_eq (back : mm_bt) (call : mm_ct) (s : mm_S) (v1 : Int32) (v2 : Int32) (v3 : Int32) (w4 : Int64) (v6 : Int32) (w7 : Int64) (o9 : Option am_V) (o11 : Option am_V) (ws0 : Int64) : jX6_innerTwo_94 back call s v1 v2 v3 w4 v6 w7 o9 o11 ws0 =
  if (lg_cmp ws0 (lN 0)) < 0 then
    jX6_innerTwo_124 back call s v1 v2 v3 w4 v6 w7 ws0 o11 (-1)
  else
    am_ix v1 450 fun j30 =>
    am_cl (call 52 [.inl (.ref 0), .inl (.int (s.2.1 4 j30)), .inl (.int (v6 + (ic 1))), .inl (.int v3)] s) am_tx fun r32 s31 =>
    jX6_innerTwo_124_121 back call s31 v1 v2 v3 w4 v6 w7 ws0 o11 r32 := rfl
theorem jX6_innerTwo_91_eq (back : mm_bt) (call : mm_ct) (s : mm_S) (v1 : Int32) (v2 : Int32) (v3 : Int32) (w4 : Int64) (v6 : Int32) (w7 : Int64) (o9 : Option am_V) (o11 : Option am_V) : jX6_innerTwo_91 back call s v1 v2 v3 w4 v6 w7 o9 o11 =
  jX6_innerTwo_94 back call s v1 v2 v3 w4 v6 w7 o9 o11 (-1) := rfl
theorem jX6_innerTwo_8_eq (back : mm_bt) (call : mm_ct) (s : mm_S) (v1 : Int32) (v2 : Int32) (v3 : Int32) (w4 : Int64) (v6 : Int32) (o7 : Option am_V) (o9 : Option am_V) (o11 : Option am_V) : jX6_innerTwo_8 back call s v1 v2 v3 w4 v6 o7 o9 o11 =
  if (v3 - (ic 1)) ≤ v6 then
    some (.inl (some (.inl (.long (-1)))), s)
  else
    am_ix v6 20 fun j33 =>
    am_ix v1 450 fun j34 =>
    if (s.2.1 9 j33) = ((ic 18) + (s.2.1 1 j34)) then
      am_ix (((ic 21) * (v6 + (ic 1))) + v3) 441 fun j35 =>
      if (lg_cmp (s.2.2 27 j35) (lN 0)) ≤ 0 then
        jX6_innerTwo_91_58 back call s v1 v2 v3 w4 v6 (s.2.2 27 j35) o9 o11
      else
        am_ix (((ic 21) * v2) + v6) 441 fun j36 =>
        if (lg_cmp (s.2.2 27 j36) (lN 0)) ≤ 0 then
          jX6_innerTwo_91_75 back call s v1 v2 v3 w4 v6 (s.2.2 27 j35) o9 o11
        else
          am_ix v1 450 fun j37 =>
          am_cl (call 52 [.inl (.ref 0), .inl (.int (s.2.1 3 j37)), .inl (.int v2), .inl (.int v6)] s) am_tx fun r39 s38 =>
          jX6_innerTwo_94_91 back call s38 v1 v2 v3 w4 v6 (s.2.2 27 j35) o9 o11 r39
    else
      jX6_innerTwo_167_35 back call s v1 v2 v3 w4 v6 o7 o9 o11 := rfl
noncomputable def dX6_innerTwo (back : mm_bt) (call : mm_ct) (s : mm_S) (x1 : Int32) (x2 : Int32) (x3 : Int32) : am_R mm_S :=
  jX6_innerTwo_8 back call s x1 x2 x3 (lN 0) (x2 + (ic 1)) none none none
theorem dX6_innerTwo_rs (back : mm_bt) (call : mm_ct) (s : mm_S) (x1 : Int32) (x2 : Int32) (x3 : Int32) : (am_r2 back (gX6_innerTwo call)).1 [some (.inl (.ref 0)), some (.inl (.int x1)), some (.inl (.int x2)), some (.inl (.int x3)), none, none, none, none, none, none, none, none, none] [] s = dX6_innerTwo back call s x1 x2 x3 := rfl
theorem dX6_innerTwo_eq (N f : Nat) (s : mm_S) (x1 : Int32) (x2 : Int32) (x3 : Int32) : mm_call N (f + 1) 54 [.inl (.ref 0), .inl (.int x1), .inl (.int x2), .inl (.int x3)] s = dX6_innerTwo (am_bk (mm_hop (mm_call N f)) am_no (some .long) kX6_innerTwo N) (mm_call N f) s x1 x2 x3 := (mm_call_of (mt := 54) (nL := 13) (rt := (some .long)) (code := kX6_innerTwo) rfl rfl rfl rfl gX6_innerTwo_ok ⟨_, _, _, _, rfl⟩).trans (dX6_innerTwo_rs _ _ s x1 x2 x3)
theorem jX6_innerTwo_8_bk (call : mm_ct) (n : Nat) (s : mm_S) (v1 : Int32) (v2 : Int32) (v3 : Int32) (w4 : Int64) (v6 : Int32) (o7 : Option am_V) (o9 : Option am_V) (o11 : Option am_V) : am_bk (mm_hop call) am_no (some .long) kX6_innerTwo (n + 1) 8 [some (.inl (.ref 0)), some (.inl (.int v1)), some (.inl (.int v2)), some (.inl (.int v3)), some (.inl (.long w4)), none, some (.inl (.int v6)), o7, none, o9, none, o11, none] [] s = jX6_innerTwo_8 (am_bk (mm_hop call) am_no (some .long) kX6_innerTwo n) call s v1 v2 v3 w4 v6 o7 o9 o11 := (am_bk_of rfl (gX6_innerTwo_ok call)).trans rfl
noncomputable def jX6_doubt_240 (back : mm_bt) (call : mm_ct) (s : mm_S) (v1 : Int32) (w2 : Int64) (w4 : Int64) (v6 : Int32) (v7 : Int32) (v8 : Int32) (v9 : Int32) (v10 : Int32) (vs0 : Int32) : am_R mm_S := (am_r2 back (gX6_doubt_240 call)).1 [some (.inl (.ref 0)), some (.inl (.int v1)), some (.inl (.long w2)), none, some (.inl (.long w4)), none, some (.inl (.int v6)), some (.inl (.int v7)), some (.inl (.int v8)), some (.inl (.int v9)), some (.inl (.int v10))] [.inl (.int vs0)] s
noncomputable def jX6_doubt_216 (back : mm_bt) (call : mm_ct) (s : mm_S) (v1 : Int32) (w2 : Int64) (w4 : Int64) (v6 : Int32) (v7 : Int32) (v8 : Int32) (v9 : Int32) (v10 : Int32) (vs0 : Int32) : am_R mm_S := (am_r2 back (gX6_doubt_216 call)).1 [some (.inl (.ref 0)), some (.inl (.int v1)), some (.inl (.long w2)), none, some (.inl (.long w4)), none, some (.inl (.int v6)), some (.inl (.int v7)), some (.inl (.int v8)), some (.inl (.int v9)), some (.inl (.int v10))] [.inl (.int vs0)] s
noncomputable def jX6_doubt_185 (back : mm_bt) (call : mm_ct) (s : mm_S) (v1 : Int32) (w2 : Int64) (w4 : Int64) (v6 : Int32) (v7 : Int32) (v8 : Int32) (v9 : Int32) (v10 : Int32) (vs0 : Int32) (vs1 : Int32) : am_R mm_S := (am_r2 back (gX6_doubt_185 call)).1 [some (.inl (.ref 0)), some (.inl (.int v1)), some (.inl (.long w2)), none, some (.inl (.long w4)), none, some (.inl (.int v6)), some (.inl (.int v7)), some (.inl (.int v8)), some (.inl (.int v9)), some (.inl (.int v10))] [.inl (.int vs0), .inl (.int vs1)] s
noncomputable def jX6_doubt_167 (back : mm_bt) (call : mm_ct) (s : mm_S) (v1 : Int32) (w2 : Int64) (w4 : Int64) (v6 : Int32) (v7 : Int32) (v8 : Int32) (v9 : Int32) (o10 : Option am_V) (vs0 : Int32) : am_R mm_S := (am_r2 back (gX6_doubt_167 call)).1 [some (.inl (.ref 0)), some (.inl (.int v1)), some (.inl (.long w2)), none, some (.inl (.long w4)), none, some (.inl (.int v6)), some (.inl (.int v7)), some (.inl (.int v8)), some (.inl (.int v9)), o10] [.inl (.int vs0)] s
noncomputable def jX6_doubt_107 (back : mm_bt) (call : mm_ct) (s : mm_S) (v1 : Int32) (w2 : Int64) (w4 : Int64) (v6 : Int32) (v7 : Int32) (v8 : Int32) (v9 : Int32) (o10 : Option am_V) : am_R mm_S := (am_r2 back (gX6_doubt_107 call)).1 [some (.inl (.ref 0)), some (.inl (.int v1)), some (.inl (.long w2)), none, some (.inl (.long w4)), none, some (.inl (.int v6)), some (.inl (.int v7)), some (.inl (.int v8)), some (.inl (.int v9)), o10] [] s
noncomputable def jX6_doubt_47 (back : mm_bt) (call : mm_ct) (s : mm_S) (v1 : Int32) (w2 : Int64) (w4 : Int64) : am_R mm_S := (am_r2 back (gX6_doubt_47 call)).1 [some (.inl (.ref 0)), some (.inl (.int v1)), some (.inl (.long w2)), none, some (.inl (.long w4)), none, none, none, none, none, none] [] s
noncomputable def jX6_doubt_47_34 (back : mm_bt) (call : mm_ct) (s : mm_S) (v1 : Int32) (w2 : Int64) (w4 : Int64) : am_R mm_S := (am_r2 back (gX6_doubt_34 call)).2 47 [some (.inl (.ref 0)), some (.inl (.int v1)), some (.inl (.long w2)), none, some (.inl (.long w4)), none, none, none, none, none, none] [] s
theorem jX6_doubt_47_34_eq (back : mm_bt) (call : mm_ct) (s : mm_S) (v1 : Int32) (w2 : Int64) (w4 : Int64) : jX6_doubt_47_34 back call s v1 w2 w4 = jX6_doubt_47 back call s v1 w2 w4 := rfl
noncomputable def jX6_doubt_47_44 (back : mm_bt) (call : mm_ct) (s : mm_S) (v1 : Int32) (w2 : Int64) (w4 : Int64) : am_R mm_S := (am_r2 back (gX6_doubt_44 call)).2 47 [some (.inl (.ref 0)), some (.inl (.int v1)), some (.inl (.long w2)), none, some (.inl (.long w4)), none, none, none, none, none, none] [] s
theorem jX6_doubt_47_44_eq (back : mm_bt) (call : mm_ct) (s : mm_S) (v1 : Int32) (w2 : Int64) (w4 : Int64) : jX6_doubt_47_44 back call s v1 w2 w4 = jX6_doubt_47 back call s v1 w2 w4 := rfl
noncomputable def jX6_doubt_167_166 (back : mm_bt) (call : mm_ct) (s : mm_S) (v1 : Int32) (w2 : Int64) (w4 : Int64) (v6 : Int32) (v7 : Int32) (v8 : Int32) (v9 : Int32) (o10 : Option am_V) (vs0 : Int32) : am_R mm_S := (am_r2 back (gX6_doubt_166 call)).2 167 [some (.inl (.ref 0)), some (.inl (.int v1)), some (.inl (.long w2)), none, some (.inl (.long w4)), none, some (.inl (.int v6)), some (.inl (.int v7)), some (.inl (.int v8)), some (.inl (.int v9)), o10] [.inl (.int vs0)] s
theorem jX6_doubt_167_166_eq (back : mm_bt) (call : mm_ct) (s : mm_S) (v1 : Int32) (w2 : Int64) (w4 : Int64) (v6 : Int32) (v7 : Int32) (v8 : Int32) (v9 : Int32) (o10 : Option am_V) (vs0 : Int32) : jX6_doubt_167_166 back call s v1 w2 w4 v6 v7 v8 v9 o10 vs0 = jX6_doubt_167 back call s v1 w2 w4 v6 v7 v8 v9 o10 vs0 := rfl
noncomputable def jX6_doubt_185_181 (back : mm_bt) (call : mm_ct) (s : mm_S) (v1 : Int32) (w2 : Int64) (w4 : Int64) (v6 : Int32) (v7 : Int32) (v8 : Int32) (v9 : Int32) (v10 : Int32) (vs0 : Int32) (vs1 : Int32) : am_R mm_S := (am_r2 back (gX6_doubt_181 call)).2 185 [some (.inl (.ref 0)), some (.inl (.int v1)), some (.inl (.long w2)), none, some (.inl (.long w4)), none, some (.inl (.int v6)), some (.inl (.int v7)), some (.inl (.int v8)), some (.inl (.int v9)), some (.inl (.int v10))] [.inl (.int vs0), .inl (.int vs1)] s
theorem jX6_doubt_185_181_eq (back : mm_bt) (call : mm_ct) (s : mm_S) (v1 : Int32) (w2 : Int64) (w4 : Int64) (v6 : Int32) (v7 : Int32) (v8 : Int32) (v9 : Int32) (v10 : Int32) (vs0 : Int32) (vs1 : Int32) : jX6_doubt_185_181 back call s v1 w2 w4 v6 v7 v8 v9 v10 vs0 vs1 = jX6_doubt_185 back call s v1 w2 w4 v6 v7 v8 v9 v10 vs0 vs1 := rfl
noncomputable def jX6_doubt_216_209 (back : mm_bt) (call : mm_ct) (s : mm_S) (v1 : Int32) (w2 : Int64) (w4 : Int64) (v6 : Int32) (v7 : Int32) (v8 : Int32) (v9 : Int32) (v10 : Int32) (vs0 : Int32) : am_R mm_S := (am_r2 back (gX6_doubt_209 call)).2 216 [some (.inl (.ref 0)), some (.inl (.int v1)), some (.inl (.long w2)), none, some (.inl (.long w4)), none, some (.inl (.int v6)), some (.inl (.int v7)), some (.inl (.int v8)), some (.inl (.int v9)), some (.inl (.int v10))] [.inl (.int vs0)] s
theorem jX6_doubt_216_209_eq (back : mm_bt) (call : mm_ct) (s : mm_S) (v1 : Int32) (w2 : Int64) (w4 : Int64) (v6 : Int32) (v7 : Int32) (v8 : Int32) (v9 : Int32) (v10 : Int32) (vs0 : Int32) : jX6_doubt_216_209 back call s v1 w2 w4 v6 v7 v8 v9 v10 vs0 = jX6_doubt_216 back call s v1 w2 w4 v6 v7 v8 v9 v10 vs0 := rfl
noncomputable def jX6_doubt_240_233 (back : mm_bt) (call : mm_ct) (s : mm_S) (v1 : Int32) (w2 : Int64) (w4 : Int64) (v6 : Int32) (v7 : Int32) (v8 : Int32) (v9 : Int32) (v10 : Int32) (vs0 : Int32) : am_R mm_S := (am_r2 back (gX6_doubt_233 call)).2 240 [some (.inl (.ref 0)), some (.inl (.int v1)), some (.inl (.long w2)), none, some (.inl (.long w4)), none, some (.inl (.int v6)), some (.inl (.int v7)), some (.inl (.int v8)), some (.inl (.int v9)), some (.inl (.int v10))] [.inl (.int vs0)] s
theorem jX6_doubt_240_233_eq (back : mm_bt) (call : mm_ct) (s : mm_S) (v1 : Int32) (w2 : Int64) (w4 : Int64) (v6 : Int32) (v7 : Int32) (v8 : Int32) (v9 : Int32) (v10 : Int32) (vs0 : Int32) : jX6_doubt_240_233 back call s v1 w2 w4 v6 v7 v8 v9 v10 vs0 = jX6_doubt_240 back call s v1 w2 w4 v6 v7 v8 v9 v10 vs0 := rfl
theorem jX6_doubt_240_eq (back : mm_bt) (call : mm_ct) (s : mm_S) (v1 : Int32) (w2 : Int64) (w4 : Int64) (v6 : Int32) (v7 : Int32) (v8 : Int32) (v9 : Int32) (v10 : Int32) (vs0 : Int32) : jX6_doubt_240 back call s v1 w2 w4 v6 v7 v8 v9 v10 vs0 =
  back 107 [some (.inl (.ref 0)), some (.inl (.int v1)), some (.inl (.long w2)), none, some (.inl (.long w4)), none, some (.inl (.int v6)), some (.inl (.int vs0)), some (.inl (.int v8)), some (.inl (.int v9)), some (.inl (.int v10))] [] s := rfl
theorem jX6_doubt_216_eq (back : mm_bt) (call : mm_ct) (s : mm_S) (v1 : Int32) (w2 : Int64) (w4 : Int64) (v6 : Int32) (v7 : Int32) (v8 : Int32) (v9 : Int32) (v10 : Int32) (vs0 : Int32) : jX6_doubt_216 back call s v1 w2 w4 v6 v7 v8 v9 v10 vs0 =
  if v10 = 0 then
    am_ix v7 450 fun j33 =>
    jX6_doubt_240 back call s v1 w2 w4 vs0 v7 v8 v9 v10 (s.2.1 4 j33)
  else
    am_ix v7 450 fun j34 =>
    jX6_doubt_240_233 back call s v1 w2 w4 vs0 v7 v8 v9 v10 (s.2.1 3 j34) := rfl
theorem jX6_doubt_185_eq (back : mm_bt) (call : mm_ct) (s : mm_S) (v1 : Int32) (w2 : Int64) (w4 : Int64) (v6 : Int32) (v7 : Int32) (v8 : Int32) (v9 : Int32) (v10 : Int32) (vs0 : Int32) (vs1 : Int32) : jX6_doubt_185 back call s v1 w2 w4 v6 v7 v8 v9 v10 vs0 vs1 =
  if v10 = 0 then
    am_ix v6 450 fun j35 =>
    jX6_doubt_216 back call s v1 w2 w4 v6 v7 (vs1 + vs0) (v9 * (ic 3)) v10 (s.2.1 4 j35)
  else
    am_ix v6 450 fun j36 =>
    jX6_doubt_216_209 back call s v1 w2 w4 v6 v7 (vs1 + vs0) (v9 * (ic 3)) v10 (s.2.1 3 j36) := rfl
theorem jX6_doubt_167_eq (back : mm_bt) (call : mm_ct) (s : mm_S) (v1 : Int32) (w2 : Int64) (w4 : Int64) (v6 : Int32) (v7 : Int32) (v8 : Int32) (v9 : Int32) (o10 : Option am_V) (vs0 : Int32) : jX6_doubt_167 back call s v1 w2 w4 v6 v7 v8 v9 o10 vs0 =
  if vs0 = 0 then
    jX6_doubt_185 back call s v1 w2 w4 v6 v7 v8 v9 vs0 ((ic 2) * v9) v8
  else
    jX6_doubt_185_181 back call s v1 w2 w4 v6 v7 v8 v9 vs0 v9 v8 := rfl
theorem jX6_doubt_107_eq (back : mm_bt) (call : mm_ct) (s : mm_S) (v1 : Int32) (w2 : Int64) (w4 : Int64) (v6 : Int32) (v7 : Int32) (v8 : Int32) (v9 : Int32) (o10 : Option am_V) : jX6_doubt_107 back call s v1 w2 w4 v6 v7 v8 v9 o10 =
  am_ix v6 450 fun j37 =>
  am_ix v7 450 fun j38 =>
  if (s.2.1 1 j37) = (s.2.1 1 j38) then
    am_ix v6 450 fun j39 =>
    am_ix v7 450 fun j40 =>
    if (s.2.1 2 j39) = (s.2.1 2 j40) then
      am_ix v6 450 fun j41 =>
      am_ix v7 450 fun j42 =>
      am_ci (call 13 [.inl (.ref 0), .inl (.int (s.2.1 3 j41)), .inl (.int (s.2.1 3 j42))] s) am_tx fun r44 s43 =>
      if r44 = 0 then
        jX6_doubt_167_166 back call s43 v1 w2 w4 v6 v7 v8 v9 o10 (ic 1)
      else
        jX6_doubt_167 back call s43 v1 w2 w4 v6 v7 v8 v9 o10 (ic 0)
    else
      some (.inl (some (.inl (.int v8))), s)
  else
    some (.inl (some (.inl (.int v8))), s) := rfl
theorem jX6_doubt_47_eq (back : mm_bt) (call : mm_ct) (s : mm_S) (v1 : Int32) (w2 : Int64) (w4 : Int64) : jX6_doubt_47 back call s v1 w2 w4 =
  am_cl (call 39 [.inl (.ref 0), .inl (.int v1)] s) am_tx fun r46 s45 =>
  if 0 ≤ (lg_cmp w2 r46) then
    some (.inl (some (.inl (.int (ic (-4))))), s45)
  else
    am_cl (call 39 [.inl (.ref 0), .inl (.int v1)] s45) am_tx fun r48 s47 =>
    if (lg_cmp w4 r48) < 0 then
      am_ci (call 47 [.inl (.ref 0), .inl (.int (ic 0)), .inl (.int ((mm_p s47 29 (ic 0)).1 10)), .inl (.long w2)] (mm_p s47 29 (ic 0))) am_tx fun r50 s49 =>
      am_ci (call 47 [.inl (.ref 0), .inl (.int (ic 0)), .inl (.int (s49.1 10)), .inl (.long w4)] s49) am_tx fun r52 s51 =>
      jX6_doubt_107 back call s51 v1 w2 w4 r50 r52 (ic 0) (ic 1) none
    else
      some (.inl (some (.inl (.int (ic (-4))))), s47) := rfl
noncomputable def dX6_doubt (back : mm_bt) (call : mm_ct) (s : mm_S) (x1 : Int32) (x2 : Int64) (x3 : Int64) : am_R mm_S :=
  am_ci (call 3 [.inl (.long x1.toInt64), .inl (.long (lN 0)), .inl (.long 8)] s) am_tx fun r54 s53 =>
  if r54 = 0 then
    some (.inl (some (.inl (.int (ic (-1))))), s53)
  else
    if (lg_cmp x2 (lN 0)) < 0 then
      some (.inl (some (.inl (.int (ic (-1))))), s53)
    else
      if 0 ≤ (lg_cmp x3 (lN 0)) then
        if (lg_cmp x2 x3) = 0 then
          am_cl (call 39 [.inl (.ref 0), .inl (.int x1)] s53) am_tx fun r56 s55 =>
          if 0 ≤ (lg_cmp x2 r56) then
            jX6_doubt_47_44 back call s55 x1 x2 x3
          else
            some (.inl (some (.inl (.int (ic (-2))))), s55)
        else
          jX6_doubt_47_34 back call s53 x1 x2 x3
      else
        some (.inl (some (.inl (.int (ic (-1))))), s53)
theorem dX6_doubt_rs (back : mm_bt) (call : mm_ct) (s : mm_S) (x1 : Int32) (x2 : Int64) (x3 : Int64) : (am_r2 back (gX6_doubt call)).1 [some (.inl (.ref 0)), some (.inl (.int x1)), some (.inl (.long x2)), none, some (.inl (.long x3)), none, none, none, none, none, none] [] s = dX6_doubt back call s x1 x2 x3 := rfl
theorem dX6_doubt_eq (N f : Nat) (s : mm_S) (x1 : Int32) (x2 : Int64) (x3 : Int64) : mm_call N (f + 1) 55 [.inl (.ref 0), .inl (.int x1), .inl (.long x2), .inl (.long x3)] s = dX6_doubt (am_bk (mm_hop (mm_call N f)) am_no (some .int) kX6_doubt N) (mm_call N f) s x1 x2 x3 := (mm_call_of (mt := 55) (nL := 11) (rt := (some .int)) (code := kX6_doubt) rfl rfl rfl rfl gX6_doubt_ok ⟨_, _, _, _, rfl⟩).trans (dX6_doubt_rs _ _ s x1 x2 x3)
theorem jX6_doubt_107_bk (call : mm_ct) (n : Nat) (s : mm_S) (v1 : Int32) (w2 : Int64) (w4 : Int64) (v6 : Int32) (v7 : Int32) (v8 : Int32) (v9 : Int32) (o10 : Option am_V) : am_bk (mm_hop call) am_no (some .int) kX6_doubt (n + 1) 107 [some (.inl (.ref 0)), some (.inl (.int v1)), some (.inl (.long w2)), none, some (.inl (.long w4)), none, some (.inl (.int v6)), some (.inl (.int v7)), some (.inl (.int v8)), some (.inl (.int v9)), o10] [] s = jX6_doubt_107 (am_bk (mm_hop call) am_no (some .int) kX6_doubt n) call s v1 w2 w4 v6 v7 v8 v9 o10 := (am_bk_of rfl (gX6_doubt_ok call)).trans rfl
noncomputable def jX6_fewest_141 (back : mm_bt) (call : mm_ct) (s : mm_S) (v1 : Int32) (v2 : Int32) (v3 : Int32) (v4 : Int32) (o5 : Option am_V) : am_R mm_S := (am_r2 back (gX6_fewest_141 call)).1 [some (.inl (.ref 0)), some (.inl (.int v1)), some (.inl (.int v2)), some (.inl (.int v3)), some (.inl (.int v4)), o5] [] s
noncomputable def jX6_fewest_126 (back : mm_bt) (call : mm_ct) (s : mm_S) (v1 : Int32) (v2 : Int32) (v3 : Int32) (v4 : Int32) (v5 : Int32) : am_R mm_S := (am_r2 back (gX6_fewest_126 call)).1 [some (.inl (.ref 0)), some (.inl (.int v1)), some (.inl (.int v2)), some (.inl (.int v3)), some (.inl (.int v4)), some (.inl (.int v5))] [] s
noncomputable def jX6_fewest_92 (back : mm_bt) (call : mm_ct) (s : mm_S) (v1 : Int32) (v2 : Int32) (v3 : Int32) (v4 : Int32) (v5 : Int32) : am_R mm_S := (am_r2 back (gX6_fewest_92 call)).1 [some (.inl (.ref 0)), some (.inl (.int v1)), some (.inl (.int v2)), some (.inl (.int v3)), some (.inl (.int v4)), some (.inl (.int v5))] [] s
noncomputable def jX6_fewest_83 (back : mm_bt) (call : mm_ct) (s : mm_S) (v1 : Int32) (v2 : Int32) (v3 : Int32) (v4 : Int32) (o5 : Option am_V) : am_R mm_S := (am_r2 back (gX6_fewest_83 call)).1 [some (.inl (.ref 0)), some (.inl (.int v1)), some (.inl (.int v2)), some (.inl (.int v3)), some (.inl (.int v4)), o5] [] s
noncomputable def jX6_fewest_54 (back : mm_bt) (call : mm_ct) (s : mm_S) (v1 : Int32) (v2 : Int32) (v3 : Int32) (v4 : Int32) : am_R mm_S := (am_r2 back (gX6_fewest_54 call)).1 [some (.inl (.ref 0)), some (.inl (.int v1)), some (.inl (.int v2)), some (.inl (.int v3)), some (.inl (.int v4)), none] [] s
noncomputable def jX6_fewest_30 (back : mm_bt) (call : mm_ct) (s : mm_S) (v1 : Int32) (v2 : Int32) : am_R mm_S := (am_r2 back (gX6_fewest_30 call)).1 [some (.inl (.ref 0)), some (.inl (.int v1)), some (.inl (.int v2)), none, none, none] [] s
noncomputable def jX6_fewest_30_24 (back : mm_bt) (call : mm_ct) (s : mm_S) (v1 : Int32) (v2 : Int32) : am_R mm_S := (am_r2 back (gX6_fewest_24 call)).2 30 [some (.inl (.ref 0)), some (.inl (.int v1)), some (.inl (.int v2)), none, none, none] [] s
theorem jX6_fewest_30_24_eq (back : mm_bt) (call : mm_ct) (s : mm_S) (v1 : Int32) (v2 : Int32) : jX6_fewest_30_24 back call s v1 v2 = jX6_fewest_30 back call s v1 v2 := rfl
noncomputable def jX6_fewest_126_110 (back : mm_bt) (call : mm_ct) (s : mm_S) (v1 : Int32) (v2 : Int32) (v3 : Int32) (v4 : Int32) (v5 : Int32) : am_R mm_S := (am_r2 back (gX6_fewest_110 call)).2 126 [some (.inl (.ref 0)), some (.inl (.int v1)), some (.inl (.int v2)), some (.inl (.int v3)), some (.inl (.int v4)), some (.inl (.int v5))] [] s
theorem jX6_fewest_126_110_eq (back : mm_bt) (call : mm_ct) (s : mm_S) (v1 : Int32) (v2 : Int32) (v3 : Int32) (v4 : Int32) (v5 : Int32) : jX6_fewest_126_110 back call s v1 v2 v3 v4 v5 = jX6_fewest_126 back call s v1 v2 v3 v4 v5 := rfl
noncomputable def jX6_fewest_126_121 (back : mm_bt) (call : mm_ct) (s : mm_S) (v1 : Int32) (v2 : Int32) (v3 : Int32) (v4 : Int32) (v5 : Int32) : am_R mm_S := (am_r2 back (gX6_fewest_121 call)).2 126 [some (.inl (.ref 0)), some (.inl (.int v1)), some (.inl (.int v2)), some (.inl (.int v3)), some (.inl (.int v4)), some (.inl (.int v5))] [] s
theorem jX6_fewest_126_121_eq (back : mm_bt) (call : mm_ct) (s : mm_S) (v1 : Int32) (v2 : Int32) (v3 : Int32) (v4 : Int32) (v5 : Int32) : jX6_fewest_126_121 back call s v1 v2 v3 v4 v5 = jX6_fewest_126 back call s v1 v2 v3 v4 v5 := rfl
theorem jX6_fewest_141_eq (back : mm_bt) (call : mm_ct) (s : mm_S) (v1 : Int32) (v2 : Int32) (v3 : Int32) (v4 : Int32) (o5 : Option am_V) : jX6_fewest_141 back call s v1 v2 v3 v4 o5 =
  if v3 ≤ v4 then
    some (.inl (some (.inl (.int (ic (-2))))), (mm_p s 10 v3))
  else
    am_ix v4 256 fun j17 =>
    am_ix v4 20 fun j18 =>
    back 141 [some (.inl (.ref 0)), some (.inl (.int v1)), some (.inl (.int v2)), some (.inl (.int v3)), some (.inl (.int (v4 + ic 1))), o5] [] (mm_pa s 9 j18 (s.2.1 22 j17)) := rfl
theorem jX6_fewest_126_eq (back : mm_bt) (call : mm_ct) (s : mm_S) (v1 : Int32) (v2 : Int32) (v3 : Int32) (v4 : Int32) (v5 : Int32) : jX6_fewest_126 back call s v1 v2 v3 v4 v5 =
  back 92 [some (.inl (.ref 0)), some (.inl (.int v1)), some (.inl (.int v2)), some (.inl (.int v3)), some (.inl (.int v4)), some (.inl (.int (v5 + ic 1)))] [] s := rfl
theorem jX6_fewest_92_eq (back : mm_bt) (call : mm_ct) (s : mm_S) (v1 : Int32) (v2 : Int32) (v3 : Int32) (v4 : Int32) (v5 : Int32) : jX6_fewest_92 back call s v1 v2 v3 v4 v5 =
  if ((ic 1) <<< (v2 &&& 31)) ≤ v5 then
    back 83 [some (.inl (.ref 0)), some (.inl (.int v1)), some (.inl (.int v2)), some (.inl (.int v3)), some (.inl (.int (v4 + ic 1))), some (.inl (.int v5))] [] s
  else
    am_ci (call 58 [.inl (.int v5)] s) am_tx fun r20 s19 =>
    if r20 = v4 then
      am_ci (call 59 [.inl (.ref 0), .inl (.int v1), .inl (.int v5), .inl (.int v2)] s19) am_tx fun r22 s21 =>
      if r22 = 0 then
        jX6_fewest_126_121 back call s21 v1 v2 v3 v4 v5
      else
        some (.inl (some (.inl (.int (s21.1 10)))), s21)
    else
      jX6_fewest_126_110 back call s19 v1 v2 v3 v4 v5 := rfl
theorem jX6_fewest_83_eq (back : mm_bt) (call : mm_ct) (s : mm_S) (v1 : Int32) (v2 : Int32) (v3 : Int32) (v4 : Int32) (o5 : Option am_V) : jX6_fewest_83 back call s v1 v2 v3 v4 o5 =
  if v2 < v4 then
    jX6_fewest_141 back call s v1 v2 v3 (ic 0) o5
  else
    jX6_fewest_92 back call s v1 v2 v3 v4 (ic 0) := rfl
theorem jX6_fewest_54_eq (back : mm_bt) (call : mm_ct) (s : mm_S) (v1 : Int32) (v2 : Int32) (v3 : Int32) (v4 : Int32) : jX6_fewest_54 back call s v1 v2 v3 v4 =
  if v3 ≤ v4 then
    jX6_fewest_83 back call s v1 v2 v3 (ic 0) none
  else
    am_ix v4 20 fun j23 =>
    am_ix v4 256 fun j24 =>
    back 54 [some (.inl (.ref 0)), some (.inl (.int v1)), some (.inl (.int v2)), some (.inl (.int v3)), some (.inl (.int (v4 + ic 1))), none] [] (mm_pa s 22 j24 (s.2.1 9 j23)) := rfl
theorem jX6_fewest_30_eq (back : mm_bt) (call : mm_ct) (s : mm_S) (v1 : Int32) (v2 : Int32) : jX6_fewest_30 back call s v1 v2 =
  am_ci (call 11 [.inl (.ref 0), .inl (.int v1)] s) am_tx fun r26 s25 =>
  if r26 = 0 then
    some (.inl (some (.inl (.int (ic (-3))))), s25)
  else
    some (.inl (some (.inl (.int (ic (-5))))), s25) := rfl
noncomputable def dX6_fewest (back : mm_bt) (call : mm_ct) (s : mm_S) (x1 : Int32) : am_R mm_S :=
  am_ci (call 6 [.inl (.ref 0), .inl (.int x1)] s) am_tx fun r28 s27 =>
  if r28 = 0 then
    some (.inl (some (.inl (.int (ic (-1))))), s27)
  else
    am_ci (call 57 [.inl (.ref 0), .inl (.int x1)] s27) am_tx fun r30 s29 =>
    am_ci (call 11 [.inl (.ref 0), .inl (.int x1)] s29) am_tx fun r32 s31 =>
    if r32 = 0 then
      jX6_fewest_30_24 back call s31 x1 r30
    else
      if r30 ≤ (ic 8) then
        jX6_fewest_54 back call s31 x1 r30 (s31.1 10) (ic 0)
      else
        jX6_fewest_30 back call s31 x1 r30
theorem dX6_fewest_rs (back : mm_bt) (call : mm_ct) (s : mm_S) (x1 : Int32) : (am_r2 back (gX6_fewest call)).1 [some (.inl (.ref 0)), some (.inl (.int x1)), none, none, none, none] [] s = dX6_fewest back call s x1 := rfl
theorem dX6_fewest_eq (N f : Nat) (s : mm_S) (x1 : Int32) : mm_call N (f + 1) 56 [.inl (.ref 0), .inl (.int x1)] s = dX6_fewest (am_bk (mm_hop (mm_call N f)) am_no (some .int) kX6_fewest N) (mm_call N f) s x1 := (mm_call_of (mt := 56) (nL := 6) (rt := (some .int)) (code := kX6_fewest) rfl rfl rfl rfl gX6_fewest_ok ⟨_, _, _, _, rfl⟩).trans (dX6_fewest_rs _ _ s x1)
theorem jX6_fewest_54_bk (call : mm_ct) (n : Nat) (s : mm_S) (v1 : Int32) (v2 : Int32) (v3 : Int32) (v4 : Int32) : am_bk (mm_hop call) am_no (some .int) kX6_fewest (n + 1) 54 [some (.inl (.ref 0)), some (.inl (.int v1)), some (.inl (.int v2)), some (.inl (.int v3)), some (.inl (.int v4)), none] [] s = jX6_fewest_54 (am_bk (mm_hop call) am_no (some .int) kX6_fewest n) call s v1 v2 v3 v4 := (am_bk_of rfl (gX6_fewest_ok call)).trans rfl
theorem jX6_fewest_83_bk (call : mm_ct) (n : Nat) (s : mm_S) (v1 : Int32) (v2 : Int32) (v3 : Int32) (v4 : Int32) (o5 : Option am_V) : am_bk (mm_hop call) am_no (some .int) kX6_fewest (n + 1) 83 [some (.inl (.ref 0)), some (.inl (.int v1)), some (.inl (.int v2)), some (.inl (.int v3)), some (.inl (.int v4)), o5] [] s = jX6_fewest_83 (am_bk (mm_hop call) am_no (some .int) kX6_fewest n) call s v1 v2 v3 v4 o5 := (am_bk_of rfl (gX6_fewest_ok call)).trans rfl
theorem jX6_fewest_92_bk (call : mm_ct) (n : Nat) (s : mm_S) (v1 : Int32) (v2 : Int32) (v3 : Int32) (v4 : Int32) (v5 : Int32) : am_bk (mm_hop call) am_no (some .int) kX6_fewest (n + 1) 92 [some (.inl (.ref 0)), some (.inl (.int v1)), some (.inl (.int v2)), some (.inl (.int v3)), some (.inl (.int v4)), some (.inl (.int v5))] [] s = jX6_fewest_92 (am_bk (mm_hop call) am_no (some .int) kX6_fewest n) call s v1 v2 v3 v4 v5 := (am_bk_of rfl (gX6_fewest_ok call)).trans rfl
theorem jX6_fewest_141_bk (call : mm_ct) (n : Nat) (s : mm_S) (v1 : Int32) (v2 : Int32) (v3 : Int32) (v4 : Int32) (o5 : Option am_V) : am_bk (mm_hop call) am_no (some .int) kX6_fewest (n + 1) 141 [some (.inl (.ref 0)), some (.inl (.int v1)), some (.inl (.int v2)), some (.inl (.int v3)), some (.inl (.int v4)), o5] [] s = jX6_fewest_141 (am_bk (mm_hop call) am_no (some .int) kX6_fewest n) call s v1 v2 v3 v4 o5 := (am_bk_of rfl (gX6_fewest_ok call)).trans rfl
noncomputable def jX6_keepable_25 (back : mm_bt) (call : mm_ct) (s : mm_S) (v1 : Int32) (vs0 : Int32) : am_R mm_S := (am_r2 back (gX6_keepable_25 call)).1 [some (.inl (.ref 0)), some (.inl (.int v1))] [.inl (.int vs0)] s
noncomputable def jX6_keepable_25_24 (back : mm_bt) (call : mm_ct) (s : mm_S) (v1 : Int32) (vs0 : Int32) : am_R mm_S := (am_r2 back (gX6_keepable_24 call)).2 25 [some (.inl (.ref 0)), some (.inl (.int v1))] [.inl (.int vs0)] s
theorem jX6_keepable_25_24_eq (back : mm_bt) (call : mm_ct) (s : mm_S) (v1 : Int32) (vs0 : Int32) : jX6_keepable_25_24 back call s v1 vs0 = jX6_keepable_25 back call s v1 vs0 := rfl
theorem jX6_keepable_25_eq (back : mm_bt) (call : mm_ct) (s : mm_S) (v1 : Int32) (vs0 : Int32) : jX6_keepable_25 back call s v1 vs0 =
  am_ix v1 450 fun j10 =>
  am_ci (call 57 [.inl (.ref 0), .inl (.int (s.2.1 3 j10))] s) am_tx fun r12 s11 =>
  am_ix v1 450 fun j13 =>
  am_ci (call 57 [.inl (.ref 0), .inl (.int (s11.2.1 4 j13))] s11) am_tx fun r15 s14 =>
  some (.inl (some (.inl (.int ((vs0 + r12) + r15)))), s14) := rfl
noncomputable def dX6_keepable (back : mm_bt) (call : mm_ct) (s : mm_S) (x1 : Int32) : am_R mm_S :=
  if 0 ≤ x1 then
    am_ix x1 450 fun j16 =>
    am_ci (call 18 [.inl (.int (s.2.1 1 j16))] s) am_tx fun r18 s17 =>
    if r18 = 0 then
      jX6_keepable_25 back call s17 x1 (ic 0)
    else
      jX6_keepable_25_24 back call s17 x1 (ic 1)
  else
    some (.inl (some (.inl (.int (ic 0)))), s)
theorem dX6_keepable_rs (back : mm_bt) (call : mm_ct) (s : mm_S) (x1 : Int32) : (am_r2 back (gX6_keepable call)).1 [some (.inl (.ref 0)), some (.inl (.int x1))] [] s = dX6_keepable back call s x1 := rfl
theorem dX6_keepable_eq (N f : Nat) (s : mm_S) (x1 : Int32) : mm_call N (f + 1) 57 [.inl (.ref 0), .inl (.int x1)] s = dX6_keepable (am_bk (mm_hop (mm_call N f)) am_no (some .int) kX6_keepable N) (mm_call N f) s x1 := (mm_call_of (mt := 57) (nL := 2) (rt := (some .int)) (code := kX6_keepable) rfl rfl rfl rfl gX6_keepable_ok ⟨_, _, _, _, rfl⟩).trans (dX6_keepable_rs _ _ s x1)
noncomputable def jX6_bits_4 (back : mm_bt) (call : mm_ct) (s : mm_S) (v0 : Int32) (v1 : Int32) (v2 : Int32) : am_R mm_S := (am_r2 back (gX6_bits_4 call)).1 [some (.inl (.int v0)), some (.inl (.int v1)), some (.inl (.int v2))] [] s
theorem jX6_bits_4_eq (back : mm_bt) (call : mm_ct) (s : mm_S) (v0 : Int32) (v1 : Int32) (v2 : Int32) : jX6_bits_4 back call s v0 v1 v2 =
  if (ic 8) ≤ v2 then
    some (.inl (some (.inl (.int v1))), s)
  else
    back 4 [some (.inl (.int v0)), some (.inl (.int (v1 + ((v0 >>> (v2 &&& 31)) &&& (ic 1))))), some (.inl (.int (v2 + ic 1)))] [] s := rfl
noncomputable def dX6_bits (back : mm_bt) (call : mm_ct) (s : mm_S) (x1 : Int32) : am_R mm_S :=
  jX6_bits_4 back call s x1 (ic 0) (ic 0)
theorem dX6_bits_rs (back : mm_bt) (call : mm_ct) (s : mm_S) (x1 : Int32) : (am_r2 back (gX6_bits call)).1 [some (.inl (.int x1)), none, none] [] s = dX6_bits back call s x1 := rfl
theorem dX6_bits_eq (N f : Nat) (s : mm_S) (x1 : Int32) : mm_call N (f + 1) 58 [.inl (.int x1)] s = dX6_bits (am_bk (mm_hop (mm_call N f)) am_no (some .int) kX6_bits N) (mm_call N f) s x1 := (mm_call_of (mt := 58) (nL := 3) (rt := (some .int)) (code := kX6_bits) rfl rfl rfl rfl gX6_bits_ok ⟨_, _, _, _, rfl⟩).trans (dX6_bits_rs _ _ s x1)
theorem jX6_bits_4_bk (call : mm_ct) (n : Nat) (s : mm_S) (v0 : Int32) (v1 : Int32) (v2 : Int32) : am_bk (mm_hop call) am_no (some .int) kX6_bits (n + 1) 4 [some (.inl (.int v0)), some (.inl (.int v1)), some (.inl (.int v2))] [] s = jX6_bits_4 (am_bk (mm_hop call) am_no (some .int) kX6_bits n) call s v0 v1 v2 := (am_bk_of rfl (gX6_bits_ok call)).trans rfl
noncomputable def dX6_isOnly (back : mm_bt) (call : mm_ct) (s : mm_S) (x1 : Int32) (x2 : Int32) (x3 : Int32) : am_R mm_S :=
  am_cv (call 25 [.inl (.ref 0), .inl (.int (ic 0)), .inl (.int x1)] (mm_p (mm_p (mm_p (mm_p s 18 (ic 0)) 19 x2) 20 (ic 0)) 21 x3)) am_tx fun s5 =>
  if ((mm_p s5 19 (ic (-1))).1 18) ≤ (ic 20) then
    am_cv (call 35 [.inl (.ref 0)] (mm_p s5 19 (ic (-1)))) am_tx fun s6 =>
    am_cl (call 39 [.inl (.ref 0), .inl (.int (ic 8))] s6) am_tx fun r8 s7 =>
    if (lg_cmp r8 (lN 1)) = 0 then
      some (.inl (some (.inl (.int ((ic 1) &&& 1)))), s7)
    else
      some (.inl (some (.inl (.int ((ic 0) &&& 1)))), s7)
  else
    some (.inl (some (.inl (.int ((ic 0) &&& 1)))), (mm_p s5 19 (ic (-1))))
theorem dX6_isOnly_rs (back : mm_bt) (call : mm_ct) (s : mm_S) (x1 : Int32) (x2 : Int32) (x3 : Int32) : (am_r2 back (gX6_isOnly call)).1 [some (.inl (.ref 0)), some (.inl (.int x1)), some (.inl (.int x2)), some (.inl (.int x3))] [] s = dX6_isOnly back call s x1 x2 x3 := rfl
theorem dX6_isOnly_eq (N f : Nat) (s : mm_S) (x1 : Int32) (x2 : Int32) (x3 : Int32) : mm_call N (f + 1) 59 [.inl (.ref 0), .inl (.int x1), .inl (.int x2), .inl (.int x3)] s = dX6_isOnly (am_bk (mm_hop (mm_call N f)) am_no (some .boolean) kX6_isOnly N) (mm_call N f) s x1 x2 x3 := (mm_call_of (mt := 59) (nL := 4) (rt := (some .boolean)) (code := kX6_isOnly) rfl rfl rfl rfl gX6_isOnly_ok ⟨_, _, _, _, rfl⟩).trans (dX6_isOnly_rs _ _ s x1 x2 x3)
noncomputable def dX6_walk (back : mm_bt) (call : mm_ct) (s : mm_S) (x1 : Int32) : am_R mm_S :=
  am_ci (call 6 [.inl (.ref 0), .inl (.int x1)] s) am_tx fun r5 s4 =>
  if r5 = 0 then
    some (.inl (some (.inl (.int (ic (-1))))), s4)
  else
    if (ic 1) = 0 ∨ (ic 1) = 1 then
      am_ix (ic 0) 41 fun j6 =>
      some (.inl (some (.inl (.int (ic 0)))), (mm_p (mm_pa (mm_p s4 30 (ic 1)) 31 j6 x1) 33 (ic 0)))
    else none
theorem dX6_walk_rs (back : mm_bt) (call : mm_ct) (s : mm_S) (x1 : Int32) : (am_r2 back (gX6_walk call)).1 [some (.inl (.ref 0)), some (.inl (.int x1))] [] s = dX6_walk back call s x1 := rfl
theorem dX6_walk_eq (N f : Nat) (s : mm_S) (x1 : Int32) : mm_call N (f + 1) 60 [.inl (.ref 0), .inl (.int x1)] s = dX6_walk (am_bk (mm_hop (mm_call N f)) am_no (some .int) kX6_walk N) (mm_call N f) s x1 := (mm_call_of (mt := 60) (nL := 2) (rt := (some .int)) (code := kX6_walk) rfl rfl rfl rfl gX6_walk_ok ⟨_, _, _, _, rfl⟩).trans (dX6_walk_rs _ _ s x1)
noncomputable def jX6_go_119 (back : mm_bt) (call : mm_ct) (s : mm_S) (v1 : Int32) (o2 : Option am_V) : am_R mm_S := (am_r2 back (gX6_go_119 call)).1 [some (.inl (.ref 0)), some (.inl (.int v1)), o2] [] s
noncomputable def jX6_go_86 (back : mm_bt) (call : mm_ct) (s : mm_S) (v1 : Int32) : am_R mm_S := (am_r2 back (gX6_go_86 call)).1 [some (.inl (.ref 0)), some (.inl (.int v1)), none] [] s
noncomputable def jX6_go_86_64 (back : mm_bt) (call : mm_ct) (s : mm_S) (v1 : Int32) : am_R mm_S := (am_r2 back (gX6_go_64 call)).2 86 [some (.inl (.ref 0)), some (.inl (.int v1)), none] [] s
theorem jX6_go_86_64_eq (back : mm_bt) (call : mm_ct) (s : mm_S) (v1 : Int32) : jX6_go_86_64 back call s v1 = jX6_go_86 back call s v1 := rfl
noncomputable def jX6_go_86_83 (back : mm_bt) (call : mm_ct) (s : mm_S) (v1 : Int32) : am_R mm_S := (am_r2 back (gX6_go_83 call)).2 86 [some (.inl (.ref 0)), some (.inl (.int v1)), none] [] s
theorem jX6_go_86_83_eq (back : mm_bt) (call : mm_ct) (s : mm_S) (v1 : Int32) : jX6_go_86_83 back call s v1 = jX6_go_86 back call s v1 := rfl
noncomputable def jX6_go_119_101 (back : mm_bt) (call : mm_ct) (s : mm_S) (v1 : Int32) (o2 : Option am_V) : am_R mm_S := (am_r2 back (gX6_go_101 call)).2 119 [some (.inl (.ref 0)), some (.inl (.int v1)), o2] [] s
theorem jX6_go_119_101_eq (back : mm_bt) (call : mm_ct) (s : mm_S) (v1 : Int32) (o2 : Option am_V) : jX6_go_119_101 back call s v1 o2 = jX6_go_119 back call s v1 o2 := rfl
theorem jX6_go_119_eq (back : mm_bt) (call : mm_ct) (s : mm_S) (v1 : Int32) (o2 : Option am_V) : jX6_go_119 back call s v1 o2 =
  am_ix (s.1 33) 41 fun j12 =>
  some (.inl (some (.inl (.int (s.2.1 31 j12)))), s) := rfl
theorem jX6_go_86_eq (back : mm_bt) (call : mm_ct) (s : mm_S) (v1 : Int32) : jX6_go_86 back call s v1 =
  if v1 = (ic 3) then
    am_ix (((mm_p s 33 ((s.1 33) - (ic 1))).1 33) + (ic 1)) 41 fun j13 =>
    am_ci (call 62 [.inl (.ref 0), .inl (.int ((ic 1) - ((mm_p s 33 ((s.1 33) - (ic 1))).2.1 32 j13)))] (mm_p s 33 ((s.1 33) - (ic 1)))) am_tx fun r15 s14 =>
    jX6_go_119 back call s14 v1 (some (.inl (.int r15)))
  else
    jX6_go_119_101 back call (mm_p s 33 ((s.1 33) - (ic 1))) v1 none := rfl
noncomputable def dX6_go (back : mm_bt) (call : mm_ct) (s : mm_S) (x1 : Int32) : am_R mm_S :=
  am_ci (call 3 [.inl (.long x1.toInt64), .inl (.long (lN 0)), .inl (.long 3)] s) am_tx fun r17 s16 =>
  if r17 = 0 then
    some (.inl (some (.inl (.int (ic (-1))))), s16)
  else
    if (s16.1 30) = 0 then
      some (.inl (some (.inl (.int (ic (-2))))), s16)
    else
      if (ic 2) ≤ x1 then
        if (s16.1 33) = 0 then
          some (.inl (some (.inl (.int (ic (-3))))), s16)
        else
          if x1 = (ic 3) then
            am_ix ((s16.1 33) - (ic 1)) 41 fun j18 =>
            am_ix (s16.2.1 31 j18) 450 fun j19 =>
            if 0 ≤ (s16.2.1 4 j19) then
              jX6_go_86_83 back call s16 x1
            else
              some (.inl (some (.inl (.int (ic (-3))))), s16)
          else
            jX6_go_86_64 back call s16 x1
      else
        am_ci (call 62 [.inl (.ref 0), .inl (.int x1)] s16) am_tx fun r21 s20 =>
        if r21 = 0 then
          some (.inl (some (.inl (.int (ic (-3))))), s20)
        else
          am_ix (s20.1 33) 41 fun j22 =>
          some (.inl (some (.inl (.int (s20.2.1 31 j22)))), s20)
theorem dX6_go_rs (back : mm_bt) (call : mm_ct) (s : mm_S) (x1 : Int32) : (am_r2 back (gX6_go call)).1 [some (.inl (.ref 0)), some (.inl (.int x1)), none] [] s = dX6_go back call s x1 := rfl
theorem dX6_go_eq (N f : Nat) (s : mm_S) (x1 : Int32) : mm_call N (f + 1) 61 [.inl (.ref 0), .inl (.int x1)] s = dX6_go (am_bk (mm_hop (mm_call N f)) am_no (some .int) kX6_go N) (mm_call N f) s x1 := (mm_call_of (mt := 61) (nL := 3) (rt := (some .int)) (code := kX6_go) rfl rfl rfl rfl gX6_go_ok ⟨_, _, _, _, rfl⟩).trans (dX6_go_rs _ _ s x1)
noncomputable def jX6_down_74 (back : mm_bt) (call : mm_ct) (s : mm_S) (v1 : Int32) (v2 : Int32) : am_R mm_S := (am_r2 back (gX6_down_74 call)).1 [some (.inl (.ref 0)), some (.inl (.int v1)), some (.inl (.int v2))] [] s
noncomputable def jX6_down_35 (back : mm_bt) (call : mm_ct) (s : mm_S) (v1 : Int32) (vs0 : Int32) : am_R mm_S := (am_r2 back (gX6_down_35 call)).1 [some (.inl (.ref 0)), some (.inl (.int v1)), none] [.inl (.int vs0)] s
noncomputable def jX6_down_35_21 (back : mm_bt) (call : mm_ct) (s : mm_S) (v1 : Int32) (vs0 : Int32) : am_R mm_S := (am_r2 back (gX6_down_21 call)).2 35 [some (.inl (.ref 0)), some (.inl (.int v1)), none] [.inl (.int vs0)] s
theorem jX6_down_35_21_eq (back : mm_bt) (call : mm_ct) (s : mm_S) (v1 : Int32) (vs0 : Int32) : jX6_down_35_21 back call s v1 vs0 = jX6_down_35 back call s v1 vs0 := rfl
noncomputable def jX6_down_74_40 (back : mm_bt) (call : mm_ct) (s : mm_S) (v1 : Int32) (v2 : Int32) : am_R mm_S := (am_r2 back (gX6_down_40 call)).2 74 [some (.inl (.ref 0)), some (.inl (.int v1)), some (.inl (.int v2))] [] s
theorem jX6_down_74_40_eq (back : mm_bt) (call : mm_ct) (s : mm_S) (v1 : Int32) (v2 : Int32) : jX6_down_74_40 back call s v1 v2 = jX6_down_74 back call s v1 v2 := rfl
theorem jX6_down_74_eq (back : mm_bt) (call : mm_ct) (s : mm_S) (v1 : Int32) (v2 : Int32) : jX6_down_74 back call s v1 v2 =
  if v2 < 0 then
    some (.inl (some (.inl (.int ((ic 0) &&& 1)))), s)
  else
    some (.inl (some (.inl (.int ((ic 1) &&& 1)))), s) := rfl
theorem jX6_down_35_eq (back : mm_bt) (call : mm_ct) (s : mm_S) (v1 : Int32) (vs0 : Int32) : jX6_down_35 back call s v1 vs0 =
  if vs0 < 0 then
    jX6_down_74_40 back call s v1 vs0
  else
    am_ix ((s.1 33) + (ic 1)) 41 fun j7 =>
    am_ix (((mm_pa s 31 j7 vs0).1 33) + (ic 1)) 41 fun j8 =>
    jX6_down_74 back call (mm_p (mm_pa (mm_pa s 31 j7 vs0) 32 j8 v1) 33 (((mm_pa (mm_pa s 31 j7 vs0) 32 j8 v1).1 33) + (ic 1))) v1 vs0 := rfl
noncomputable def dX6_down (back : mm_bt) (call : mm_ct) (s : mm_S) (x1 : Int32) : am_R mm_S :=
  if x1 = 0 then
    am_ix (s.1 33) 41 fun j11 =>
    am_ix (s.2.1 31 j11) 450 fun j12 =>
    jX6_down_35_21 back call s x1 (s.2.1 3 j12)
  else
    am_ix (s.1 33) 41 fun j9 =>
    am_ix (s.2.1 31 j9) 450 fun j10 =>
    jX6_down_35 back call s x1 (s.2.1 4 j10)
theorem dX6_down_rs (back : mm_bt) (call : mm_ct) (s : mm_S) (x1 : Int32) : (am_r2 back (gX6_down call)).1 [some (.inl (.ref 0)), some (.inl (.int x1)), none] [] s = dX6_down back call s x1 := rfl
theorem dX6_down_eq (N f : Nat) (s : mm_S) (x1 : Int32) : mm_call N (f + 1) 62 [.inl (.ref 0), .inl (.int x1)] s = dX6_down (am_bk (mm_hop (mm_call N f)) am_no (some .boolean) kX6_down N) (mm_call N f) s x1 := (mm_call_of (mt := 62) (nL := 3) (rt := (some .boolean)) (code := kX6_down) rfl rfl rfl rfl gX6_down_ok ⟨_, _, _, _, rfl⟩).trans (dX6_down_rs _ _ s x1)
noncomputable def jX6_where_78 (back : mm_bt) (call : mm_ct) (s : mm_S) (v1 : Int32) (v2 : Int32) (v3 : Int32) : am_R mm_S := (am_r2 back (gX6_where_78 call)).1 [some (.inl (.ref 0)), some (.inl (.int v1)), some (.inl (.int v2)), some (.inl (.int v3))] [] s
theorem jX6_where_78_eq (back : mm_bt) (call : mm_ct) (s : mm_S) (v1 : Int32) (v2 : Int32) (v3 : Int32) : jX6_where_78 back call s v1 v2 v3 =
  if v3 ≤ 0 then
    some (.inl (some (.inl (.int v2))), s)
  else
    am_ix v3 41 fun j5 =>
    back 78 [some (.inl (.ref 0)), some (.inl (.int v1)), some (.inl (.int ((((ic 3) * v2) + (s.2.1 32 j5)) + (ic 1)))), some (.inl (.int (v3 + ic (-1))))] [] s := rfl
noncomputable def dX6_where (back : mm_bt) (call : mm_ct) (s : mm_S) (x1 : Int32) : am_R mm_S :=
  am_ci (call 3 [.inl (.long x1.toInt64), .inl (.long (lN 0)), .inl (.long 2)] (mm_p s 16 (ic 0))) am_tx fun r7 s6 =>
  if r7 = 0 then
    some (.inl (some (.inl (.int (ic (-1))))), s6)
  else
    if (s6.1 30) = 0 then
      some (.inl (some (.inl (.int (ic (-2))))), s6)
    else
      if x1 ≤ 0 then
        if (s6.1 33) ≤ (ic 19) then
          jX6_where_78 back call s6 x1 (ic 0) (s6.1 33)
        else
          some (.inl (some (.inl (.int (ic 0)))), (mm_p s6 16 (ic 1)))
      else
        if x1 = (ic 1) then
          some (.inl (some (.inl (.int (s6.1 33)))), s6)
        else
          am_ix (s6.1 33) 41 fun j8 =>
          some (.inl (some (.inl (.int (s6.2.1 31 j8)))), s6)
theorem dX6_where_rs (back : mm_bt) (call : mm_ct) (s : mm_S) (x1 : Int32) : (am_r2 back (gX6_where call)).1 [some (.inl (.ref 0)), some (.inl (.int x1)), none, none] [] s = dX6_where back call s x1 := rfl
theorem dX6_where_eq (N f : Nat) (s : mm_S) (x1 : Int32) : mm_call N (f + 1) 63 [.inl (.ref 0), .inl (.int x1)] s = dX6_where (am_bk (mm_hop (mm_call N f)) am_no (some .int) kX6_where N) (mm_call N f) s x1 := (mm_call_of (mt := 63) (nL := 4) (rt := (some .int)) (code := kX6_where) rfl rfl rfl rfl gX6_where_ok ⟨_, _, _, _, rfl⟩).trans (dX6_where_rs _ _ s x1)
theorem jX6_where_78_bk (call : mm_ct) (n : Nat) (s : mm_S) (v1 : Int32) (v2 : Int32) (v3 : Int32) : am_bk (mm_hop call) am_no (some .int) kX6_where (n + 1) 78 [some (.inl (.ref 0)), some (.inl (.int v1)), some (.inl (.int v2)), some (.inl (.int v3))] [] s = jX6_where_78 (am_bk (mm_hop call) am_no (some .int) kX6_where n) call s v1 v2 v3 := (am_bk_of rfl (gX6_where_ok call)).trans rfl
noncomputable def jX6_lead_87 (back : mm_bt) (call : mm_ct) (s : mm_S) (v1 : Int32) (v2 : Int32) (v3 : Int32) (v4 : Int32) (o5 : Option am_V) : am_R mm_S := (am_r2 back (gX6_lead_87 call)).1 [some (.inl (.ref 0)), some (.inl (.int v1)), some (.inl (.int v2)), some (.inl (.int v3)), some (.inl (.int v4)), o5] [] s
noncomputable def jX6_lead_69 (back : mm_bt) (call : mm_ct) (s : mm_S) (v1 : Int32) (v2 : Int32) (v3 : Int32) : am_R mm_S := (am_r2 back (gX6_lead_69 call)).1 [some (.inl (.ref 0)), some (.inl (.int v1)), some (.inl (.int v2)), some (.inl (.int v3)), none, none] [] s
noncomputable def jX6_lead_61 (back : mm_bt) (call : mm_ct) (s : mm_S) (v1 : Int32) (v2 : Int32) (v3 : Int32) (vs0 : Int32) : am_R mm_S := (am_r2 back (gX6_lead_61 call)).1 [some (.inl (.ref 0)), some (.inl (.int v1)), some (.inl (.int v2)), some (.inl (.int v3)), none, none] [.inl (.int vs0)] s
noncomputable def jX6_lead_19 (back : mm_bt) (call : mm_ct) (s : mm_S) (v1 : Int32) (v2 : Int32) (v3 : Int32) : am_R mm_S := (am_r2 back (gX6_lead_19 call)).1 [some (.inl (.ref 0)), some (.inl (.int v1)), some (.inl (.int v2)), some (.inl (.int v3)), none, none] [] s
noncomputable def jX6_lead_61_43 (back : mm_bt) (call : mm_ct) (s : mm_S) (v1 : Int32) (v2 : Int32) (v3 : Int32) (vs0 : Int32) : am_R mm_S := (am_r2 back (gX6_lead_43 call)).2 61 [some (.inl (.ref 0)), some (.inl (.int v1)), some (.inl (.int v2)), some (.inl (.int v3)), none, none] [.inl (.int vs0)] s
theorem jX6_lead_61_43_eq (back : mm_bt) (call : mm_ct) (s : mm_S) (v1 : Int32) (v2 : Int32) (v3 : Int32) (vs0 : Int32) : jX6_lead_61_43 back call s v1 v2 v3 vs0 = jX6_lead_61 back call s v1 v2 v3 vs0 := rfl
noncomputable def jX6_lead_61_59 (back : mm_bt) (call : mm_ct) (s : mm_S) (v1 : Int32) (v2 : Int32) (v3 : Int32) (vs0 : Int32) : am_R mm_S := (am_r2 back (gX6_lead_59 call)).2 61 [some (.inl (.ref 0)), some (.inl (.int v1)), some (.inl (.int v2)), some (.inl (.int v3)), none, none] [.inl (.int vs0)] s
theorem jX6_lead_61_59_eq (back : mm_bt) (call : mm_ct) (s : mm_S) (v1 : Int32) (v2 : Int32) (v3 : Int32) (vs0 : Int32) : jX6_lead_61_59 back call s v1 v2 v3 vs0 = jX6_lead_61 back call s v1 v2 v3 vs0 := rfl
noncomputable def jX6_lead_69_23 (back : mm_bt) (call : mm_ct) (s : mm_S) (v1 : Int32) (v2 : Int32) (v3 : Int32) : am_R mm_S := (am_r2 back (gX6_lead_23 call)).2 69 [some (.inl (.ref 0)), some (.inl (.int v1)), some (.inl (.int v2)), some (.inl (.int v3)), none, none] [] s
theorem jX6_lead_69_23_eq (back : mm_bt) (call : mm_ct) (s : mm_S) (v1 : Int32) (v2 : Int32) (v3 : Int32) : jX6_lead_69_23 back call s v1 v2 v3 = jX6_lead_69 back call s v1 v2 v3 := rfl
noncomputable def jX6_lead_69_27 (back : mm_bt) (call : mm_ct) (s : mm_S) (v1 : Int32) (v2 : Int32) (v3 : Int32) : am_R mm_S := (am_r2 back (gX6_lead_27 call)).2 69 [some (.inl (.ref 0)), some (.inl (.int v1)), some (.inl (.int v2)), some (.inl (.int v3)), none, none] [] s
theorem jX6_lead_69_27_eq (back : mm_bt) (call : mm_ct) (s : mm_S) (v1 : Int32) (v2 : Int32) (v3 : Int32) : jX6_lead_69_27 back call s v1 v2 v3 = jX6_lead_69 back call s v1 v2 v3 := rfl
theorem jX6_lead_87_eq (back : mm_bt) (call : mm_ct) (s : mm_S) (v1 : Int32) (v2 : Int32) (v3 : Int32) (v4 : Int32) (o5 : Option am_V) : jX6_lead_87 back call s v1 v2 v3 v4 o5 =
  if v4 ≤ 0 then
    am_ix (s.1 33) 41 fun j10 =>
    some (.inl (some (.inl (.int (s.2.1 31 j10)))), s)
  else
    am_dz (ic 3) (am_ci (call 62 [.inl (.ref 0), .inl (.int ((v4 - v4 / (ic 3) * (ic 3)) - (ic 1)))] s) am_tx fun r12 s11 =>
    am_dz (ic 3) (back 87 [some (.inl (.ref 0)), some (.inl (.int v1)), some (.inl (.int v2)), some (.inl (.int v3)), some (.inl (.int (v4 / (ic 3)))), some (.inl (.int r12))] [] s11)) := rfl
theorem jX6_lead_69_eq (back : mm_bt) (call : mm_ct) (s : mm_S) (v1 : Int32) (v2 : Int32) (v3 : Int32) : jX6_lead_69 back call s v1 v2 v3 =
  if v2 < 0 then
    some (.inl (some (.inl (.int (ic (-1))))), s)
  else
    if 0 ≤ v3 then
      jX6_lead_87 back call (mm_p s 33 (ic 0)) v1 v2 v3 v1 none
    else
      some (.inl (some (.inl (.int (ic (-1))))), s) := rfl
theorem jX6_lead_61_eq (back : mm_bt) (call : mm_ct) (s : mm_S) (v1 : Int32) (v2 : Int32) (v3 : Int32) (vs0 : Int32) : jX6_lead_61 back call s v1 v2 v3 vs0 =
  am_dz (ic 3) (back 19 [some (.inl (.ref 0)), some (.inl (.int v1)), some (.inl (.int vs0)), some (.inl (.int (v3 / (ic 3)))), none, none] [] s) := rfl
theorem jX6_lead_19_eq (back : mm_bt) (call : mm_ct) (s : mm_S) (v1 : Int32) (v2 : Int32) (v3 : Int32) : jX6_lead_19 back call s v1 v2 v3 =
  if v2 < 0 then
    jX6_lead_69_23 back call s v1 v2 v3
  else
    if v3 ≤ 0 then
      jX6_lead_69_27 back call s v1 v2 v3
    else
      am_dz (ic 3) (if (v3 - v3 / (ic 3) * (ic 3)) = (ic 1) then
        am_ix v2 450 fun j14 =>
        jX6_lead_61_43 back call s v1 v2 v3 (s.2.1 3 j14)
      else
        am_dz (ic 3) (if (v3 - v3 / (ic 3) * (ic 3)) = (ic 2) then
          am_ix v2 450 fun j13 =>
          jX6_lead_61_59 back call s v1 v2 v3 (s.2.1 4 j13)
        else
          jX6_lead_61 back call s v1 v2 v3 (ic (-2)))) := rfl
noncomputable def dX6_lead (back : mm_bt) (call : mm_ct) (s : mm_S) (x1 : Int32) : am_R mm_S :=
  if (s.1 30) = 0 then
    some (.inl (some (.inl (.int (ic (-2))))), s)
  else
    am_ix (ic 0) 41 fun j15 =>
    jX6_lead_19 back call s x1 (s.2.1 31 j15) x1
theorem dX6_lead_rs (back : mm_bt) (call : mm_ct) (s : mm_S) (x1 : Int32) : (am_r2 back (gX6_lead call)).1 [some (.inl (.ref 0)), some (.inl (.int x1)), none, none, none, none] [] s = dX6_lead back call s x1 := rfl
theorem dX6_lead_eq (N f : Nat) (s : mm_S) (x1 : Int32) : mm_call N (f + 1) 64 [.inl (.ref 0), .inl (.int x1)] s = dX6_lead (am_bk (mm_hop (mm_call N f)) am_no (some .int) kX6_lead N) (mm_call N f) s x1 := (mm_call_of (mt := 64) (nL := 6) (rt := (some .int)) (code := kX6_lead) rfl rfl rfl rfl gX6_lead_ok ⟨_, _, _, _, rfl⟩).trans (dX6_lead_rs _ _ s x1)
theorem jX6_lead_19_bk (call : mm_ct) (n : Nat) (s : mm_S) (v1 : Int32) (v2 : Int32) (v3 : Int32) : am_bk (mm_hop call) am_no (some .int) kX6_lead (n + 1) 19 [some (.inl (.ref 0)), some (.inl (.int v1)), some (.inl (.int v2)), some (.inl (.int v3)), none, none] [] s = jX6_lead_19 (am_bk (mm_hop call) am_no (some .int) kX6_lead n) call s v1 v2 v3 := (am_bk_of rfl (gX6_lead_ok call)).trans rfl
theorem jX6_lead_87_bk (call : mm_ct) (n : Nat) (s : mm_S) (v1 : Int32) (v2 : Int32) (v3 : Int32) (v4 : Int32) (o5 : Option am_V) : am_bk (mm_hop call) am_no (some .int) kX6_lead (n + 1) 87 [some (.inl (.ref 0)), some (.inl (.int v1)), some (.inl (.int v2)), some (.inl (.int v3)), some (.inl (.int v4)), o5] [] s = jX6_lead_87 (am_bk (mm_hop call) am_no (some .int) kX6_lead n) call s v1 v2 v3 v4 o5 := (am_bk_of rfl (gX6_lead_ok call)).trans rfl
noncomputable def dX6_glance (back : mm_bt) (call : mm_ct) (s : mm_S) (x1 : Int32) (x2 : Int32) : am_R mm_S :=
  am_ci (call 17 [.inl (.int x1)] s) am_tx fun r9 s8 =>
  if r9 = 0 then
    some (.inl (some (.inl (.int (ic (-1))))), s8)
  else
    am_ci (call 3 [.inl (.long x2.toInt64), .inl (.long (lN 0)), .inl (.long 9)] s8) am_tx fun r11 s10 =>
    if r11 = 0 then
      some (.inl (some (.inl (.int (ic (-1))))), s10)
    else
      if (s10.1 30) = 0 then
        some (.inl (some (.inl (.int (ic (-2))))), s10)
      else
        am_ix (s10.1 33) 41 fun j12 =>
        am_ci (call 66 [.inl (.ref 0), .inl (.int x1), .inl (.int (s10.2.1 31 j12)), .inl (.int x2)] s10) am_tx fun r14 s13 =>
        if r14 ≤ (ic 80) then
          some (.inl (some (.inl (.int r14))), s13)
        else
          some (.inl (some (.inl (.int (ic (-5))))), s13)
theorem dX6_glance_rs (back : mm_bt) (call : mm_ct) (s : mm_S) (x1 : Int32) (x2 : Int32) : (am_r2 back (gX6_glance call)).1 [some (.inl (.ref 0)), some (.inl (.int x1)), some (.inl (.int x2)), none] [] s = dX6_glance back call s x1 x2 := rfl
theorem dX6_glance_eq (N f : Nat) (s : mm_S) (x1 : Int32) (x2 : Int32) : mm_call N (f + 1) 65 [.inl (.ref 0), .inl (.int x1), .inl (.int x2)] s = dX6_glance (am_bk (mm_hop (mm_call N f)) am_no (some .int) kX6_glance N) (mm_call N f) s x1 x2 := (mm_call_of (mt := 65) (nL := 4) (rt := (some .int)) (code := kX6_glance) rfl rfl rfl rfl gX6_glance_ok ⟨_, _, _, _, rfl⟩).trans (dX6_glance_rs _ _ s x1 x2)
noncomputable def jX6_glanced_41 (back : mm_bt) (call : mm_ct) (s : mm_S) (v1 : Int32) (v2 : Int32) (v3 : Int32) (vs0 : Int32) (vs1 : Int32) : am_R mm_S := (am_r2 back (gX6_glanced_41 call)).1 [some (.inl (.ref 0)), some (.inl (.int v1)), some (.inl (.int v2)), some (.inl (.int v3))] [.inl (.int vs0), .inl (.int vs1)] s
noncomputable def jX6_glanced_41_40 (back : mm_bt) (call : mm_ct) (s : mm_S) (v1 : Int32) (v2 : Int32) (v3 : Int32) (vs0 : Int32) (vs1 : Int32) : am_R mm_S := (am_r2 back (gX6_glanced_40 call)).2 41 [some (.inl (.ref 0)), some (.inl (.int v1)), some (.inl (.int v2)), some (.inl (.int v3))] [.inl (.int vs0), .inl (.int vs1)] s
theorem jX6_glanced_41_40_eq (back : mm_bt) (call : mm_ct) (s : mm_S) (v1 : Int32) (v2 : Int32) (v3 : Int32) (vs0 : Int32) (vs1 : Int32) : jX6_glanced_41_40 back call s v1 v2 v3 vs0 vs1 = jX6_glanced_41 back call s v1 v2 v3 vs0 vs1 := rfl
theorem jX6_glanced_41_eq (back : mm_bt) (call : mm_ct) (s : mm_S) (v1 : Int32) (v2 : Int32) (v3 : Int32) (vs0 : Int32) (vs1 : Int32) : jX6_glanced_41 back call s v1 v2 v3 vs0 vs1 =
  am_ix v2 450 fun j11 =>
  am_ci (call 66 [.inl (.ref 0), .inl (.int v1), .inl (.int (s.2.1 3 j11)), .inl (.int (v3 - (ic 1)))] s) am_tx fun r13 s12 =>
  am_ix v2 450 fun j14 =>
  am_ci (call 66 [.inl (.ref 0), .inl (.int v1), .inl (.int (s12.2.1 4 j14)), .inl (.int (v3 - (ic 1)))] s12) am_tx fun r16 s15 =>
  some (.inl (some (.inl (.int (((vs1 + vs0) + r13) + r16)))), s15) := rfl
noncomputable def dX6_glanced (back : mm_bt) (call : mm_ct) (s : mm_S) (x1 : Int32) (x2 : Int32) (x3 : Int32) : am_R mm_S :=
  if 0 ≤ x2 then
    if 0 ≤ x3 then
      am_ci (call 21 [.inl (.ref 0), .inl (.int x2)] s) am_tx fun r18 s17 =>
      am_ix x2 450 fun j19 =>
      am_ix (((ic 10) * x1) + (s17.2.1 1 j19)) 90 fun j20 =>
      if (s17.2.1 8 j20) = 0 then
        jX6_glanced_41 back call s17 x1 x2 x3 (ic 0) r18
      else
        jX6_glanced_41_40 back call s17 x1 x2 x3 (ic 2) r18
    else
      some (.inl (some (.inl (.int (ic 1)))), s)
  else
    some (.inl (some (.inl (.int (ic 0)))), s)
theorem dX6_glanced_rs (back : mm_bt) (call : mm_ct) (s : mm_S) (x1 : Int32) (x2 : Int32) (x3 : Int32) : (am_r2 back (gX6_glanced call)).1 [some (.inl (.ref 0)), some (.inl (.int x1)), some (.inl (.int x2)), some (.inl (.int x3))] [] s = dX6_glanced back call s x1 x2 x3 := rfl
theorem dX6_glanced_eq (N f : Nat) (s : mm_S) (x1 : Int32) (x2 : Int32) (x3 : Int32) : mm_call N (f + 1) 66 [.inl (.ref 0), .inl (.int x1), .inl (.int x2), .inl (.int x3)] s = dX6_glanced (am_bk (mm_hop (mm_call N f)) am_no (some .int) kX6_glanced N) (mm_call N f) s x1 x2 x3 := (mm_call_of (mt := 66) (nL := 4) (rt := (some .int)) (code := kX6_glanced) rfl rfl rfl rfl gX6_glanced_ok ⟨_, _, _, _, rfl⟩).trans (dX6_glanced_rs _ _ s x1 x2 x3)
noncomputable def dX6_changed (back : mm_bt) (call : mm_ct) (s : mm_S) (x1 : Int32) (x2 : Int32) : am_R mm_S :=
  am_ci (call 6 [.inl (.ref 0), .inl (.int x1)] s) am_tx fun r8 s7 =>
  if r8 = 0 then
    some (.inl (some (.inl (.int (ic (-1))))), s7)
  else
    am_ci (call 6 [.inl (.ref 0), .inl (.int x2)] s7) am_tx fun r10 s9 =>
    if r10 = 0 then
      some (.inl (some (.inl (.int (ic (-1))))), s9)
    else
      am_ci (call 68 [.inl (.ref 0), .inl (.int x1), .inl (.int x2)] s9) am_tx fun r12 s11 =>
      some (.inl (some (.inl (.int r12))), s11)
theorem dX6_changed_rs (back : mm_bt) (call : mm_ct) (s : mm_S) (x1 : Int32) (x2 : Int32) : (am_r2 back (gX6_changed call)).1 [some (.inl (.ref 0)), some (.inl (.int x1)), some (.inl (.int x2))] [] s = dX6_changed back call s x1 x2 := rfl
theorem dX6_changed_eq (N f : Nat) (s : mm_S) (x1 : Int32) (x2 : Int32) : mm_call N (f + 1) 67 [.inl (.ref 0), .inl (.int x1), .inl (.int x2)] s = dX6_changed (am_bk (mm_hop (mm_call N f)) am_no (some .int) kX6_changed N) (mm_call N f) s x1 x2 := (mm_call_of (mt := 67) (nL := 3) (rt := (some .int)) (code := kX6_changed) rfl rfl rfl rfl gX6_changed_ok ⟨_, _, _, _, rfl⟩).trans (dX6_changed_rs _ _ s x1 x2)
noncomputable def jX6_difference_39 (back : mm_bt) (call : mm_ct) (s : mm_S) (v1 : Int32) (v2 : Int32) (v3 : Int32) (vs0 : Int32) : am_R mm_S := (am_r2 back (gX6_difference_39 call)).1 [some (.inl (.ref 0)), some (.inl (.int v1)), some (.inl (.int v2)), some (.inl (.int v3)), none] [.inl (.int vs0)] s
noncomputable def jX6_difference_39_38 (back : mm_bt) (call : mm_ct) (s : mm_S) (v1 : Int32) (v2 : Int32) (v3 : Int32) (vs0 : Int32) : am_R mm_S := (am_r2 back (gX6_difference_38 call)).2 39 [some (.inl (.ref 0)), some (.inl (.int v1)), some (.inl (.int v2)), some (.inl (.int v3)), none] [.inl (.int vs0)] s
theorem jX6_difference_39_38_eq (back : mm_bt) (call : mm_ct) (s : mm_S) (v1 : Int32) (v2 : Int32) (v3 : Int32) (vs0 : Int32) : jX6_difference_39_38 back call s v1 v2 v3 vs0 = jX6_difference_39 back call s v1 v2 v3 vs0 := rfl
theorem jX6_difference_39_eq (back : mm_bt) (call : mm_ct) (s : mm_S) (v1 : Int32) (v2 : Int32) (v3 : Int32) (vs0 : Int32) : jX6_difference_39 back call s v1 v2 v3 vs0 =
  if v3 ≤ vs0 then
    some (.inl (some (.inl (.int v3))), s)
  else
    some (.inl (some (.inl (.int vs0))), s) := rfl
noncomputable def dX6_difference (back : mm_bt) (call : mm_ct) (s : mm_S) (x1 : Int32) (x2 : Int32) : am_R mm_S :=
  am_ix x1 450 fun j7 =>
  am_ix x2 450 fun j8 =>
  am_ix x1 450 fun j9 =>
  am_ix x2 450 fun j10 =>
  if (s.2.1 1 j9) = (s.2.1 1 j10) then
    am_ci (call 69 [.inl (.ref 0), .inl (.int x1), .inl (.int x2)] s) am_tx fun r12 s11 =>
    jX6_difference_39_38 back call s11 x1 x2 ((s.2.1 5 j7) + (s.2.1 5 j8)) r12
  else
    jX6_difference_39 back call s x1 x2 ((s.2.1 5 j7) + (s.2.1 5 j8)) ((s.2.1 5 j7) + (s.2.1 5 j8))
theorem dX6_difference_rs (back : mm_bt) (call : mm_ct) (s : mm_S) (x1 : Int32) (x2 : Int32) : (am_r2 back (gX6_difference call)).1 [some (.inl (.ref 0)), some (.inl (.int x1)), some (.inl (.int x2)), none, none] [] s = dX6_difference back call s x1 x2 := rfl
theorem dX6_difference_eq (N f : Nat) (s : mm_S) (x1 : Int32) (x2 : Int32) : mm_call N (f + 1) 68 [.inl (.ref 0), .inl (.int x1), .inl (.int x2)] s = dX6_difference (am_bk (mm_hop (mm_call N f)) am_no (some .int) kX6_difference N) (mm_call N f) s x1 x2 := (mm_call_of (mt := 68) (nL := 5) (rt := (some .int)) (code := kX6_difference) rfl rfl rfl rfl gX6_difference_ok ⟨_, _, _, _, rfl⟩).trans (dX6_difference_rs _ _ s x1 x2)
noncomputable def jX6_inside_51 (back : mm_bt) (call : mm_ct) (s : mm_S) (v1 : Int32) (v2 : Int32) (v3 : Int32) (vs0 : Int32) (vs1 : Int32) : am_R mm_S := (am_r2 back (gX6_inside_51 call)).1 [some (.inl (.ref 0)), some (.inl (.int v1)), some (.inl (.int v2)), some (.inl (.int v3))] [.inl (.int vs0), .inl (.int vs1)] s
noncomputable def jX6_inside_20 (back : mm_bt) (call : mm_ct) (s : mm_S) (v1 : Int32) (v2 : Int32) (vs0 : Int32) : am_R mm_S := (am_r2 back (gX6_inside_20 call)).1 [some (.inl (.ref 0)), some (.inl (.int v1)), some (.inl (.int v2)), none] [.inl (.int vs0)] s
noncomputable def jX6_inside_20_19 (back : mm_bt) (call : mm_ct) (s : mm_S) (v1 : Int32) (v2 : Int32) (vs0 : Int32) : am_R mm_S := (am_r2 back (gX6_inside_19 call)).2 20 [some (.inl (.ref 0)), some (.inl (.int v1)), some (.inl (.int v2)), none] [.inl (.int vs0)] s
theorem jX6_inside_20_19_eq (back : mm_bt) (call : mm_ct) (s : mm_S) (v1 : Int32) (v2 : Int32) (vs0 : Int32) : jX6_inside_20_19 back call s v1 v2 vs0 = jX6_inside_20 back call s v1 v2 vs0 := rfl
noncomputable def jX6_inside_51_35 (back : mm_bt) (call : mm_ct) (s : mm_S) (v1 : Int32) (v2 : Int32) (v3 : Int32) (vs0 : Int32) (vs1 : Int32) : am_R mm_S := (am_r2 back (gX6_inside_35 call)).2 51 [some (.inl (.ref 0)), some (.inl (.int v1)), some (.inl (.int v2)), some (.inl (.int v3))] [.inl (.int vs0), .inl (.int vs1)] s
theorem jX6_inside_51_35_eq (back : mm_bt) (call : mm_ct) (s : mm_S) (v1 : Int32) (v2 : Int32) (v3 : Int32) (vs0 : Int32) (vs1 : Int32) : jX6_inside_51_35 back call s v1 v2 v3 vs0 vs1 = jX6_inside_51 back call s v1 v2 v3 vs0 vs1 := rfl
theorem jX6_inside_51_eq (back : mm_bt) (call : mm_ct) (s : mm_S) (v1 : Int32) (v2 : Int32) (v3 : Int32) (vs0 : Int32) (vs1 : Int32) : jX6_inside_51 back call s v1 v2 v3 vs0 vs1 =
  am_ix v1 450 fun j13 =>
  if 0 ≤ (s.2.1 4 j13) then
    am_ix v1 450 fun j14 =>
    am_ix v2 450 fun j15 =>
    am_ci (call 68 [.inl (.ref 0), .inl (.int (s.2.1 4 j14)), .inl (.int (s.2.1 4 j15))] s) am_tx fun r17 s16 =>
    some (.inl (some (.inl (.int ((vs1 + vs0) + r17)))), s16)
  else
    some (.inl (some (.inl (.int ((vs1 + vs0) + (ic 0))))), s) := rfl
theorem jX6_inside_20_eq (back : mm_bt) (call : mm_ct) (s : mm_S) (v1 : Int32) (v2 : Int32) (vs0 : Int32) : jX6_inside_20 back call s v1 v2 vs0 =
  am_ix v1 450 fun j18 =>
  if 0 ≤ (s.2.1 3 j18) then
    am_ix v1 450 fun j19 =>
    am_ix v2 450 fun j20 =>
    am_ci (call 68 [.inl (.ref 0), .inl (.int (s.2.1 3 j19)), .inl (.int (s.2.1 3 j20))] s) am_tx fun r22 s21 =>
    jX6_inside_51 back call s21 v1 v2 vs0 r22 vs0
  else
    jX6_inside_51_35 back call s v1 v2 vs0 (ic 0) vs0 := rfl
noncomputable def dX6_inside (back : mm_bt) (call : mm_ct) (s : mm_S) (x1 : Int32) (x2 : Int32) : am_R mm_S :=
  am_ix x1 450 fun j23 =>
  am_ix x2 450 fun j24 =>
  if (s.2.1 2 j23) = (s.2.1 2 j24) then
    jX6_inside_20 back call s x1 x2 (ic 0)
  else
    jX6_inside_20_19 back call s x1 x2 (ic 1)
theorem dX6_inside_rs (back : mm_bt) (call : mm_ct) (s : mm_S) (x1 : Int32) (x2 : Int32) : (am_r2 back (gX6_inside call)).1 [some (.inl (.ref 0)), some (.inl (.int x1)), some (.inl (.int x2)), none] [] s = dX6_inside back call s x1 x2 := rfl
theorem dX6_inside_eq (N f : Nat) (s : mm_S) (x1 : Int32) (x2 : Int32) : mm_call N (f + 1) 69 [.inl (.ref 0), .inl (.int x1), .inl (.int x2)] s = dX6_inside (am_bk (mm_hop (mm_call N f)) am_no (some .int) kX6_inside N) (mm_call N f) s x1 x2 := (mm_call_of (mt := 69) (nL := 4) (rt := (some .int)) (code := kX6_inside) rfl rfl rfl rfl gX6_inside_ok ⟨_, _, _, _, rfl⟩).trans (dX6_inside_rs _ _ s x1 x2)
noncomputable def dX6_exchanged (back : mm_bt) (call : mm_ct) (s : mm_S) (x1 : Int32) (x2 : Int32) : am_R mm_S :=
  am_ci (call 6 [.inl (.ref 0), .inl (.int x1)] s) am_tx fun r8 s7 =>
  if r8 = 0 then
    some (.inl (some (.inl (.int (ic (-1))))), s7)
  else
    am_ci (call 6 [.inl (.ref 0), .inl (.int x2)] s7) am_tx fun r10 s9 =>
    if r10 = 0 then
      some (.inl (some (.inl (.int (ic (-1))))), s9)
    else
      am_ci (call 71 [.inl (.ref 0), .inl (.int x1), .inl (.int x2)] s9) am_tx fun r12 s11 =>
      some (.inl (some (.inl (.int r12))), s11)
theorem dX6_exchanged_rs (back : mm_bt) (call : mm_ct) (s : mm_S) (x1 : Int32) (x2 : Int32) : (am_r2 back (gX6_exchanged call)).1 [some (.inl (.ref 0)), some (.inl (.int x1)), some (.inl (.int x2))] [] s = dX6_exchanged back call s x1 x2 := rfl
theorem dX6_exchanged_eq (N f : Nat) (s : mm_S) (x1 : Int32) (x2 : Int32) : mm_call N (f + 1) 70 [.inl (.ref 0), .inl (.int x1), .inl (.int x2)] s = dX6_exchanged (am_bk (mm_hop (mm_call N f)) am_no (some .int) kX6_exchanged N) (mm_call N f) s x1 x2 := (mm_call_of (mt := 70) (nL := 3) (rt := (some .int)) (code := kX6_exchanged) rfl rfl rfl rfl gX6_exchanged_ok ⟨_, _, _, _, rfl⟩).trans (dX6_exchanged_rs _ _ s x1 x2)
noncomputable def jX6_wholes_68 (back : mm_bt) (call : mm_ct) (s : mm_S) (v1 : Int32) (v2 : Int32) (vs0 : Int32) : am_R mm_S := (am_r2 back (gX6_wholes_68 call)).1 [some (.inl (.ref 0)), some (.inl (.int v1)), some (.inl (.int v2))] [.inl (.int vs0)] s
noncomputable def jX6_wholes_68_52 (back : mm_bt) (call : mm_ct) (s : mm_S) (v1 : Int32) (v2 : Int32) (vs0 : Int32) : am_R mm_S := (am_r2 back (gX6_wholes_52 call)).2 68 [some (.inl (.ref 0)), some (.inl (.int v1)), some (.inl (.int v2))] [.inl (.int vs0)] s
theorem jX6_wholes_68_52_eq (back : mm_bt) (call : mm_ct) (s : mm_S) (v1 : Int32) (v2 : Int32) (vs0 : Int32) : jX6_wholes_68_52 back call s v1 v2 vs0 = jX6_wholes_68 back call s v1 v2 vs0 := rfl
theorem jX6_wholes_68_eq (back : mm_bt) (call : mm_ct) (s : mm_S) (v1 : Int32) (v2 : Int32) (vs0 : Int32) : jX6_wholes_68 back call s v1 v2 vs0 =
  am_ix v1 450 fun j17 =>
  if 0 ≤ (s.2.1 4 j17) then
    am_ix v1 450 fun j18 =>
    am_ix v2 450 fun j19 =>
    am_ci (call 71 [.inl (.ref 0), .inl (.int (s.2.1 4 j18)), .inl (.int (s.2.1 4 j19))] s) am_tx fun r21 s20 =>
    some (.inl (some (.inl (.int (vs0 + r21)))), s20)
  else
    some (.inl (some (.inl (.int (vs0 + (ic 0))))), s) := rfl
noncomputable def dX6_wholes (back : mm_bt) (call : mm_ct) (s : mm_S) (x1 : Int32) (x2 : Int32) : am_R mm_S :=
  am_ix x1 450 fun j22 =>
  am_ix x2 450 fun j23 =>
  if (s.2.1 1 j22) = (s.2.1 1 j23) then
    am_ci (call 69 [.inl (.ref 0), .inl (.int x1), .inl (.int x2)] s) am_tx fun r25 s24 =>
    am_ix x1 450 fun j26 =>
    am_ix x2 450 fun j27 =>
    if r25 ≤ ((s24.2.1 5 j26) + (s24.2.1 5 j27)) then
      am_ix x1 450 fun j28 =>
      if 0 ≤ (s24.2.1 3 j28) then
        am_ix x1 450 fun j29 =>
        am_ix x2 450 fun j30 =>
        am_ci (call 71 [.inl (.ref 0), .inl (.int (s24.2.1 3 j29)), .inl (.int (s24.2.1 3 j30))] s24) am_tx fun r32 s31 =>
        jX6_wholes_68 back call s31 x1 x2 r32
      else
        jX6_wholes_68_52 back call s24 x1 x2 (ic 0)
    else
      some (.inl (some (.inl (.int (ic 1)))), s24)
  else
    some (.inl (some (.inl (.int (ic 1)))), s)
theorem dX6_wholes_rs (back : mm_bt) (call : mm_ct) (s : mm_S) (x1 : Int32) (x2 : Int32) : (am_r2 back (gX6_wholes call)).1 [some (.inl (.ref 0)), some (.inl (.int x1)), some (.inl (.int x2))] [] s = dX6_wholes back call s x1 x2 := rfl
theorem dX6_wholes_eq (N f : Nat) (s : mm_S) (x1 : Int32) (x2 : Int32) : mm_call N (f + 1) 71 [.inl (.ref 0), .inl (.int x1), .inl (.int x2)] s = dX6_wholes (am_bk (mm_hop (mm_call N f)) am_no (some .int) kX6_wholes N) (mm_call N f) s x1 x2 := (mm_call_of (mt := 71) (nL := 3) (rt := (some .int)) (code := kX6_wholes) rfl rfl rfl rfl gX6_wholes_ok ⟨_, _, _, _, rfl⟩).trans (dX6_wholes_rs _ _ s x1 x2)
noncomputable def dX6_count (back : mm_bt) (call : mm_ct) (s : mm_S) (x1 : Int32) : am_R mm_S :=
  if x1 = 0 then
    some (.inl (some (.inl (.int (s.1 0)))), s)
  else
    if x1 = (ic 1) then
      some (.inl (some (.inl (.int (s.1 10)))), s)
    else
      if x1 = (ic 2) then
        am_ci (call 73 [.inl (.ref 0)] s) am_tx fun r4 s3 =>
        some (.inl (some (.inl (.int r4))), s3)
      else
        some (.inl (some (.inl (.int (ic (-1))))), s)
theorem dX6_count_rs (back : mm_bt) (call : mm_ct) (s : mm_S) (x1 : Int32) : (am_r2 back (gX6_count call)).1 [some (.inl (.ref 0)), some (.inl (.int x1))] [] s = dX6_count back call s x1 := rfl
theorem dX6_count_eq (N f : Nat) (s : mm_S) (x1 : Int32) : mm_call N (f + 1) 72 [.inl (.ref 0), .inl (.int x1)] s = dX6_count (am_bk (mm_hop (mm_call N f)) am_no (some .int) kX6_count N) (mm_call N f) s x1 := (mm_call_of (mt := 72) (nL := 2) (rt := (some .int)) (code := kX6_count) rfl rfl rfl rfl gX6_count_ok ⟨_, _, _, _, rfl⟩).trans (dX6_count_rs _ _ s x1)
noncomputable def jX6_functions_25 (back : mm_bt) (call : mm_ct) (s : mm_S) (v1 : Int32) (v2 : Int32) (vs0 : Int32) (vs1 : Int32) : am_R mm_S := (am_r2 back (gX6_functions_25 call)).1 [some (.inl (.ref 0)), some (.inl (.int v1)), some (.inl (.int v2))] [.inl (.int vs0), .inl (.int vs1)] s
noncomputable def jX6_functions_4 (back : mm_bt) (call : mm_ct) (s : mm_S) (v1 : Int32) (v2 : Int32) : am_R mm_S := (am_r2 back (gX6_functions_4 call)).1 [some (.inl (.ref 0)), some (.inl (.int v1)), some (.inl (.int v2))] [] s
noncomputable def jX6_functions_25_24 (back : mm_bt) (call : mm_ct) (s : mm_S) (v1 : Int32) (v2 : Int32) (vs0 : Int32) (vs1 : Int32) : am_R mm_S := (am_r2 back (gX6_functions_24 call)).2 25 [some (.inl (.ref 0)), some (.inl (.int v1)), some (.inl (.int v2))] [.inl (.int vs0), .inl (.int vs1)] s
theorem jX6_functions_25_24_eq (back : mm_bt) (call : mm_ct) (s : mm_S) (v1 : Int32) (v2 : Int32) (vs0 : Int32) (vs1 : Int32) : jX6_functions_25_24 back call s v1 v2 vs0 vs1 = jX6_functions_25 back call s v1 v2 vs0 vs1 := rfl
theorem jX6_functions_25_eq (back : mm_bt) (call : mm_ct) (s : mm_S) (v1 : Int32) (v2 : Int32) (vs0 : Int32) (vs1 : Int32) : jX6_functions_25 back call s v1 v2 vs0 vs1 =
  back 4 [some (.inl (.ref 0)), some (.inl (.int (vs1 + vs0))), some (.inl (.int (v2 + ic 1)))] [] s := rfl
theorem jX6_functions_4_eq (back : mm_bt) (call : mm_ct) (s : mm_S) (v1 : Int32) (v2 : Int32) : jX6_functions_4 back call s v1 v2 =
  if (ic 10) ≤ v2 then
    some (.inl (some (.inl (.int v1))), s)
  else
    am_ix v2 10 fun j2 =>
    if (s.2.1 7 j2) = 0 then
      jX6_functions_25 back call s v1 v2 (ic 0) v1
    else
      jX6_functions_25_24 back call s v1 v2 (ic 1) v1 := rfl
noncomputable def dX6_functions (back : mm_bt) (call : mm_ct) (s : mm_S)  : am_R mm_S :=
  jX6_functions_4 back call s (ic 0) (ic 0)
theorem dX6_functions_rs (back : mm_bt) (call : mm_ct) (s : mm_S)  : (am_r2 back (gX6_functions call)).1 [some (.inl (.ref 0)), none, none] [] s = dX6_functions back call s  := rfl
theorem dX6_functions_eq (N f : Nat) (s : mm_S)  : mm_call N (f + 1) 73 [.inl (.ref 0)] s = dX6_functions (am_bk (mm_hop (mm_call N f)) am_no (some .int) kX6_functions N) (mm_call N f) s  := (mm_call_of (mt := 73) (nL := 3) (rt := (some .int)) (code := kX6_functions) rfl rfl rfl rfl gX6_functions_ok ⟨_, _, _, _, rfl⟩).trans (dX6_functions_rs _ _ s )
theorem jX6_functions_4_bk (call : mm_ct) (n : Nat) (s : mm_S) (v1 : Int32) (v2 : Int32) : am_bk (mm_hop call) am_no (some .int) kX6_functions (n + 1) 4 [some (.inl (.ref 0)), some (.inl (.int v1)), some (.inl (.int v2))] [] s = jX6_functions_4 (am_bk (mm_hop call) am_no (some .int) kX6_functions n) call s v1 v2 := (am_bk_of rfl (gX6_functions_ok call)).trans rfl
noncomputable def jX6_keep_117 (back : mm_bt) (call : mm_ct) (s : mm_S) (v1 : Int32) (v2 : Int32) (v3 : Int32) (v4 : Int32) (v5 : Int32) : am_R mm_S := (am_r2 back (gX6_keep_117 call)).1 [some (.inl (.ref 0)), some (.inl (.int v1)), some (.inl (.int v2)), some (.inl (.int v3)), some (.inl (.int v4)), some (.inl (.int v5))] [] s
noncomputable def jX6_keep_32 (back : mm_bt) (call : mm_ct) (s : mm_S) (v1 : Int32) (v2 : Int32) (v3 : Int32) (vs0 : Int32) : am_R mm_S := (am_r2 back (gX6_keep_32 call)).1 [some (.inl (.ref 0)), some (.inl (.int v1)), some (.inl (.int v2)), some (.inl (.int v3)), none, none] [.inl (.int vs0)] s
noncomputable def jX6_keep_31 (back : mm_bt) (call : mm_ct) (s : mm_S) (v1 : Int32) (v2 : Int32) (v3 : Int32) : am_R mm_S := (am_r2 back (gX6_keep_31 call)).1 [some (.inl (.ref 0)), some (.inl (.int v1)), some (.inl (.int v2)), some (.inl (.int v3)), none, none] [] s
noncomputable def jX6_keep_27 (back : mm_bt) (call : mm_ct) (s : mm_S) (v1 : Int32) (v2 : Int32) (v3 : Int32) : am_R mm_S := (am_r2 back (gX6_keep_27 call)).1 [some (.inl (.ref 0)), some (.inl (.int v1)), some (.inl (.int v2)), some (.inl (.int v3)), none, none] [] s
noncomputable def jX6_keep_19 (back : mm_bt) (call : mm_ct) (s : mm_S) (v1 : Int32) (v2 : Int32) (v3 : Int32) : am_R mm_S := (am_r2 back (gX6_keep_19 call)).1 [some (.inl (.ref 0)), some (.inl (.int v1)), some (.inl (.int v2)), some (.inl (.int v3)), none, none] [] s
noncomputable def jX6_keep_19_14 (back : mm_bt) (call : mm_ct) (s : mm_S) (v1 : Int32) (v2 : Int32) (v3 : Int32) : am_R mm_S := (am_r2 back (gX6_keep_14 call)).2 19 [some (.inl (.ref 0)), some (.inl (.int v1)), some (.inl (.int v2)), some (.inl (.int v3)), none, none] [] s
theorem jX6_keep_19_14_eq (back : mm_bt) (call : mm_ct) (s : mm_S) (v1 : Int32) (v2 : Int32) (v3 : Int32) : jX6_keep_19_14 back call s v1 v2 v3 = jX6_keep_19 back call s v1 v2 v3 := rfl
noncomputable def jX6_keep_27_4 (back : mm_bt) (call : mm_ct) (s : mm_S) (v1 : Int32) (v2 : Int32) (v3 : Int32) : am_R mm_S := (am_r2 back (gX6_keep_4 call)).2 27 [some (.inl (.ref 0)), some (.inl (.int v1)), some (.inl (.int v2)), some (.inl (.int v3)), none, none] [] s
theorem jX6_keep_27_4_eq (back : mm_bt) (call : mm_ct) (s : mm_S) (v1 : Int32) (v2 : Int32) (v3 : Int32) : jX6_keep_27_4 back call s v1 v2 v3 = jX6_keep_27 back call s v1 v2 v3 := rfl
noncomputable def jX6_keep_27_9 (back : mm_bt) (call : mm_ct) (s : mm_S) (v1 : Int32) (v2 : Int32) (v3 : Int32) : am_R mm_S := (am_r2 back (gX6_keep_9 call)).2 27 [some (.inl (.ref 0)), some (.inl (.int v1)), some (.inl (.int v2)), some (.inl (.int v3)), none, none] [] s
theorem jX6_keep_27_9_eq (back : mm_bt) (call : mm_ct) (s : mm_S) (v1 : Int32) (v2 : Int32) (v3 : Int32) : jX6_keep_27_9 back call s v1 v2 v3 = jX6_keep_27 back call s v1 v2 v3 := rfl
noncomputable def jX6_keep_31_19 (back : mm_bt) (call : mm_ct) (s : mm_S) (v1 : Int32) (v2 : Int32) (v3 : Int32) : am_R mm_S := (am_r2 back (gX6_keep_19 call)).2 31 [some (.inl (.ref 0)), some (.inl (.int v1)), some (.inl (.int v2)), some (.inl (.int v3)), none, none] [] s
theorem jX6_keep_31_19_eq (back : mm_bt) (call : mm_ct) (s : mm_S) (v1 : Int32) (v2 : Int32) (v3 : Int32) : jX6_keep_31_19 back call s v1 v2 v3 = jX6_keep_31 back call s v1 v2 v3 := rfl
noncomputable def jX6_keep_31_27 (back : mm_bt) (call : mm_ct) (s : mm_S) (v1 : Int32) (v2 : Int32) (v3 : Int32) : am_R mm_S := (am_r2 back (gX6_keep_27 call)).2 31 [some (.inl (.ref 0)), some (.inl (.int v1)), some (.inl (.int v2)), some (.inl (.int v3)), none, none] [] s
theorem jX6_keep_31_27_eq (back : mm_bt) (call : mm_ct) (s : mm_S) (v1 : Int32) (v2 : Int32) (v3 : Int32) : jX6_keep_31_27 back call s v1 v2 v3 = jX6_keep_31 back call s v1 v2 v3 := rfl
noncomputable def jX6_keep_32_31 (back : mm_bt) (call : mm_ct) (s : mm_S) (v1 : Int32) (v2 : Int32) (v3 : Int32) (vs0 : Int32) : am_R mm_S := (am_r2 back (gX6_keep_31 call)).2 32 [some (.inl (.ref 0)), some (.inl (.int v1)), some (.inl (.int v2)), some (.inl (.int v3)), none, none] [.inl (.int vs0)] s
theorem jX6_keep_32_31_eq (back : mm_bt) (call : mm_ct) (s : mm_S) (v1 : Int32) (v2 : Int32) (v3 : Int32) (vs0 : Int32) : jX6_keep_32_31 back call s v1 v2 v3 vs0 = jX6_keep_32 back call s v1 v2 v3 vs0 := rfl
theorem jX6_keep_117_eq (back : mm_bt) (call : mm_ct) (s : mm_S) (v1 : Int32) (v2 : Int32) (v3 : Int32) (v4 : Int32) (v5 : Int32) : jX6_keep_117 back call s v1 v2 v3 v4 v5 =
  if (s.1 10) ≤ v5 then
    some (.inl (some (.inl (.int (ic 0)))), s)
  else
    am_ix v5 20 fun j17 =>
    am_ix (((ic 60) * v1) + v5) 480 fun j18 =>
    back 117 [some (.inl (.ref 0)), some (.inl (.int v1)), some (.inl (.int v2)), some (.inl (.int v3)), some (.inl (.int v4)), some (.inl (.int (v5 + ic 1)))] [] (mm_pa s 15 j18 (s.2.1 9 j17)) := rfl
theorem jX6_keep_32_eq (back : mm_bt) (call : mm_ct) (s : mm_S) (v1 : Int32) (v2 : Int32) (v3 : Int32) (vs0 : Int32) : jX6_keep_32 back call s v1 v2 v3 vs0 =
  am_ci (call 75 [.inl (.int v1)] s) am_tx fun r20 s19 =>
  if r20 = 0 then
    some (.inl (some (.inl (.int (ic (-1))))), s19)
  else
    if vs0 = 0 then
      some (.inl (some (.inl (.int (ic (-1))))), s19)
    else
      am_ix v1 8 fun j21 =>
      if v2 = (ic 1) then
        am_ix v3 450 fun j25 =>
        am_ix v1 8 fun j26 =>
        am_ix v3 450 fun j27 =>
        am_ix v1 8 fun j28 =>
        am_ix v3 450 fun j29 =>
        am_ix v1 8 fun j30 =>
        some (.inl (some (.inl (.int (ic 0)))), (mm_pa (mm_pa (mm_pa (mm_pa s19 11 j21 v2) 12 j26 ((mm_pa s19 11 j21 v2).2.1 1 j25)) 13 j28 ((mm_pa (mm_pa s19 11 j21 v2) 12 j26 ((mm_pa s19 11 j21 v2).2.1 1 j25)).2.1 2 j27)) 14 j30 ((mm_pa (mm_pa (mm_pa s19 11 j21 v2) 12 j26 ((mm_pa s19 11 j21 v2).2.1 1 j25)) 13 j28 ((mm_pa (mm_pa s19 11 j21 v2) 12 j26 ((mm_pa s19 11 j21 v2).2.1 1 j25)).2.1 2 j27)).2.1 5 j29)))
      else
        if v2 = (ic 3) then
          am_ix v1 8 fun j24 =>
          jX6_keep_117 back call (mm_pa (mm_pa s19 11 j21 v2) 14 j24 ((mm_pa s19 11 j21 v2).1 10)) v1 v2 v3 vs0 (ic 0)
        else
          if v2 = (ic 4) then
            am_cv (call 76 [.inl (.ref 0), .inl (.int v1), .inl (.int v3)] (mm_p (mm_pa s19 11 j21 v2) 34 (ic 0))) am_tx fun s22 =>
            am_ix v1 8 fun j23 =>
            some (.inl (some (.inl (.int (ic 0)))), (mm_pa s22 14 j23 (s22.1 34)))
          else
            some (.inl (some (.inl (.int (ic 0)))), (mm_pa s19 11 j21 v2)) := rfl
theorem jX6_keep_31_eq (back : mm_bt) (call : mm_ct) (s : mm_S) (v1 : Int32) (v2 : Int32) (v3 : Int32) : jX6_keep_31 back call s v1 v2 v3 =
  jX6_keep_32 back call s v1 v2 v3 (ic 0) := rfl
theorem jX6_keep_27_eq (back : mm_bt) (call : mm_ct) (s : mm_S) (v1 : Int32) (v2 : Int32) (v3 : Int32) : jX6_keep_27 back call s v1 v2 v3 =
  jX6_keep_32_31 back call s v1 v2 v3 (ic 1) := rfl
theorem jX6_keep_19_eq (back : mm_bt) (call : mm_ct) (s : mm_S) (v1 : Int32) (v2 : Int32) (v3 : Int32) : jX6_keep_19 back call s v1 v2 v3 =
  am_ci (call 6 [.inl (.ref 0), .inl (.int v3)] s) am_tx fun r32 s31 =>
  if r32 = 0 then
    jX6_keep_31_27 back call s31 v1 v2 v3
  else
    jX6_keep_27 back call s31 v1 v2 v3 := rfl
noncomputable def dX6_keep (back : mm_bt) (call : mm_ct) (s : mm_S) (x1 : Int32) (x2 : Int32) (x3 : Int32) : am_R mm_S :=
  if x2 = 0 then
    jX6_keep_27_4 back call s x1 x2 x3
  else
    if x2 = (ic 3) then
      jX6_keep_27_9 back call s x1 x2 x3
    else
      if x2 = (ic 1) then
        jX6_keep_19_14 back call s x1 x2 x3
      else
        if x2 = (ic 4) then
          jX6_keep_19 back call s x1 x2 x3
        else
          jX6_keep_31_19 back call s x1 x2 x3
theorem dX6_keep_rs (back : mm_bt) (call : mm_ct) (s : mm_S) (x1 : Int32) (x2 : Int32) (x3 : Int32) : (am_r2 back (gX6_keep call)).1 [some (.inl (.ref 0)), some (.inl (.int x1)), some (.inl (.int x2)), some (.inl (.int x3)), none, none] [] s = dX6_keep back call s x1 x2 x3 := rfl
theorem dX6_keep_eq (N f : Nat) (s : mm_S) (x1 : Int32) (x2 : Int32) (x3 : Int32) : mm_call N (f + 1) 74 [.inl (.ref 0), .inl (.int x1), .inl (.int x2), .inl (.int x3)] s = dX6_keep (am_bk (mm_hop (mm_call N f)) am_no (some .int) kX6_keep N) (mm_call N f) s x1 x2 x3 := (mm_call_of (mt := 74) (nL := 6) (rt := (some .int)) (code := kX6_keep) rfl rfl rfl rfl gX6_keep_ok ⟨_, _, _, _, rfl⟩).trans (dX6_keep_rs _ _ s x1 x2 x3)
theorem jX6_keep_117_bk (call : mm_ct) (n : Nat) (s : mm_S) (v1 : Int32) (v2 : Int32) (v3 : Int32) (v4 : Int32) (v5 : Int32) : am_bk (mm_hop call) am_no (some .int) kX6_keep (n + 1) 117 [some (.inl (.ref 0)), some (.inl (.int v1)), some (.inl (.int v2)), some (.inl (.int v3)), some (.inl (.int v4)), some (.inl (.int v5))] [] s = jX6_keep_117 (am_bk (mm_hop call) am_no (some .int) kX6_keep n) call s v1 v2 v3 v4 v5 := (am_bk_of rfl (gX6_keep_ok call)).trans rfl
noncomputable def dX6_isShelf (back : mm_bt) (call : mm_ct) (s : mm_S) (x1 : Int32) : am_R mm_S :=
  am_ci (call 3 [.inl (.long x1.toInt64), .inl (.long (lN 0)), .inl (.long 7)] s) am_tx fun r4 s3 =>
  some (.inl (some (.inl (.int (r4 &&& 1)))), s3)
theorem dX6_isShelf_rs (back : mm_bt) (call : mm_ct) (s : mm_S) (x1 : Int32) : (am_r2 back (gX6_isShelf call)).1 [some (.inl (.int x1))] [] s = dX6_isShelf back call s x1 := rfl
theorem dX6_isShelf_eq (N f : Nat) (s : mm_S) (x1 : Int32) : mm_call N (f + 1) 75 [.inl (.int x1)] s = dX6_isShelf (am_bk (mm_hop (mm_call N f)) am_no (some .boolean) kX6_isShelf N) (mm_call N f) s x1 := (mm_call_of (mt := 75) (nL := 1) (rt := (some .boolean)) (code := kX6_isShelf) rfl rfl rfl rfl gX6_isShelf_ok ⟨_, _, _, _, rfl⟩).trans (dX6_isShelf_rs _ _ s x1)
noncomputable def jX6_kinds_50 (back : mm_bt) (call : mm_ct) (s : mm_S) (v1 : Int32) (v2 : Int32) : am_R mm_S := (am_r2 back (gX6_kinds_50 call)).1 [some (.inl (.ref 0)), some (.inl (.int v1)), some (.inl (.int v2))] [] s
noncomputable def jX6_kinds_50_39 (back : mm_bt) (call : mm_ct) (s : mm_S) (v1 : Int32) (v2 : Int32) : am_R mm_S := (am_r2 back (gX6_kinds_39 call)).2 50 [some (.inl (.ref 0)), some (.inl (.int v1)), some (.inl (.int v2))] [] s
theorem jX6_kinds_50_39_eq (back : mm_bt) (call : mm_ct) (s : mm_S) (v1 : Int32) (v2 : Int32) : jX6_kinds_50_39 back call s v1 v2 = jX6_kinds_50 back call s v1 v2 := rfl
theorem jX6_kinds_50_eq (back : mm_bt) (call : mm_ct) (s : mm_S) (v1 : Int32) (v2 : Int32) : jX6_kinds_50 back call s v1 v2 =
  am_ix v2 450 fun j9 =>
  if (s.2.1 4 j9) < 0 then
    some (.inl none, s)
  else
    am_ix v2 450 fun j10 =>
    am_cv (call 76 [.inl (.ref 0), .inl (.int v1), .inl (.int (s.2.1 4 j10))] s) am_tx fun s11 =>
    some (.inl none, s11) := rfl
noncomputable def dX6_kinds (back : mm_bt) (call : mm_ct) (s : mm_S) (x1 : Int32) (x2 : Int32) : am_R mm_S :=
  am_ix x2 450 fun j12 =>
  am_ix (((ic 60) * x1) + (s.1 34)) 480 fun j13 =>
  am_ix x2 450 fun j14 =>
  if ((mm_p (mm_pa s 15 j13 (s.2.1 1 j12)) 34 (((mm_pa s 15 j13 (s.2.1 1 j12)).1 34) + (ic 1))).2.1 3 j14) < 0 then
    jX6_kinds_50_39 back call (mm_p (mm_pa s 15 j13 (s.2.1 1 j12)) 34 (((mm_pa s 15 j13 (s.2.1 1 j12)).1 34) + (ic 1))) x1 x2
  else
    am_ix x2 450 fun j15 =>
    am_cv (call 76 [.inl (.ref 0), .inl (.int x1), .inl (.int ((mm_p (mm_pa s 15 j13 (s.2.1 1 j12)) 34 (((mm_pa s 15 j13 (s.2.1 1 j12)).1 34) + (ic 1))).2.1 3 j15))] (mm_p (mm_pa s 15 j13 (s.2.1 1 j12)) 34 (((mm_pa s 15 j13 (s.2.1 1 j12)).1 34) + (ic 1)))) am_tx fun s16 =>
    jX6_kinds_50 back call s16 x1 x2
theorem dX6_kinds_rs (back : mm_bt) (call : mm_ct) (s : mm_S) (x1 : Int32) (x2 : Int32) : (am_r2 back (gX6_kinds call)).1 [some (.inl (.ref 0)), some (.inl (.int x1)), some (.inl (.int x2))] [] s = dX6_kinds back call s x1 x2 := rfl
theorem dX6_kinds_eq (N f : Nat) (s : mm_S) (x1 : Int32) (x2 : Int32) : mm_call N (f + 1) 76 [.inl (.ref 0), .inl (.int x1), .inl (.int x2)] s = dX6_kinds (am_bk (mm_hop (mm_call N f)) am_no none kX6_kinds N) (mm_call N f) s x1 x2 := (mm_call_of (mt := 76) (nL := 3) (rt := none) (code := kX6_kinds) rfl rfl rfl rfl gX6_kinds_ok ⟨_, _, _, _, rfl⟩).trans (dX6_kinds_rs _ _ s x1 x2)
noncomputable def jX6_make_53 (back : mm_bt) (call : mm_ct) (s : mm_S) (v1 : Int32) (v2 : Int32) (v3 : Int32) (v4 : Int32) : am_R mm_S := (am_r2 back (gX6_make_53 call)).1 [some (.inl (.ref 0)), some (.inl (.int v1)), some (.inl (.int v2)), some (.inl (.int v3)), some (.inl (.int v4))] [] s
theorem jX6_make_53_eq (back : mm_bt) (call : mm_ct) (s : mm_S) (v1 : Int32) (v2 : Int32) (v3 : Int32) (v4 : Int32) : jX6_make_53 back call s v1 v2 v3 v4 =
  if v3 ≤ v4 then
    some (.inl (some (.inl (.int (ic 0)))), s)
  else
    am_ix (((ic 60) * v1) + v4) 480 fun j8 =>
    back 53 [some (.inl (.ref 0)), some (.inl (.int v1)), some (.inl (.int v2)), some (.inl (.int v3)), some (.inl (.int (v4 + ic 1)))] [] (mm_pa s 15 j8 (ic 0)) := rfl
noncomputable def dX6_make (back : mm_bt) (call : mm_ct) (s : mm_S) (x1 : Int32) (x2 : Int32) (x3 : Int32) : am_R mm_S :=
  am_ci (call 75 [.inl (.int x1)] s) am_tx fun r10 s9 =>
  if r10 = 0 then
    some (.inl (some (.inl (.int (ic (-1))))), s9)
  else
    am_ci (call 3 [.inl (.long x2.toInt64), .inl (.long 3), .inl (.long 4)] s9) am_tx fun r12 s11 =>
    if r12 = 0 then
      some (.inl (some (.inl (.int (ic (-1))))), s11)
    else
      if x3 ≤ (ic 60) then
        if 0 ≤ x3 then
          am_ix x1 8 fun j13 =>
          am_ix x1 8 fun j14 =>
          jX6_make_53 back call (mm_pa (mm_pa s11 11 j13 x2) 14 j14 x3) x1 x2 x3 (ic 0)
        else
          some (.inl (some (.inl (.int (ic (-14))))), s11)
      else
        some (.inl (some (.inl (.int (ic (-1))))), s11)
theorem dX6_make_rs (back : mm_bt) (call : mm_ct) (s : mm_S) (x1 : Int32) (x2 : Int32) (x3 : Int32) : (am_r2 back (gX6_make call)).1 [some (.inl (.ref 0)), some (.inl (.int x1)), some (.inl (.int x2)), some (.inl (.int x3)), none] [] s = dX6_make back call s x1 x2 x3 := rfl
theorem dX6_make_eq (N f : Nat) (s : mm_S) (x1 : Int32) (x2 : Int32) (x3 : Int32) : mm_call N (f + 1) 77 [.inl (.ref 0), .inl (.int x1), .inl (.int x2), .inl (.int x3)] s = dX6_make (am_bk (mm_hop (mm_call N f)) am_no (some .int) kX6_make N) (mm_call N f) s x1 x2 x3 := (mm_call_of (mt := 77) (nL := 5) (rt := (some .int)) (code := kX6_make) rfl rfl rfl rfl gX6_make_ok ⟨_, _, _, _, rfl⟩).trans (dX6_make_rs _ _ s x1 x2 x3)
theorem jX6_make_53_bk (call : mm_ct) (n : Nat) (s : mm_S) (v1 : Int32) (v2 : Int32) (v3 : Int32) (v4 : Int32) : am_bk (mm_hop call) am_no (some .int) kX6_make (n + 1) 53 [some (.inl (.ref 0)), some (.inl (.int v1)), some (.inl (.int v2)), some (.inl (.int v3)), some (.inl (.int v4))] [] s = jX6_make_53 (am_bk (mm_hop call) am_no (some .int) kX6_make n) call s v1 v2 v3 v4 := (am_bk_of rfl (gX6_make_ok call)).trans rfl
noncomputable def jX6_element_45 (back : mm_bt) (call : mm_ct) (s : mm_S) (v1 : Int32) (v2 : Int32) (vs0 : Int32) : am_R mm_S := (am_r2 back (gX6_element_45 call)).1 [some (.inl (.ref 0)), some (.inl (.int v1)), some (.inl (.int v2))] [.inl (.int vs0), .inl (.ref 0)] s
noncomputable def jX6_element_40 (back : mm_bt) (call : mm_ct) (s : mm_S) (v1 : Int32) (v2 : Int32) : am_R mm_S := (am_r2 back (gX6_element_40 call)).1 [some (.inl (.ref 0)), some (.inl (.int v1)), some (.inl (.int v2))] [.inl (.ref 0)] s
noncomputable def jX6_element_40_22 (back : mm_bt) (call : mm_ct) (s : mm_S) (v1 : Int32) (v2 : Int32) : am_R mm_S := (am_r2 back (gX6_element_22 call)).2 40 [some (.inl (.ref 0)), some (.inl (.int v1)), some (.inl (.int v2))] [.inl (.ref 0)] s
theorem jX6_element_40_22_eq (back : mm_bt) (call : mm_ct) (s : mm_S) (v1 : Int32) (v2 : Int32) : jX6_element_40_22 back call s v1 v2 = jX6_element_40 back call s v1 v2 := rfl
noncomputable def jX6_element_45_12 (back : mm_bt) (call : mm_ct) (s : mm_S) (v1 : Int32) (v2 : Int32) (vs0 : Int32) : am_R mm_S := (am_r2 back (gX6_element_12 call)).2 45 [some (.inl (.ref 0)), some (.inl (.int v1)), some (.inl (.int v2))] [.inl (.int vs0), .inl (.ref 0)] s
theorem jX6_element_45_12_eq (back : mm_bt) (call : mm_ct) (s : mm_S) (v1 : Int32) (v2 : Int32) (vs0 : Int32) : jX6_element_45_12 back call s v1 v2 vs0 = jX6_element_45 back call s v1 v2 vs0 := rfl
noncomputable def jX6_element_45_44 (back : mm_bt) (call : mm_ct) (s : mm_S) (v1 : Int32) (v2 : Int32) (vs0 : Int32) : am_R mm_S := (am_r2 back (gX6_element_44 call)).2 45 [some (.inl (.ref 0)), some (.inl (.int v1)), some (.inl (.int v2))] [.inl (.int vs0), .inl (.ref 0)] s
theorem jX6_element_45_44_eq (back : mm_bt) (call : mm_ct) (s : mm_S) (v1 : Int32) (v2 : Int32) (vs0 : Int32) : jX6_element_45_44 back call s v1 v2 vs0 = jX6_element_45 back call s v1 v2 vs0 := rfl
theorem jX6_element_45_eq (back : mm_bt) (call : mm_ct) (s : mm_S) (v1 : Int32) (v2 : Int32) (vs0 : Int32) : jX6_element_45 back call s v1 v2 vs0 =
  if ((mm_p s 16 vs0).1 16) = 0 then
    am_ix (((ic 60) * v1) + v2) 480 fun j8 =>
    some (.inl (some (.inl (.long ((mm_p s 16 vs0).2.1 15 j8).toInt64))), (mm_p s 16 vs0))
  else
    some (.inl (some (.inl (.long (lN 0)))), (mm_p s 16 vs0)) := rfl
theorem jX6_element_40_eq (back : mm_bt) (call : mm_ct) (s : mm_S) (v1 : Int32) (v2 : Int32) : jX6_element_40 back call s v1 v2 =
  jX6_element_45_44 back call s v1 v2 (ic 2) := rfl
noncomputable def dX6_element (back : mm_bt) (call : mm_ct) (s : mm_S) (x1 : Int32) (x2 : Int32) : am_R mm_S :=
  am_ci (call 75 [.inl (.int x1)] s) am_tx fun r10 s9 =>
  if r10 = 0 then
    jX6_element_45_12 back call s9 x1 x2 (ic 1)
  else
    am_ix x1 8 fun j11 =>
    if (s9.2.1 11 j11) < (ic 3) then
      jX6_element_40_22 back call s9 x1 x2
    else
      am_ix x1 8 fun j12 =>
      am_ci (call 3 [.inl (.long x2.toInt64), .inl (.long (lN 0)), .inl (.long ((s9.2.1 14 j12) - (ic 1)).toInt64)] s9) am_tx fun r14 s13 =>
      if r14 = 0 then
        jX6_element_40 back call s13 x1 x2
      else
        jX6_element_45 back call s13 x1 x2 (ic 0)
theorem dX6_element_rs (back : mm_bt) (call : mm_ct) (s : mm_S) (x1 : Int32) (x2 : Int32) : (am_r2 back (gX6_element call)).1 [some (.inl (.ref 0)), some (.inl (.int x1)), some (.inl (.int x2))] [] s = dX6_element back call s x1 x2 := rfl
theorem dX6_element_eq (N f : Nat) (s : mm_S) (x1 : Int32) (x2 : Int32) : mm_call N (f + 1) 78 [.inl (.ref 0), .inl (.int x1), .inl (.int x2)] s = dX6_element (am_bk (mm_hop (mm_call N f)) am_no (some .long) kX6_element N) (mm_call N f) s x1 x2 := (mm_call_of (mt := 78) (nL := 3) (rt := (some .long)) (code := kX6_element) rfl rfl rfl rfl gX6_element_ok ⟨_, _, _, _, rfl⟩).trans (dX6_element_rs _ _ s x1 x2)
noncomputable def jX6_copy_149 (back : mm_bt) (call : mm_ct) (s : mm_S) (v1 : Int32) (v2 : Int32) (v3 : Int32) (v4 : Int32) (v5 : Int32) (v6 : Int32) : am_R mm_S := (am_r2 back (gX6_copy_149 call)).1 [some (.inl (.ref 0)), some (.inl (.int v1)), some (.inl (.int v2)), some (.inl (.int v3)), some (.inl (.int v4)), some (.inl (.int v5)), some (.inl (.int v6))] [] s
noncomputable def jX6_copy_112 (back : mm_bt) (call : mm_ct) (s : mm_S) (v1 : Int32) (v2 : Int32) (v3 : Int32) (v4 : Int32) (v5 : Int32) (v6 : Int32) : am_R mm_S := (am_r2 back (gX6_copy_112 call)).1 [some (.inl (.ref 0)), some (.inl (.int v1)), some (.inl (.int v2)), some (.inl (.int v3)), some (.inl (.int v4)), some (.inl (.int v5)), some (.inl (.int v6))] [] s
theorem jX6_copy_149_eq (back : mm_bt) (call : mm_ct) (s : mm_S) (v1 : Int32) (v2 : Int32) (v3 : Int32) (v4 : Int32) (v5 : Int32) (v6 : Int32) : jX6_copy_149 back call s v1 v2 v3 v4 v5 v6 =
  if v5 ≤ v6 then
    some (.inl (some (.inl (.int v5))), s)
  else
    am_ix v6 256 fun j16 =>
    am_ix ((((ic 60) * v3) + v4) + v6) 480 fun j17 =>
    back 149 [some (.inl (.ref 0)), some (.inl (.int v1)), some (.inl (.int v2)), some (.inl (.int v3)), some (.inl (.int v4)), some (.inl (.int v5)), some (.inl (.int (v6 + ic 1)))] [] (mm_pa s 15 j17 (s.2.1 22 j16)) := rfl
theorem jX6_copy_112_eq (back : mm_bt) (call : mm_ct) (s : mm_S) (v1 : Int32) (v2 : Int32) (v3 : Int32) (v4 : Int32) (v5 : Int32) (v6 : Int32) : jX6_copy_112 back call s v1 v2 v3 v4 v5 v6 =
  if v5 ≤ v6 then
    jX6_copy_149 back call s v1 v2 v3 v4 v5 (ic 0)
  else
    am_ix ((((ic 60) * v1) + v2) + v6) 480 fun j18 =>
    am_ix v6 256 fun j19 =>
    back 112 [some (.inl (.ref 0)), some (.inl (.int v1)), some (.inl (.int v2)), some (.inl (.int v3)), some (.inl (.int v4)), some (.inl (.int v5)), some (.inl (.int (v6 + ic 1)))] [] (mm_pa s 22 j19 (s.2.1 15 j18)) := rfl
noncomputable def dX6_copy (back : mm_bt) (call : mm_ct) (s : mm_S) (x1 : Int32) (x2 : Int32) (x3 : Int32) (x4 : Int32) (x5 : Int32) : am_R mm_S :=
  am_ci (call 75 [.inl (.int x1)] s) am_tx fun r21 s20 =>
  if r21 = 0 then
    some (.inl (some (.inl (.int (ic (-1))))), s20)
  else
    am_ci (call 75 [.inl (.int x3)] s20) am_tx fun r23 s22 =>
    if r23 = 0 then
      some (.inl (some (.inl (.int (ic (-1))))), s22)
    else
      am_ix x1 8 fun j24 =>
      if (s22.2.1 11 j24) = 0 then
        some (.inl (some (.inl (.int (ic (-11))))), s22)
      else
        am_ix x3 8 fun j25 =>
        if (s22.2.1 11 j25) = 0 then
          some (.inl (some (.inl (.int (ic (-11))))), s22)
        else
          am_ix x1 8 fun j26 =>
          if (s22.2.1 11 j26) < (ic 3) then
            some (.inl (some (.inl (.int (ic (-12))))), s22)
          else
            am_ix x1 8 fun j27 =>
            am_ix x3 8 fun j28 =>
            if (s22.2.1 11 j27) = (s22.2.1 11 j28) then
              if x5 < 0 then
                some (.inl (some (.inl (.int (ic (-13))))), s22)
              else
                if x2 < 0 then
                  some (.inl (some (.inl (.int (ic (-13))))), s22)
                else
                  if x4 < 0 then
                    some (.inl (some (.inl (.int (ic (-13))))), s22)
                  else
                    am_ix x1 8 fun j29 =>
                    if ((s22.2.1 14 j29) - x5) < x2 then
                      some (.inl (some (.inl (.int (ic (-13))))), s22)
                    else
                      am_ix x3 8 fun j30 =>
                      if x4 ≤ ((s22.2.1 14 j30) - x5) then
                        jX6_copy_112 back call s22 x1 x2 x3 x4 x5 (ic 0)
                      else
                        some (.inl (some (.inl (.int (ic (-13))))), s22)
            else
              some (.inl (some (.inl (.int (ic (-12))))), s22)
theorem dX6_copy_rs (back : mm_bt) (call : mm_ct) (s : mm_S) (x1 : Int32) (x2 : Int32) (x3 : Int32) (x4 : Int32) (x5 : Int32) : (am_r2 back (gX6_copy call)).1 [some (.inl (.ref 0)), some (.inl (.int x1)), some (.inl (.int x2)), some (.inl (.int x3)), some (.inl (.int x4)), some (.inl (.int x5)), none] [] s = dX6_copy back call s x1 x2 x3 x4 x5 := rfl
theorem dX6_copy_eq (N f : Nat) (s : mm_S) (x1 : Int32) (x2 : Int32) (x3 : Int32) (x4 : Int32) (x5 : Int32) : mm_call N (f + 1) 79 [.inl (.ref 0), .inl (.int x1), .inl (.int x2), .inl (.int x3), .inl (.int x4), .inl (.int x5)] s = dX6_copy (am_bk (mm_hop (mm_call N f)) am_no (some .int) kX6_copy N) (mm_call N f) s x1 x2 x3 x4 x5 := (mm_call_of (mt := 79) (nL := 7) (rt := (some .int)) (code := kX6_copy) rfl rfl rfl rfl gX6_copy_ok ⟨_, _, _, _, rfl⟩).trans (dX6_copy_rs _ _ s x1 x2 x3 x4 x5)
theorem jX6_copy_112_bk (call : mm_ct) (n : Nat) (s : mm_S) (v1 : Int32) (v2 : Int32) (v3 : Int32) (v4 : Int32) (v5 : Int32) (v6 : Int32) : am_bk (mm_hop call) am_no (some .int) kX6_copy (n + 1) 112 [some (.inl (.ref 0)), some (.inl (.int v1)), some (.inl (.int v2)), some (.inl (.int v3)), some (.inl (.int v4)), some (.inl (.int v5)), some (.inl (.int v6))] [] s = jX6_copy_112 (am_bk (mm_hop call) am_no (some .int) kX6_copy n) call s v1 v2 v3 v4 v5 v6 := (am_bk_of rfl (gX6_copy_ok call)).trans rfl
theorem jX6_copy_149_bk (call : mm_ct) (n : Nat) (s : mm_S) (v1 : Int32) (v2 : Int32) (v3 : Int32) (v4 : Int32) (v5 : Int32) (v6 : Int32) : am_bk (mm_hop call) am_no (some .int) kX6_copy (n + 1) 149 [some (.inl (.ref 0)), some (.inl (.int v1)), some (.inl (.int v2)), some (.inl (.int v3)), some (.inl (.int v4)), some (.inl (.int v5)), some (.inl (.int v6))] [] s = jX6_copy_149 (am_bk (mm_hop call) am_no (some .int) kX6_copy n) call s v1 v2 v3 v4 v5 v6 := (am_bk_of rfl (gX6_copy_ok call)).trans rfl
noncomputable def dX6_weight (back : mm_bt) (call : mm_ct) (s : mm_S) (x1 : Int32) : am_R mm_S :=
  am_ci (call 81 [.inl (.ref 0), .inl (.int x1)] s) am_tx fun r7 s6 =>
  if r7 = 0 then
    am_ix x1 8 fun j8 =>
    am_ix x1 8 fun j9 =>
    if (s6.2.1 12 j9) = nI 1 then
      am_ix x1 8 fun j10 =>
      some (.inl (some (.inl (.int (((s6.2.1 14 j8) + (ic 10)) + (s6.2.1 13 j10))))), s6)
    else
    if (s6.2.1 12 j9) = nI 2 then
      some (.inl (some (.inl (.int ((s6.2.1 14 j8) + (ic 10))))), s6)
    else
    if (s6.2.1 12 j9) = nI 3 then
      some (.inl (some (.inl (.int ((s6.2.1 14 j8) + (ic 10))))), s6)
    else
    if (s6.2.1 12 j9) = nI 4 then
      some (.inl (some (.inl (.int ((s6.2.1 14 j8) + (ic 10))))), s6)
    else
    if (s6.2.1 12 j9) = nI 5 then
      some (.inl (some (.inl (.int (((s6.2.1 14 j8) + (ic 10)) + (ic 100))))), s6)
    else
    if (s6.2.1 12 j9) = nI 6 then
      some (.inl (some (.inl (.int (((s6.2.1 14 j8) + (ic 10)) + (ic 100))))), s6)
    else
    if (s6.2.1 12 j9) = nI 7 then
      some (.inl (some (.inl (.int ((s6.2.1 14 j8) + (ic 10))))), s6)
    else
    if (s6.2.1 12 j9) = nI 8 then
      some (.inl (some (.inl (.int ((ic 2) * ((s6.2.1 14 j8) + (ic 10)))))), s6)
    else
    if (s6.2.1 12 j9) = nI 9 then
      some (.inl (some (.inl (.int (((s6.2.1 14 j8) + (ic 10)) + (ic 1000))))), s6)
    else
    some (.inl (some (.inl (.int ((s6.2.1 14 j8) + (ic 10))))), s6)
  else
    some (.inl (some (.inl (.int r7))), s6)
theorem dX6_weight_rs (back : mm_bt) (call : mm_ct) (s : mm_S) (x1 : Int32) : (am_r2 back (gX6_weight call)).1 [some (.inl (.ref 0)), some (.inl (.int x1)), none, none] [] s = dX6_weight back call s x1 := rfl
theorem dX6_weight_eq (N f : Nat) (s : mm_S) (x1 : Int32) : mm_call N (f + 1) 80 [.inl (.ref 0), .inl (.int x1)] s = dX6_weight (am_bk (mm_hop (mm_call N f)) am_no (some .int) kX6_weight N) (mm_call N f) s x1 := (mm_call_of (mt := 80) (nL := 4) (rt := (some .int)) (code := kX6_weight) rfl rfl rfl rfl gX6_weight_ok ⟨_, _, _, _, rfl⟩).trans (dX6_weight_rs _ _ s x1)
noncomputable def dX6_held (back : mm_bt) (call : mm_ct) (s : mm_S) (x1 : Int32) : am_R mm_S :=
  am_ci (call 75 [.inl (.int x1)] s) am_tx fun r6 s5 =>
  if r6 = 0 then
    some (.inl (some (.inl (.int (ic (-1))))), s5)
  else
    am_ix x1 8 fun j7 =>
    if (s5.2.1 11 j7) = 0 then
      some (.inl (some (.inl (.int (ic (-11))))), s5)
    else
      am_ix x1 8 fun j8 =>
      if (s5.2.1 11 j8) = (ic 1) then
        some (.inl (some (.inl (.int (ic 0)))), s5)
      else
        some (.inl (some (.inl (.int (ic (-12))))), s5)
theorem dX6_held_rs (back : mm_bt) (call : mm_ct) (s : mm_S) (x1 : Int32) : (am_r2 back (gX6_held call)).1 [some (.inl (.ref 0)), some (.inl (.int x1))] [] s = dX6_held back call s x1 := rfl
theorem dX6_held_eq (N f : Nat) (s : mm_S) (x1 : Int32) : mm_call N (f + 1) 81 [.inl (.ref 0), .inl (.int x1)] s = dX6_held (am_bk (mm_hop (mm_call N f)) am_no (some .int) kX6_held N) (mm_call N f) s x1 := (mm_call_of (mt := 81) (nL := 2) (rt := (some .int)) (code := kX6_held) rfl rfl rfl rfl gX6_held_ok ⟨_, _, _, _, rfl⟩).trans (dX6_held_rs _ _ s x1)
noncomputable def dX6_toss (back : mm_bt) (call : mm_ct) (s : mm_S) (x1 : Int32) : am_R mm_S :=
  am_ci (call 81 [.inl (.ref 0), .inl (.int x1)] s) am_tx fun r6 s5 =>
  if r6 = 0 then
    am_ix x1 8 fun j7 =>
    if 0 ≤ (s5.2.1 13 j7) then
      am_ix x1 8 fun j8 =>
      some (.inl (some (.inl (.int (s5.2.1 13 j8)))), s5)
    else
      some (.inl (some (.inl (.int (ic (-15))))), s5)
  else
    some (.inl (some (.inl (.int r6))), s5)
theorem dX6_toss_rs (back : mm_bt) (call : mm_ct) (s : mm_S) (x1 : Int32) : (am_r2 back (gX6_toss call)).1 [some (.inl (.ref 0)), some (.inl (.int x1)), none] [] s = dX6_toss back call s x1 := rfl
theorem dX6_toss_eq (N f : Nat) (s : mm_S) (x1 : Int32) : mm_call N (f + 1) 82 [.inl (.ref 0), .inl (.int x1)] s = dX6_toss (am_bk (mm_hop (mm_call N f)) am_no (some .int) kX6_toss N) (mm_call N f) s x1 := (mm_call_of (mt := 82) (nL := 3) (rt := (some .int)) (code := kX6_toss) rfl rfl rfl rfl gX6_toss_ok ⟨_, _, _, _, rfl⟩).trans (dX6_toss_rs _ _ s x1)
