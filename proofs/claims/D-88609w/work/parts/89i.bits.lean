set_option maxRecDepth 100000
/-! THE OPERATIONS: means, keeps, count. -/
section
variable {SM : List Tr} {FR : Nat → Int32} {N f : Nat}
theorem nI_bv (a : Nat) : (nI a).toBitVec.toNat = a % 2 ^ 32 := by
  show (Int32.ofNat a).toBitVec.toNat = _
  rw [Int32.toBitVec_ofNat']
  simp
theorem nI_or (a b : Nat) : nI a ||| nI b = nI (a ||| b) := by
  apply Int32.toBitVec_inj.mp
  apply BitVec.eq_of_toNat_eq
  rw [Int32.toBitVec_or, BitVec.toNat_or, nI_bv, nI_bv, nI_bv, Nat.or_mod_two_pow]
theorem nI_and (a b : Nat) : nI a &&& nI b = nI (a &&& b) := by
  apply Int32.toBitVec_inj.mp
  apply BitVec.eq_of_toNat_eq
  rw [Int32.toBitVec_and, BitVec.toNat_and, nI_bv, nI_bv, nI_bv, Nat.and_mod_two_pow]
theorem nI_xor (a b : Nat) : nI a ^^^ nI b = nI (a ^^^ b) := by
  apply Int32.toBitVec_inj.mp
  apply BitVec.eq_of_toNat_eq
  rw [Int32.toBitVec_xor, BitVec.toNat_xor, nI_bv, nI_bv, nI_bv, Nat.xor_mod_two_pow]
/-- a bit set or cleared -/
def stb (m l : Nat) (b : Bool) : Nat := if b then m ||| 2 ^ l else m &&& (2 ^ l ^^^ 4294967295)
theorem nI_sh : ∀ l, l < 10 → (ic 1) <<< (nI l &&& 31) = nI (2 ^ l) := by decide
theorem stb_t {m l : Nat} (hl : l < 10) : nI m ||| (ic 1 <<< (nI l &&& 31)) = nI (stb m l true) := by
  rw [nI_sh l hl, nI_or]
  rfl
theorem stb_f {m l : Nat} (hl : l < 10) : nI m &&& ((ic 1 <<< (nI l &&& 31)) ^^^ ic (-1)) = nI (stb m l false) := by
  rw [nI_sh l hl, show ic (-1) = nI 4294967295 by decide, nI_xor, nI_and]
  rfl
theorem stb_bit {m l : Nat} {b : Bool} (hl : l < 10) (hm : m < 1024) (j : Nat) : (stb m l b).testBit j = if j = l then b else m.testBit j := by
  unfold stb
  cases b with
  | true =>
    rw [if_pos rfl, Nat.testBit_or, Nat.testBit_two_pow]
    by_cases q : j = l
    · rw [if_pos q, q]
      simp
    · rw [if_neg q, decide_eq_false (fun h => q h.symm), Bool.or_false]
  | false =>
    rw [if_neg (by decide), Nat.testBit_and, Nat.testBit_xor, Nat.testBit_two_pow, show 4294967295 = 2 ^ 32 - 1 by decide, Nat.testBit_two_pow_sub_one]
    by_cases q : j = l
    · rw [if_pos q, q, decide_eq_true rfl, decide_eq_true (by omega)]
      simp
    · rw [if_neg q, decide_eq_false (fun h => q h.symm)]
      by_cases h : j < 32
      · rw [decide_eq_true h]
        simp
      · rw [decide_eq_false h, Nat.testBit_lt_two_pow (Nat.lt_of_lt_of_le hm (Nat.pow_le_pow_right (n := 2) (by omega) (show 10 ≤ j by omega)))]
        rfl
theorem stb_lt {m l : Nat} {b : Bool} (hl : l < 10) (hm : m < 1024) : stb m l b < 1024 := by
  unfold stb
  cases b with
  | true => exact Nat.or_lt_two_pow (n := 10) hm (Nat.pow_lt_pow_right (by omega) hl)
  | false => exact Nat.lt_of_le_of_lt Nat.and_le_left hm
theorem stb_eq {m l : Nat} {b : Bool} (hl : l < 10) (hm : m < 1024) : m = stb m l b ↔ m.testBit l = b := by
  constructor
  · intro h
    rw [h, stb_bit hl hm, if_pos rfl]
  · intro h
    apply Nat.eq_of_testBit_eq
    intro j
    rw [stb_bit hl hm]
    split
    · next q => rw [q, h]
    · rfl
theorem op_means (hf : 150 ≤ f) (a : Int32) (b : Bool) : opI SM FR N f 7 9 [.inl (.ref 0), .inl (.int (a)), .inl (.int (b2 b))] := by
  intro c σ μ hR hc
  obtain ⟨F, K, e, h, nd, fn, kp, er, wk, sm, ct⟩ := id hR
  obtain ⟨f, rfl⟩ : ∃ f', f = f' + 20 := ⟨f - 20, by omega⟩
  rw [dX1_means_eq, dX6_means_eq]
  unfold dX1_means dX6_means
  rw [cs_inR 0 9 a σ (by decide) (by decide), am_ci_ok, mm_inR 0 9 a μ (by decide) (by decide), am_ci_ok]
  cases h1 : inR 0 9 a with
  | false =>
    rw [if_pos b2f0, if_pos b2f0]
    exact ⟨_, σ, μ, rfl, rfl, hR.up⟩
  | true =>
    obtain ⟨l, -, hl, rfl⟩ := inR_t (by omega) (by omega) h1
    obtain ⟨m, hm, m1, m2⟩ := fn
    have hl : l < 10 := by omega
    obtain ⟨m3, m4⟩ := m2 l hl
    have hlt := stb_lt (b := b) hl hm
    have hcs : ∀ back, jX1_means_45 back (cs_call N (f + 19)) σ (nI l) (b2 b) (nI m) (nI (stb m l b)) = some (.inl (some (.inl (.int (if F l = b then ic 0 else ic 1)))), cs_pi σ 1 (nI (stb m l b))) := fun back => by
      rw [jX1_means_45_eq, cs_pi_get, if_pos rfl]
      by_cases q : F l = b
      · rw [if_pos (show nI m = nI (stb m l b) from (nI_eq (by omega) (by omega)).mpr ((stb_eq hl hm).mpr (m3.trans q))), if_pos q]
      · rw [if_neg (show ¬ nI m = nI (stb m l b) from fun q' => q (m3.symm.trans ((stb_eq hl hm).mp ((nI_eq (by omega) (by omega)).mp q')))), if_neg q]
    have hmm : ∀ back v, jX6_means_29 back (mm_call N (f + 19)) μ (nI l) (b2 b) v = some (.inl (some (.inl (.int (v)))), mm_pa μ 7 l (b2 b)) := fun back v => by
      rw [jX6_means_29_eq, am_ix_nI (by omega) (by omega), b2_and1]
    have hrel : Rel SM FR (c + 1) (cs_pi σ 1 (nI (stb m l b))) (mm_pa μ 7 l (b2 b)) := by
      refine ⟨fun j => if j = l then b else F j, K, e, h, nd.fr' rfl rfl rfl (fun c h1 h2 j _ => ?_), ⟨stb m l b, hlt, rfl, fun j hj => ⟨?_, ?_⟩⟩, kp.fr rfl ?_, er.fr rfl rfl rfl ?_, wk.fr' nd.1 rfl rfl rfl rfl rfl rfl ?_ ?_ (fun c h1 h2 j _ => ?_), sm.mk' (fun c hc => by funext j; rw [mm_pa_get, if_neg (by omega)]) rfl rfl rfl, ct.up (by omega)⟩
      · rw [mm_pa_get, if_neg (by omega)]
      · rw [stb_bit hl hm, (m2 j hj).1]
      · rw [mm_pa_get, if_pos rfl]
        by_cases q : j = l
        · rw [if_pos q]
          simp [q]
        · rw [if_neg q, (m2 j hj).2]
          simp [q]
      · funext j; rw [mm_pa_get, if_neg (by omega)]
      · funext j; rw [mm_pa_get, if_neg (by omega)]
      · funext j; rw [mm_pa_get, if_neg (by omega)]
      · funext j; rw [mm_pa_get, if_neg (by omega)]
      · rw [mm_pa_get, if_neg (by omega)]
    rw [if_neg b2t0, if_neg b2t0, m1, am_ix_nI (by omega) (by omega), m4]
    have hm2 : ∀ (X Y : am_R mm_S), (if b2 (F l) = b2 b then X else Y) = if F l = b then X else Y := fun X Y => by
      cases F l <;> cases b <;> rfl
    rw [hm2]
    cases b with
    | true =>
      rw [if_neg b2t0, jX1_means_45_35_eq, stb_t hl, hcs]
      split
      · rw [hmm]
        exact ⟨_, _, _, rfl, rfl, hrel⟩
      · rw [jX6_means_29_28_eq, hmm]
        exact ⟨_, _, _, rfl, rfl, hrel⟩
    | false =>
      rw [if_pos b2f0, stb_f hl, hcs]
      split
      · rw [hmm]
        exact ⟨_, _, _, rfl, rfl, hrel⟩
      · rw [jX6_means_29_28_eq, hmm]
        exact ⟨_, _, _, rfl, rfl, hrel⟩
theorem cs_pa_get (s : cs_S) (c i : Nat) (v : Int32) (c' j' : Nat) : cs_a (cs_pa s c i v) c' j' = if c' = c then (if j' = i then v else cs_a s c j') else cs_a s c' j' := by
  show va_up s.2.1 c (upd (s.2.1 c) i v) c' j' = _
  by_cases h : c' = c
  · subst h
    rw [va_up_self, if_pos rfl]
    rfl
  · rw [va_up_ne _ _ h, if_neg h]
    rfl
theorem op_keeps (hf : 150 ≤ f) (a k : Int32) (b : Bool) : opI SM FR N f 12 16 [.inl (.ref 0), .inl (.int (a)), .inl (.int (k)), .inl (.int (b2 b))] := by
  intro c σ μ hR hc
  obtain ⟨F, K, e, h, nd, fn, kp, er, wk, sm, ct⟩ := id hR
  obtain ⟨f, rfl⟩ : ∃ f', f = f' + 20 := ⟨f - 20, by omega⟩
  rw [dX1_keeps_eq, dX6_keeps_eq]
  unfold dX1_keeps dX6_keeps
  rw [cs_isStyle, am_ci_ok, mm_isStyle, am_ci_ok]
  cases h1 : inR 0 7 a with
  | false =>
    rw [if_pos b2f0, if_pos b2f0]
    exact ⟨_, σ, μ, rfl, rfl, hR.up⟩
  | true =>
    obtain ⟨st, -, hst, rfl⟩ := inR_t (by omega) (by omega) h1
    rw [if_neg b2t0, if_neg b2t0, cs_isKeeper, am_ci_ok, mm_mayKeepI, am_ci_ok]
    cases h2 : mkI k with
    | false =>
      rw [if_pos b2f0, if_pos b2f0]
      exact ⟨_, σ, μ, rfl, rfl, hR.up⟩
    | true =>
      obtain ⟨l, hl, hmk, rfl⟩ := mkI_t h2
      obtain ⟨⟨m, hm, m1, m2⟩, m5⟩ := kp st (by omega)
      have hl : l < 10 := by omega
      obtain ⟨m3, m4⟩ := m2 l hl
      have hlt := stb_lt (b := b) hl hm
      have hcs : ∀ back, jX1_keeps_58 back (cs_call N (f + 19)) σ (nI st) (nI l) (b2 b) (nI m) (nI (stb m l b)) (nI st) = some (.inl (some (.inl (.int (if K st l = b then ic 0 else ic 1)))), cs_pa σ 102 st (nI (stb m l b))) := fun back => by
        rw [jX1_keeps_58_eq, am_ix_nI (by omega) (by omega), am_ix_nI (by omega) (by omega), cs_pa_get, if_pos rfl, if_pos rfl]
        by_cases q : K st l = b
        · rw [if_pos (show nI m = nI (stb m l b) from (nI_eq (by omega) (by omega)).mpr ((stb_eq hl hm).mpr (m3.trans q))), if_pos q]
        · rw [if_neg (show ¬ nI m = nI (stb m l b) from fun q' => q (m3.symm.trans ((stb_eq hl hm).mp ((nI_eq (by omega) (by omega)).mp q')))), if_neg q]
      have hmm : ∀ back v, jX6_keeps_36 back (mm_call N (f + 19)) μ (nI st) (nI l) (b2 b) v = some (.inl (some (.inl (.int (v)))), mm_pa μ 8 (10 * st + l) (b2 b)) := fun back v => by
        rw [jX6_keeps_36_eq, ic_lit, nI_mulI, nI_add, am_ix_nI (by omega) (by omega), b2_and1]
      have hrel : Rel SM FR (c + 1) (cs_pa σ 102 st (nI (stb m l b))) (mm_pa μ 8 (10 * st + l) (b2 b)) := by
        refine ⟨F, fun s' j => if s' = st ∧ j = l then b else K s' j, e, h, nd.fr' rfl rfl rfl (fun c h1 h2 j _ => ?_), fn.fr rfl ?_, ?_, er.fr rfl ?_ rfl ?_, wk.fr' nd.1 rfl rfl rfl ?_ rfl rfl ?_ ?_ (fun c h1 h2 j _ => ?_), ?_, ct.up (by omega)⟩
        · rw [mm_pa_get, if_neg (by omega)]
        · funext j; rw [mm_pa_get, if_neg (by omega)]
        · intro s' hs'
          by_cases q : s' = st
          · subst q
            refine ⟨⟨stb m l b, hlt, by rw [cs_pa_get, if_pos rfl, if_pos rfl], fun j hj => ⟨?_, ?_⟩⟩, fun j => ?_⟩
            · rw [stb_bit hl hm, (m2 j hj).1]
              by_cases q : j = l <;> simp [q]
            · rw [mm_pa_get, if_pos rfl]
              by_cases q : j = l
              · rw [if_pos (by rw [q])]
                simp [q]
              · rw [if_neg (by omega), (m2 j hj).2]
                simp [q]
            · by_cases q : j = l
              · intro _
                rw [q]
                exact hmk
              · simp only [q, and_false, if_false]
                exact m5 j
          · obtain ⟨⟨m', n1, n2, n3⟩, n4⟩ := kp s' hs'
            refine ⟨⟨m', n1, by rw [cs_pa_get, if_pos rfl, if_neg q]; exact n2, fun j hj => ⟨?_, ?_⟩⟩, fun j => ?_⟩
            · rw [(n3 j hj).1]
              simp [q]
            · rw [mm_pa_get, if_pos rfl, if_neg (by omega), (n3 j hj).2]
              simp [q]
            · simp only [q, false_and, if_false]
              exact n4 j
        · show va_up σ.2.1 102 (upd (σ.2.1 102) st (nI (stb m l b))) 108 = _
          exact va_up_ne _ _ (by decide)
        · funext j; rw [mm_pa_get, if_neg (by omega)]
        · show va_up σ.2.1 102 (upd (σ.2.1 102) st (nI (stb m l b))) 116 = _
          exact va_up_ne _ _ (by decide)
        · funext j; rw [mm_pa_get, if_neg (by omega)]
        · funext j; rw [mm_pa_get, if_neg (by omega)]
        · rw [mm_pa_get, if_neg (by omega)]
        · exact sm.mk' (fun c hc => by funext j; rw [mm_pa_get, if_neg (by omega)]) rfl rfl (va_up_ne σ.2.1 (upd (σ.2.1 102) st (nI (stb m l b))) (show (107 : Nat) ≠ 102 by decide))
      have hm2 : ∀ (X Y : am_R mm_S), (if b2 (K st l) = b2 b then X else Y) = if K st l = b then X else Y := fun X Y => by
        cases K st l <;> cases b <;> rfl
      rw [if_neg b2t0, if_neg b2t0, am_ix_nI (by omega) (by omega), show ic 10 = nI 10 from rfl, nI_mulI, nI_add]
      cases b with
      | true =>
        rw [if_neg b2t0, am_ix_nI (by omega) (by omega), am_ix_nI (by omega) (by omega), jX1_keeps_58_46_eq, m1, m4, hm2, stb_t hl, hcs]
        split
        · rw [hmm]
          exact ⟨_, _, _, rfl, rfl, hrel⟩
        · rw [jX6_keeps_36_35_eq, hmm]
          exact ⟨_, _, _, rfl, rfl, hrel⟩
      | false =>
        rw [if_pos b2f0, am_ix_nI (by omega) (by omega), am_ix_nI (by omega) (by omega), m1, m4, hm2, stb_f hl, hcs]
        split
        · rw [hmm]
          exact ⟨_, _, _, rfl, rfl, hrel⟩
        · rw [jX6_keeps_36_35_eq, hmm]
          exact ⟨_, _, _, rfl, rfl, hrel⟩
/-- how many of the ten lowest bits are set -/
def pc : Nat → Nat → Nat
  | 0, _ => 0
  | n + 1, m => pc n m + bN (m.testBit n)
theorem pc_lt : ∀ n m, pc n m ≤ n
  | 0, _ => Nat.le_refl _
  | n + 1, m => by
    have := pc_lt n m
    unfold pc bN
    cases m.testBit n <;> simp <;> omega
theorem pc_dec : ∀ m, m < 1024 → m ≠ 0 → pc 10 (m &&& (m - 1)) + 1 = pc 10 m ∧ m &&& (m - 1) < 1024 := by decide +kernel
theorem cs_many {f : Nat} {σ : cs_S} {m : Nat} (hm : m < 1024) (hN : 10 ≤ N) : cs_call N (f + 1) 46 [.inl (.int (nI m))] (σ) = some (.inl (some (.inl (.int (nI (pc 10 m))))), σ) := by
  have hl : ∀ (n m v : Nat) (x : Int32), m < 1024 → pc 10 m ≤ n → jX1_many_4 (am_bk (cs_hop 1 (cs_call N f)) am_no (some .int) kX1_many n) (cs_call N f) σ x (nI v) (nI m) = some (.inl (some (.inl (.int (nI (v + pc 10 m))))), σ) := by
    intro n
    induction n with
    | zero =>
      intro m v x hm hp
      by_cases q : m = 0
      · subst q
        rw [jX1_many_4_eq, if_pos (by decide)]
        rfl
      · have := (pc_dec m hm q).1
        omega
    | succ n ih =>
      intro m v x hm hp
      by_cases q : m = 0
      · subst q
        rw [jX1_many_4_eq, if_pos (by decide)]
        rfl
      · obtain ⟨p1, p2⟩ := pc_dec m hm q
        have q' : ¬ nI m = 0 := fun h => q (by rwa [nI_eq0 (by omega)] at h)
        rw [jX1_many_4_eq, if_neg q', ic_v1, nI_subI (by omega), nI_and, nI_add, jX1_many_4_bk, ih _ _ _ p2 (by omega), ← p1]
        rw [show v + 1 + pc 10 (m &&& (m - 1)) = v + (pc 10 (m &&& (m - 1)) + 1) by omega]
  rw [dX1_many_eq]
  unfold dX1_many
  rw [ic_v0, hl N m 0 _ hm (Nat.le_trans (pc_lt 10 m) hN), Nat.zero_add]
theorem mm_functions {f : Nat} {μ : mm_S} {m : Nat} (hF : ∀ l, l < 10 → μ.2.1 7 l = b2 (m.testBit l)) (hN : 10 ≤ N) : mm_call N (f + 1) 73 [.inl (.ref 0)] (μ) = some (.inl (some (.inl (.int (nI (pc 10 m))))), μ) := by
  have hl : ∀ (j n : Nat), j ≤ 10 → jX6_functions_4 (am_bk (mm_hop (mm_call N f)) am_no (some .int) kX6_functions (n + j)) (mm_call N f) μ (nI (pc (10 - j) m)) (nI (10 - j)) = some (.inl (some (.inl (.int (nI (pc 10 m))))), μ) := by
    intro j
    induction j with
    | zero =>
      intro n _
      rw [jX6_functions_4_eq, if_pos (by decide)]
    | succ j ih =>
      intro n hj
      have e1 : pc (10 - j) m = pc (10 - (j + 1)) m + bN (m.testBit (10 - (j + 1))) := by
        rw [show 10 - j = 10 - (j + 1) + 1 by omega]
        rfl
      have ih := ih n (by omega)
      rw [e1, show 10 - j = 10 - (j + 1) + 1 by omega] at ih
      rw [jX6_functions_4_eq, show ic 10 = nI 10 from rfl, if_neg (nI_ge (by omega) (by omega)), am_ix_nI (by omega) (by omega), hF _ (by omega), ← Nat.add_assoc]
      cases q : m.testBit (10 - (j + 1)) with
      | false =>
        rw [q] at ih
        rw [if_pos b2f0, jX6_functions_25_eq, ic_v0, ic_v1, nI_add, nI_add, jX6_functions_4_bk]
        exact ih
      | true =>
        rw [q] at ih
        rw [if_neg b2t0, jX6_functions_25_24_eq, jX6_functions_25_eq, ic_v1, nI_add, nI_add, jX6_functions_4_bk]
        exact ih
  obtain ⟨n, rfl⟩ : ∃ n, N = n + 10 := ⟨N - 10, by omega⟩
  rw [dX6_functions_eq]
  unfold dX6_functions
  exact hl 10 n (by omega)
theorem op_count (hf : 150 ≤ f) (hN : 1000 ≤ N) (a : Int32) : opI SM FR N f 59 72 [.inl (.ref 0), .inl (.int (a))] := by
  intro c σ μ hR hc
  obtain ⟨F, K, e, h, nd, fn, kp, er, wk, sm, ct⟩ := id hR
  obtain ⟨f, rfl⟩ : ∃ f', f = f' + 20 := ⟨f - 20, by omega⟩
  obtain ⟨m, hm, m1, m2⟩ := fn
  rw [dX1_count_eq, dX6_count_eq]
  unfold dX1_count dX6_count
  by_cases a0 : a = 0
  · rw [if_pos a0, if_pos a0, cs_c200 rfl, am_ci_ok, nd.2.2.1]
    exact ⟨_, _, _, rfl, rfl, hR.up⟩
  · rw [if_neg a0, if_neg a0, ic_v1, ic_v2]
    by_cases a1 : a = nI 1
    · rw [if_pos a1, if_pos a1, er.2.1, er.2.2.1]
      exact ⟨_, _, _, rfl, rfl, hR.up⟩
    · rw [if_neg a1, if_neg a1]
      by_cases a2 : a = nI 2
      · rw [if_pos a2, if_pos a2, m1, cs_many hm (by omega), am_ci_ok, mm_functions (m := m) (fun l hl => by rw [(m2 l hl).1, (m2 l hl).2]) (by omega), am_ci_ok]
        exact ⟨_, _, _, rfl, rfl, hR.up⟩
      · rw [if_neg a2, if_neg a2]
        exact ⟨_, _, _, rfl, rfl, hR.up⟩
end
