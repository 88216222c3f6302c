set_option maxRecDepth 100000
/-! THE OPERATION fewest. -/
section
variable {SM : List Tr} {FR : Nat → Int32} {N : Nat}
theorem wsd_sz (g : Nat → Nat → Bool) : ∀ (t : Tr) (m b : Nat), (wsd g t m b).length ≤ 6 * tr_sz t
  | .leaf, _, _ => by simp [wsd]
  | .inner n k v x y, m, 0 => by simp only [wsd, tr_sz, List.length_singleton]; omega
  | .inner n k v x y, m, b + 1 => by
    have hx := wsd_sz g x (m + if mk k then 1 else 0) b
    have hy := wsd_sz g y ((m + if mk k then 1 else 0) + kc x) b
    have hd := dg_le v
    have hl := dgl_len v (dg v - 1)
    have h1 : ∀ w, (if mk k && g m k then [w] else ([] : List Nat)).length ≤ 1 := fun w => by split <;> simp
    have h29 := h1 29
    have h30 := h1 30
    simp only [wsd, tr_sz, List.length_append]
    generalize (if mk k && g m k then [29] else ([] : List Nat)).length = A at *
    generalize (if mk k && g m k then [30] else ([] : List Nat)).length = B at *
    by_cases k0 : k = 0
    · rw [if_pos k0]
      simp only [List.length_singleton]
      omega
    · rw [if_neg k0]
      by_cases k1 : k = 1
      · rw [if_pos k1]
        omega
      · rw [if_neg k1]
        by_cases k6 : k ≤ 6
        · rw [if_pos k6]
          simp only [List.length_append, List.length_singleton]
          omega
        · rw [if_neg k6]
          by_cases k7 : k = 7
          · rw [if_pos k7]
            simp only [List.length_append, List.length_singleton]
            omega
          · rw [if_neg k7]
            by_cases k8 : k = 8
            · rw [if_pos k8]
              simp only [List.length_append, List.length_singleton]
              omega
            · rw [if_neg k8]
              simp only [List.length_append, List.length_singleton]
              omega
theorem pc_8 : ∀ m, m < 256 → pc 10 m = pc 8 m := by decide +kernel
theorem mm_bits {f m : Nat} {μ : mm_S} (hm : m < 256) (hN : 8 ≤ N) : mm_call N (f + 1) 58 [.inl (.int (nI m))] (μ) = some (.inl (some (.inl (.int (nI (pc 10 m))))), μ) := by
  have hl : ∀ (j n : Nat), j ≤ 8 → jX6_bits_4 (am_bk (mm_hop (mm_call N f)) am_no (some .int) kX6_bits (n + j)) (mm_call N f) μ (nI m) (nI (pc (8 - j) m)) (nI (8 - j)) = some (.inl (some (.inl (.int (nI (pc 8 m))))), μ) := by
    intro j
    induction j with
    | zero =>
      intro n _
      rw [jX6_bits_4_eq, if_pos (by decide)]
    | succ j ih =>
      intro n hj
      have e1 : pc (8 - j) m = pc (8 - (j + 1)) m + bN (m.testBit (8 - (j + 1))) := by
        rw [show 8 - j = 8 - (j + 1) + 1 by omega]
        rfl
      have ih := ih n (by omega)
      rw [e1, show 8 - j = 8 - (j + 1) + 1 by omega] at ih
      have e2 : ∀ b : Bool, b2 b = nI (bN b) := fun b => by cases b <;> rfl
      rw [jX6_bits_4_eq, show ic 8 = nI 8 from rfl, if_neg (nI_ge (by omega) (by omega)), ic_v1, bit_nI (by omega) (by omega), e2, nI_add, nI_add, ← Nat.add_assoc, jX6_bits_4_bk]
      exact ih
  obtain ⟨n, rfl⟩ : ∃ n, N = n + 8 := ⟨N - 8, by omega⟩
  rw [dX6_bits_eq, pc_8 m hm]
  unfold dX6_bits
  exact hl 8 n (by omega)
/-- counted on both sides; nothing else changes -/
theorem Rel.count2 {c st f : Nat} {σ : cs_S} {μ : mm_S} (hR : Rel SM FR c σ μ) (hst : st ≤ 8) (hN : 20000 ≤ N) : ∃ r σ' μ', cs_call N (f + 6) 30 [.inl (.ref 0), .inl (.int (nI st))] (σ) = some (.inl (some (.inl (.long (r)))), σ') ∧ mm_call N (f + 6) 39 [.inl (.ref 0), .inl (.int (nI st))] (μ) = some (.inl (some (.inl (.long (r)))), μ') ∧ Rel SM FR c σ' μ' ∧ σ'.1 = (cs_pi σ 11 (nI st)).1 ∧ σ'.2.1 = σ.2.1 ∧ σ'.2.2.2 = σ.2.2.2 ∧ μ'.2.1 = μ.2.1 := by
  obtain ⟨V, h, hE, hM⟩ := hR.ev hst
  obtain ⟨σ', q1, q2, q3, q4⟩ := cs_listens (N := N) (f := f) hE (by omega)
  obtain ⟨μ', p1, p2, p3, p4⟩ := mm_counted (N := N) (f := f + 1) hM (by omega)
  refine ⟨_, σ', μ', q1, p1, ?_, q2.1, q2.2.1, q2.2.2, p2.2⟩
  refine hR.fr0 ⟨⟨by rw [q2.1]; rfl, by rw [q2.1]; rfl, by rw [q2.1]; rfl⟩, ⟨by rw [q2.2.1]; rfl, by rw [q2.2.1]; rfl, by rw [q2.2.1]; rfl, by rw [q2.2.1]; rfl⟩, by rw [q2.2.2]; rfl⟩ ⟨⟨by rw [p2.1]; rfl, by rw [p2.1]; rfl, by rw [p2.1]; rfl, by rw [p2.1]; rfl⟩, ⟨fun _ _ => by rw [p2.2]; rfl, by rw [p2.2]; rfl, by rw [p2.2]; rfl, by rw [p2.2]; rfl, by rw [p2.2]; rfl⟩, fun c _ _ j _ => by rw [p2.2]; rfl⟩
/-- one choice on both sides -/
theorem sure_step {c f way n i : Nat} {σ : cs_S} {μ : mm_S} (hR : Rel SM FR c σ μ) (hi : i < (cs_t σ 100).length) (hn : n ≤ 8) (hk : kc ((cs_t σ 100).getD i .leaf) = n) (hway : way < 256) (h12 : cs_i σ 12 = nI way) (hN : 20000 ≤ N) (hf : 100 ≤ f) :
    ∃ b σ' μ', cs_call N (f) 47 [.inl (.ref 0), .inr (((cs_t σ 100).getD i .leaf)), .inl (.int (nI n))] (σ) = some (.inl (some (.inl (.int (b2 b)))), σ') ∧ mm_call N (f) 59 [.inl (.ref 0), .inl (.int (nI i)), .inl (.int (nI way)), .inl (.int (nI n))] (μ) = some (.inl (some (.inl (.int (b2 b)))), μ') ∧ Rel SM FR c σ' μ' ∧ cs_i σ' 12 = nI way ∧ σ'.2.1 114 = σ.2.1 114 ∧ cs_t σ' = cs_t σ ∧ μ'.2.1 22 = μ.2.1 22 := by
  obtain ⟨F, K, e, h, nd, fn, kp, er, wk, sm, ct⟩ := id hR
  obtain ⟨a1, a2, a3, a4⟩ := nd.at hi
  have hdp := a1.dp
  have hsz := a1.2.2
  obtain ⟨f, rfl⟩ : ∃ f', f = f' + 20 := ⟨f - 20, by omega⟩
  have hlen := wsd_sz (fun m _ => way.testBit (n - 1 - m)) ((cs_t σ 100).getD i .leaf) 0 41
  have hle := wsd_le (fun m _ => way.testBit (n - 1 - m)) ((cs_t σ 100).getD i .leaf) 0 41 a1.2.1
  have hmd : mmd (fun m _ => way.testBit (n - 1 - m)) 0 n (mm_p (mm_p (mm_p (mm_p μ 18 (ic 0)) 19 (nI way)) 20 (ic 0)) 21 (nI n)) 0 := by
    refine ⟨fun k hk q => ?_, .inr ⟨way, by omega, rfl, rfl, by omega, rfl, fun k m' _ => rfl⟩⟩
    obtain ⟨⟨m, n1, n2, n3⟩, n4⟩ := kp 0 (by omega)
    show μ.2.1 8 (10 * 0 + k) = b2 false
    rw [(n3 k hk).2]
    cases q' : K 0 k with
    | false => rfl
    | true => rw [n4 k q'] at q; cases q
  have hmr : mr (mm_p (mm_p (mm_p (mm_p μ 18 (ic 0)) 19 (nI way)) 20 (ic 0)) 21 (nI n)) 0 120 ((cs_t σ 100).getD i .leaf) (nI i) := mr_of (μ := μ) (μ' := mm_p (mm_p (mm_p (mm_p μ 18 (ic 0)) 19 (nI way)) 20 (ic 0)) 21 (nI n)) (fun _ _ _ _ _ _ => rfl) _ _ a3
  obtain ⟨μ1, e1, m1, m2, -⟩ := mm_say (N := N) (g := fun m _ => way.testBit (n - 1 - m)) (st := 0) (n := n) (lo := 0) (hi := 120) (by omega) (by omega) (by omega) _ 0 41 [] _ _ (f + 19) hmr a1.2.1 a1.1 ⟨rfl, by simp, fun j hj => by simp at hj⟩ hmd (.inr (by omega)) (by omega) (by omega) (by rw [List.nil_append]; omega)
  rw [List.nil_append] at m1
  have hs := cs_isSure (N := N) (way := way) (n := n) (f := f + 18) (b := 41) (g := fun m _ => way.testBit (n - 1 - m)) (σ := σ) (by omega) (by omega) (fun k m _ => rfl) (by omega) a1 h12 (by omega) (by omega) (by omega)
  generalize hws : wsd (fun m _ => way.testBit (n - 1 - m)) ((cs_t σ 100).getD i .leaf) 0 41 = ws at *
  rw [dX6_isOnly_eq]
  unfold dX6_isOnly
  rw [ic_v0] at e1 ⊢
  rw [e1, am_cv_ok, show (mm_p μ1 19 (ic (-1))).1 18 = nI ws.length from m1.1, show ic 20 = nI 20 from rfl]
  have k0 : ∀ j, j ≠ 18 → j ≠ 19 → j ≠ 20 → j ≠ 21 → μ1.1 j = μ.1 j := fun j q1 q2 q3 q4 => by
    rw [m2.1 j q1 q3]
    show va_up (va_up (va_up (va_up μ.1 18 _) 19 _) 20 _) 21 _ j = _
    rw [va_up_ne _ _ q4, va_up_ne _ _ q3, va_up_ne _ _ q2, va_up_ne _ _ q1]
  have k1 : ∀ c, c ≠ 17 → μ1.2.1 c = μ.2.1 c := fun c q => m2.2.1 c q
  rcases hs with ⟨h20, σ1, s1, s2⟩ | ⟨h20, σ1, s1, s2, s3⟩
  · rw [s1, if_neg (nI_ge (by omega) (by omega))]
    refine ⟨false, σ1, mm_p μ1 19 (ic (-1)), rfl, rfl, ?_, (s2.1 12 (by omega) (by omega)).trans h12, s2.2.1 114 (by omega), by funext j; unfold cs_t; rw [s2.2.2], k1 22 (by omega)⟩
    refine hR.fr0 ⟨⟨s2.1 1 (by omega) (by omega), s2.1 9 (by omega) (by omega), s2.1 17 (by omega) (by omega)⟩, ⟨s2.2.1 102 (by omega), s2.2.1 107 (by omega), s2.2.1 108 (by omega), s2.2.1 116 (by omega)⟩, by rw [s2.2.2]⟩ ⟨⟨k0 0 (by omega) (by omega) (by omega) (by omega), k0 10 (by omega) (by omega) (by omega) (by omega), k0 30 (by omega) (by omega) (by omega) (by omega), k0 33 (by omega) (by omega) (by omega) (by omega)⟩, ⟨fun c hc => k1 c (by omega), k1 8 (by omega), k1 9 (by omega), k1 31 (by omega), k1 32 (by omega)⟩, fun c _ _ j _ => by rw [show (mm_p μ1 19 (ic (-1))).2.1 c = μ1.2.1 c from rfl, k1 c (by omega)]⟩
  · obtain ⟨μ2, e3, n1, n2, n3, n4⟩ := mm_hears (N := N) (f := f + 18) (μ := mm_p μ1 19 (ic (-1))) (ws := ws) ⟨m1.1, m1.2.1, m1.2.2⟩ h20 (by omega)
    rw [s3, if_pos (nI_le h20 (by omega)), e3, am_cv_ok]
    have hR1 : Rel SM FR c (cs_pi (cs_pf σ1 108 (va_cpy (σ1.2.1 123) (σ1.2.1 108) 0 0 ws.length)) 9 (nI ws.length)) μ2 := by
      refine hR.setE (e' := fun j => ws.getD j 0) (h' := ws.length) ⟨s2.1 1 (by omega) (by omega), s2.1 17 (by omega) (by omega), ?_, ?_, ?_, by rw [← s2.2.2]; rfl⟩ ⟨?_, ?_, ?_, fun c hc => ?_, ?_, ?_⟩ ⟨h20, rfl, n1, fun j hj => ⟨?_, ?_, ?_⟩⟩
      · exact (va_up_ne σ1.2.1 (va_cpy (σ1.2.1 123) (σ1.2.1 108) 0 0 ws.length) (show (102 : Nat) ≠ 108 by decide)).trans (s2.2.1 102 (by omega))
      · exact (va_up_ne σ1.2.1 (va_cpy (σ1.2.1 123) (σ1.2.1 108) 0 0 ws.length) (show (107 : Nat) ≠ 108 by decide)).trans (s2.2.1 107 (by omega))
      · exact (va_up_ne σ1.2.1 (va_cpy (σ1.2.1 123) (σ1.2.1 108) 0 0 ws.length) (show (116 : Nat) ≠ 108 by decide)).trans (s2.2.1 116 (by omega))
      · rw [n2 0 (by omega)]; exact k0 0 (by omega) (by omega) (by omega) (by omega)
      · rw [n2 30 (by omega)]; exact k0 30 (by omega) (by omega) (by omega) (by omega)
      · rw [n2 33 (by omega)]; exact k0 33 (by omega) (by omega) (by omega) (by omega)
      · rw [n3 c (by omega)]; exact k1 c (by omega)
      · rw [n3 31 (by omega)]; exact k1 31 (by omega)
      · rw [n3 32 (by omega)]; exact k1 32 (by omega)
      · exact hle _ (getD_mem _ hj)
      · show va_up σ1.2.1 108 (va_cpy (σ1.2.1 123) (σ1.2.1 108) 0 0 ws.length) 108 j = _
        rw [va_up_self]
        unfold va_cpy
        rw [if_pos ⟨by omega, by omega⟩, Nat.sub_zero, Nat.zero_add]
        exact s1.2.2 j hj
      · exact n4 j hj
    obtain ⟨r, σ', μ', q1, q2, q3, q4, q5, q6, q7⟩ := hR1.count2 (f := f + 13) (st := 8) (by omega) hN
    rw [show ic 8 = nI 8 from rfl, q1, am_cl_ok, q2, am_cl_ok]
    have z12 : cs_i σ' 12 = nI way := by
      unfold cs_i
      rw [q4]
      exact (s2.1 12 (by omega) (by omega)).trans h12
    have z114 : σ'.2.1 114 = σ.2.1 114 := by
      rw [q5]
      exact (va_up_ne σ1.2.1 (va_cpy (σ1.2.1 123) (σ1.2.1 108) 0 0 ws.length) (show (114 : Nat) ≠ 108 by decide)).trans (s2.2.1 114 (by omega))
    have zt : cs_t σ' = cs_t σ := by
      funext j
      unfold cs_t
      rw [q6, ← s2.2.2]
      rfl
    have z22 : μ'.2.1 22 = μ.2.1 22 := by
      rw [q7, n3 22 (by omega)]
      exact k1 22 (by omega)
    by_cases hr : lg_cmp r (lN 1) = 0
    · rw [if_pos hr, if_pos hr]
      exact ⟨true, σ', μ', rfl, rfl, q3, z12, z114, zt, z22⟩
    · rw [if_neg hr, if_neg hr]
      exact ⟨false, σ', μ', rfl, rfl, q3, z12, z114, zt, z22⟩
end
