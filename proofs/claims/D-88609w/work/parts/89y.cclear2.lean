set_option maxRecDepth 100000
/-! THE COMPONENT's clear. -/
section
variable {N f : Nat}
theorem all_ss {L : List Tr} (h : L.all tr_ss = true) : ∀ j, j < L.length → tr_ss (L.getD j .leaf) = true := fun j hj => by
  rw [List.getD_eq_getElem?_getD, List.getElem?_eq_getElem hj]
  exact List.all_eq_true.mp h _ (List.getElem_mem hj)
theorem scA_ss : scA.all tr_ss = true := by decide +kernel
theorem scB_ss : scB.all tr_ss = true := by decide +kernel
theorem scC_ss : scC.all tr_ss = true := by decide +kernel
theorem gq.set {σ0 σ : cs_S} {R : Nat → Int32} {L : List Tr} (h : gq σ0 R L σ) (i : Nat) (v : Int32) : gq σ0 (upd R i v) L (cs_pa σ 107 i v) := by
  obtain ⟨h1, h2, h3, h4⟩ := h
  refine ⟨h1, fun c hc => ?_, ?_, h4⟩
  · rw [← h2 c hc]
    exact va_up_ne σ.2.1 (upd (σ.2.1 107) i v) hc
  · show va_up σ.2.1 107 (upd (σ.2.1 107) i v) 107 = _
    rw [va_up_self, h3]
def gR (R : Nat → Int32) : Nat → Int32 := upd (upd (upd (upd R 2 (nI 2)) 3 (nI 8)) 4 (nI 46)) 5 (nI 280)
theorem gR_fr {R : Nat → Int32} (h : ∀ j, j < 6 → R j = 0) : ∀ j, j < 6 → gR R j = nI (sfr j) := by
  intro j hj
  unfold gR
  rcases (by omega : j = 0 ∨ j = 1 ∨ j = 2 ∨ j = 3 ∨ j = 4 ∨ j = 5) with rfl | rfl | rfl | rfl | rfl | rfl
  · rw [pk_un (by omega), pk_un (by omega), pk_un (by omega), pk_un (by omega), h 0 (by omega)]
    rfl
  · rw [pk_un (by omega), pk_un (by omega), pk_un (by omega), pk_un (by omega), h 1 (by omega)]
    rfl
  · rw [pk_un (by omega), pk_un (by omega), pk_un (by omega), pk_us]
    rfl
  · rw [pk_un (by omega), pk_un (by omega), pk_us]
    rfl
  · rw [pk_un (by omega), pk_us]
    rfl
  · rw [pk_us]
    rfl
theorem cs_grows {σ : cs_S} (h0 : cs_t σ 106 = []) (hc : (cs_c σ 106).1 = 0) (hz : ∀ j, j < 6 → σ.2.1 107 j = 0) (hN : 20000 ≤ N) : ∃ σ', cs_call N (f + 11) 21 [.inl (.ref 0)] (σ) = some (.inl none, σ') ∧ gq σ (gR (σ.2.1 107)) scD σ' := by
  obtain ⟨lA, lB, lC, lD⟩ := sc_len
  have hq0 : gq σ (σ.2.1 107) [] σ := ⟨rfl, fun _ _ => rfl, rfl, fun _ _ => ⟨rfl, rfl⟩, rfl, rfl, h0, ⟨by omega, .inl hc⟩, Nat.le_add_right _ _, by omega⟩
  rw [dX1_grows_eq]
  unfold dX1_grows
  rw [cs_c200 rfl, am_ci_ok, h0, if_pos (show nI ([] : List Tr).length ≤ 0 by decide)]
  have hm0 : cs_made (ic 0) (nI 0) (ic 0) .leaf .leaf = some (.inner 0 0 0 .leaf .leaf) := cs_made_ok (n := 0) (v := 0) (ic 0) (by omega) (by omega) trivial trivial (by decide) (by decide) (fun _ => ⟨rfl, by omega⟩) (fun q => absurd (.inl rfl) q) rfl rfl
  have hm1 : cs_made (ic 0) (nI 1) (ic 1) .leaf .leaf = some (.inner 0 1 1 .leaf .leaf) := cs_made_ok (n := 0) (v := 1) (ic 1) (by omega) (by omega) trivial trivial (by decide) (by decide) (fun _ => ⟨rfl, by omega⟩) (fun q => absurd (.inr (.inl rfl)) q) rfl rfl
  have q1 := hq0.add (t := .inner 0 0 0 .leaf .leaf) (by decide)
  have q2 := q1.add (t := .inner 0 1 1 .leaf .leaf) (by decide)
  have r1 := hq0.mkadd (N := N) (f := f) (kont := fun r80 s79 => am_ct (cs_call N (f + 10) 205 [.inl (.int (ic 0)), .inl (.int (ic 1)), .inr .leaf, .inr .leaf, .inl (.int (ic 1))] s79) am_tx fun r82 s81 => am_ci (cs_call N (f + 10) 202 [.inl (.ref 106), .inr r82] s81) am_tx fun r84 s83 => jX1_grows_43 (am_bk (cs_hop 1 (cs_call N (f + 10))) am_no none kX1_grows N) (cs_call N (f + 10)) s83) (by decide) hm0 (by omega)
  have r2 := q1.mkadd (N := N) (f := f) (kont := fun r84 s83 => jX1_grows_43 (am_bk (cs_hop 1 (cs_call N (f + 10))) am_no none kX1_grows N) (cs_call N (f + 10)) s83) (by decide) hm1 (by omega)
  suffices hs : ∃ σ', jX1_grows_43 (am_bk (cs_hop 1 (cs_call N (f + 10))) am_no none kX1_grows N) (cs_call N (f + 10)) (cs_add (cs_mk (cs_add (cs_mk σ 1 (cs_nf (tr_k (.inner 0 0 0 .leaf .leaf)))) 106 (.inner 0 0 0 .leaf .leaf)) 1 (cs_nf (tr_k (.inner 0 1 1 .leaf .leaf)))) 106 (.inner 0 1 1 .leaf .leaf)) = some (.inl none, σ') ∧ gq σ (gR (σ.2.1 107)) scD σ' by
    obtain ⟨σ', e, g⟩ := hs
    exact ⟨σ', r1.trans (r2.trans e), g⟩
  have q2 : gq σ (σ.2.1 107) scA _ := q2
  generalize cs_add (cs_mk (cs_add (cs_mk σ 1 (cs_nf (tr_k (.inner 0 0 0 .leaf .leaf)))) 106 (.inner 0 0 0 .leaf .leaf)) 1 (cs_nf (tr_k (.inner 0 1 1 .leaf .leaf)))) 106 (.inner 0 1 1 .leaf .leaf) = σ2 at q2 ⊢
  clear r1 r2 q1 hq0
  generalize hR0 : σ.2.1 107 = R0 at q2 hz ⊢
  have z0 : R0 0 = nI 0 := (hz 0 (by omega)).trans nI_0.symm
  have z1 : R0 1 = nI 0 := (hz 1 (by omega)).trans nI_0.symm
  -- the sizes' ends
  have hend : ∀ (sz le m : Nat) (R : Nat → Int32) (L : List Tr) (σ3 : cs_S) (o3 o4 o5 : Option am_V), sz ≤ 4 → 1 ≤ sz → sz ≤ le + 1 → le ≤ 5 → gq σ R L σ3 → 1 ≤ m →
      (∀ (o2 o3 o4 o5 : Option am_V) (σ4 : cs_S), gq σ (upd R (sz + 1) (nI L.length)) L σ4 → ∃ σ', jX1_grows_52 (am_bk (cs_hop 1 (cs_call N (f + 10))) am_no none kX1_grows (m - 1)) (cs_call N (f + 10)) σ4 (nI (sz + 1)) o2 o3 o4 o5 = some (.inl none, σ') ∧ gq σ (gR R0) scD σ') →
      ∃ σ', jX1_grows_126 (am_bk (cs_hop 1 (cs_call N (f + 10))) am_no none kX1_grows m) (cs_call N (f + 10)) σ3 (nI sz) (nI le) o3 o4 o5 = some (.inl none, σ') ∧ gq σ (gR R0) scD σ' := by
    intro sz le m R L σ3 o3 o4 o5 h1 h2 h3 h4 hq hm hk
    obtain ⟨m, rfl⟩ : ∃ x, m = x + 1 := ⟨m - 1, by omega⟩
    rw [jX1_grows_126_eq, ic_v1, nI_subI h2, if_pos (nI_le (by omega) (by omega)), cs_c200 rfl, am_ci_ok, hq.2.2.2.2.2.2.1, nI_add, am_ix_nI (by omega) (by omega), jX1_grows_52_bk]
    exact hk _ _ _ _ _ (hq.set (sz + 1) (nI L.length))
  rw [jX1_grows_43_eq, ic_v2, am_ix_nI (by omega) (by omega)]
  -- size 2
  have q3 := q2.set 2 (nI 2)
  generalize cs_pa σ2 107 2 (nI 2) = σ3 at q3 ⊢
  rw [jX1_grows_52_eq, show ic 4 = nI 4 from rfl, if_neg (nI_nlt (by omega) (by omega)), ic_v1, nI_subI (by omega), am_ix_nI (by omega) (by omega), show cs_a σ3 107 (2 - 1) = nI 0 by unfold cs_a; rw [q3.2.2.1, pk_un (by omega)]; exact z1]
  refine cg_66 (P := fun r => ∃ σ', r = some (.inl none, σ') ∧ gq σ (gR R0) scD σ') (all_ss scA_ss) (K := 19000) (sz := 2) (hi := 2) (by omega) pk_us (by omega) (by omega) 2 0 [] σ3 N none none none (by omega) (by omega) (by rw [List.append_nil]; exact q3) (by rw [List.nil_append]; show scB.length ≤ 280; omega) (fun m' σ4 o3 o4 o5 hm' q4 => ?_)
  rw [List.nil_append] at q4
  have q4 : gq σ (upd R0 2 (nI 2)) scB σ4 := q4
  refine hend 2 1 m' _ _ σ4 o3 o4 o5 (by omega) (by omega) (by omega) (by omega) q4 (by omega) (fun o2 o3 o4 o5 σ5 q5 => ?_)
  rw [lB] at q5
  -- size 3
  rw [jX1_grows_52_eq, show ic 4 = nI 4 from rfl, if_neg (nI_nlt (by omega) (by omega)), ic_v1, nI_subI (by omega), am_ix_nI (by omega) (by omega), show cs_a σ5 107 (2 + 1 - 1) = nI 2 by unfold cs_a; rw [q5.2.2.1, pk_un (by omega), pk_us]]
  refine cg_66 (P := fun r => ∃ σ', r = some (.inl none, σ') ∧ gq σ (gR R0) scD σ') (all_ss scB_ss) (K := 18000) (sz := 3) (hi := 8) (by omega) pk_us (by omega) (by omega) 6 2 [] σ5 (m' - 1) _ _ _ (by omega) (by omega) (by rw [List.append_nil]; exact q5) (by rw [List.nil_append]; exact Nat.le_trans (show (scB ++ sg1 scB 2 6).length ≤ scC.length by decide +kernel) (by omega)) (fun m' σ6 o3 o4 o5 hm' q6 => ?_)
  rw [jX1_grows_126_eq, ic_v1, nI_subI (by omega), if_neg (nI_ge (by omega) (by omega)), am_ix_nI (by omega) (by omega), show cs_a σ6 107 1 = nI 0 by unfold cs_a; rw [q6.2.2.1, pk_un (by omega), pk_un (by omega)]; exact z1]
  refine cg_140 (P := fun r => ∃ σ', r = some (.inl none, σ') ∧ gq σ (gR R0) scD σ') (all_ss scB_ss) (K := 17000) (sz := 3) (le := 1) (b0 := 0) (nb := 2) (hi := 2) (by omega) (by omega) (by rw [pk_un (by omega), pk_us]) (by rw [pk_un (by omega), pk_un (by omega)]; exact z1) (by rw [pk_un (by omega), pk_us]) (by omega) (by omega) (by omega) 2 0 ([] ++ sg1 scB 2 6) σ6 m' _ _ (by omega) (by omega) q6 (by rw [List.nil_append]; exact Nat.le_trans (show (scB ++ (sg1 scB 2 6 ++ sg2 scB 0 2 0 2)).length ≤ scC.length by decide +kernel) (by omega)) (fun m' σ7 o3 o4 o5 hm' q7 => ?_)
  rw [List.nil_append, ← List.append_assoc] at q7
  have q7 : gq σ _ scC σ7 := q7
  refine hend 3 2 m' _ _ σ7 o3 o4 o5 (by omega) (by omega) (by omega) (by omega) q7 (by omega) (fun o2 o3 o4 o5 σ8 q8 => ?_)
  rw [lC] at q8
  -- size 4
  rw [jX1_grows_52_eq, show ic 4 = nI 4 from rfl, if_neg (nI_nlt (by omega) (by omega)), ic_v1, nI_subI (by omega), am_ix_nI (by omega) (by omega), show cs_a σ8 107 (3 + 1 - 1) = nI 8 by unfold cs_a; rw [q8.2.2.1, pk_un (by omega), pk_us]]
  have w1 : upd (upd (upd R0 2 (nI 2)) (2 + 1) (nI 8)) (3 + 1) (nI 46) 1 = nI 0 := by rw [pk_un (by omega), pk_un (by omega), pk_un (by omega)]; exact z1
  have w2 : upd (upd (upd R0 2 (nI 2)) (2 + 1) (nI 8)) (3 + 1) (nI 46) 2 = nI 2 := by rw [pk_un (by omega), pk_un (by omega), pk_us]
  have w3 : upd (upd (upd R0 2 (nI 2)) (2 + 1) (nI 8)) (3 + 1) (nI 46) 3 = nI 8 := by rw [pk_un (by omega), pk_us]
  refine cg_66 (P := fun r => ∃ σ', r = some (.inl none, σ') ∧ gq σ (gR R0) scD σ') (all_ss scC_ss) (K := 16000) (sz := 4) (hi := 46) (by omega) pk_us (by omega) (by omega) 38 8 [] σ8 (m' - 1) _ _ _ (by omega) (by omega) (by rw [List.append_nil]; exact q8) (by rw [List.nil_append]; exact Nat.le_trans (show (scC ++ sg1 scC 8 38).length ≤ scD.length by decide +kernel) (by omega)) (fun m' σ9 o3 o4 o5 hm' q9 => ?_)
  rw [jX1_grows_126_eq, ic_v1, nI_subI (by omega), if_neg (nI_ge (by omega) (by omega)), am_ix_nI (by omega) (by omega), show cs_a σ9 107 1 = nI 0 by unfold cs_a; rw [q9.2.2.1]; exact w1]
  refine cg_140 (P := fun r => ∃ σ', r = some (.inl none, σ') ∧ gq σ (gR R0) scD σ') (all_ss scC_ss) (K := 15000) (sz := 4) (le := 1) (b0 := 2) (nb := 6) (hi := 2) (by omega) (by omega) w3 w2 w2 (by omega) (by omega) (by omega) 2 0 ([] ++ sg1 scC 8 38) σ9 m' _ _ (by omega) (by omega) q9 (by rw [List.nil_append]; exact Nat.le_trans (show (scC ++ (sg1 scC 8 38 ++ sg2 scC 0 2 2 6)).length ≤ scD.length by decide +kernel) (by omega)) (fun m' σa o3 o4 o5 hm' qa => ?_)
  rw [jX1_grows_126_eq, ic_v1, nI_subI (by omega), if_neg (nI_ge (by omega) (by omega)), am_ix_nI (by omega) (by omega), show cs_a σa 107 (1 + 1) = nI 2 by unfold cs_a; rw [qa.2.2.1]; exact w2]
  refine cg_140 (P := fun r => ∃ σ', r = some (.inl none, σ') ∧ gq σ (gR R0) scD σ') (all_ss scC_ss) (K := 14000) (sz := 4) (le := 2) (b0 := 0) (nb := 2) (hi := 8) (by omega) (by omega) w2 w1 w3 (by omega) (by omega) (by omega) 6 2 ([] ++ sg1 scC 8 38 ++ sg2 scC 0 2 2 6) σa m' _ _ (by omega) (by omega) qa (by rw [List.nil_append]; exact Nat.le_trans (show (scC ++ (sg1 scC 8 38 ++ sg2 scC 0 2 2 6 ++ sg2 scC 2 6 0 2)).length ≤ scD.length by decide +kernel) (by omega)) (fun m' σb o3 o4 o5 hm' qb => ?_)
  rw [List.nil_append, ← List.append_assoc, ← List.append_assoc] at qb
  have qb : gq σ _ scD σb := qb
  refine hend 4 3 m' _ _ σb o3 o4 o5 (by omega) (by omega) (by omega) (by omega) qb (by omega) (fun o2 o3 o4 o5 σc qc => ?_)
  rw [lD] at qc
  rw [jX1_grows_52_eq, show ic 4 = nI 4 from rfl, if_pos (nI_lt (by omega) (by omega))]
  exact ⟨σc, rfl, qc⟩
def cs_k2 (σ σ' : cs_S) : Prop := (∀ j, j ≠ 103 → j ≠ 104 → j ≠ 105 → j ≠ 125 → σ'.1 j = σ.1 j) ∧ (∀ c, c ≠ 123 → c ≠ 124 → σ'.2.1 c = σ.2.1 c) ∧ σ'.2.2 = σ.2.2
theorem cs_k2.rf (σ : cs_S) : cs_k2 σ σ := ⟨fun _ _ _ _ _ => rfl, fun _ _ _ => rfl, rfl⟩
theorem cs_k2.tr {σ σ' σ'' : cs_S} (a : cs_k2 σ σ') (b : cs_k2 σ' σ'') : cs_k2 σ σ'' := ⟨fun j q1 q2 q3 q4 => (b.1 j q1 q2 q3 q4).trans (a.1 j q1 q2 q3 q4), fun c q1 q2 => (b.2.1 c q1 q2).trans (a.2.1 c q1 q2), b.2.2.trans a.2.2⟩
theorem cs_k2.same {σ σ' : cs_S} (a : cs_k2 σ σ') : cs_same σ σ' :=
  ⟨⟨a.1 1 (by omega) (by omega) (by omega) (by omega), a.1 9 (by omega) (by omega) (by omega) (by omega), a.1 17 (by omega) (by omega) (by omega) (by omega)⟩, ⟨a.2.1 102 (by omega) (by omega), a.2.1 107 (by omega) (by omega), a.2.1 108 (by omega) (by omega), a.2.1 116 (by omega) (by omega)⟩, by rw [a.2.2]⟩
/-- one of them is said -/
theorem cc_say {w st j : Nat} {K : Nat → Nat → Bool} {σ : cs_S} {μ : mm_S} (hw : w = 103 ∨ w = 104) (hN : 5 ≤ N) (kp : cm_kp K σ μ) (hst : st < 8) (hf : 100 ≤ f) (hj : j < 280) :
    ∃ σ' b, cs_call N (f) 16 [.inl (.ref 0), .inl (.ref w), .inr ((scD.getD j .leaf)), .inl (.int (nI st)), .inl (.int (nI 40))] (σ) = some (.inl (some (.inl (.int (b)))), σ') ∧ cw_ σ' w (wsd (fun _ k => K st k) (scD.getD j .leaf) 0 41) ∧ cs_k2 σ σ' ∧ (w = 104 → cs_i σ' 103 = cs_i σ 103 ∧ σ'.2.1 123 = σ.2.1 123) := by
  have hl := sc_len.2.2.2
  obtain ⟨t1, t2, t3⟩ := tr_ss_ok (all_ss sc_ss j (by omega))
  obtain ⟨σ', b, e, hb, hcw, f1, f2, f3⟩ := cs_says2 (N := N) (f := f) (w := w) (D := 40) hw hN kp hst (by omega) t1 hf
  have hlen := wsd_glen _ (kp st hst).2 (scD.getD j .leaf) 0 (40 + 1) t1.2.1
  have h16 := t3 (fun _ k => K st k) 0 (40 + 1)
  have hb : b = true := by rw [hb]; exact decide_eq_true (by omega)
  refine ⟨σ', _, e, hcw hb, ⟨fun j q1 q2 q3 q4 => f1 j (by omega) q3 q4, fun c q1 q2 => f2 c (by omega), f3⟩, fun q => ⟨f1 103 (by omega) (by omega) (by omega), f2 123 (by omega)⟩⟩
theorem cc_27 {st n F : Nat} {K : Nat → Nat → Bool} {μ : mm_S} {σ0 : cs_S} (hst : st < 8) (hn : n ≤ 4) (kp : cm_kp K σ0 μ) (h106 : cs_t σ0 106 = scD) (h107 : cs_a σ0 107 (n + 1) = nI F) (hF : F ≤ 280) (hN : 1000 ≤ N) (hf : 100 ≤ f) :
    ∀ (q a m : Nat) (σ : cs_S) (o4 o5 o6 : Option am_V), a + q = F → (F + 1) * q ≤ m → cs_k2 σ0 σ → (∀ a', a' < a → ∀ b', b' < a' → wsd (fun _ k => K st k) (scD.getD a' .leaf) 0 41 ≠ wsd (fun _ k => K st k) (scD.getD b' .leaf) 0 41) →
      ∃ σ', jX1_clear_27 (am_bk (cs_hop 1 (cs_call N (f + 10))) am_no (some .int) kX1_clear m) (cs_call N (f + 10)) σ (nI st) (nI n) (nI a) o4 o5 o6 = some (.inl (some (.inl (.int ((if ∀ a', a' < F → ∀ b', b' < a' → wsd (fun _ k => K st k) (scD.getD a' .leaf) 0 41 ≠ wsd (fun _ k => K st k) (scD.getD b' .leaf) 0 41 then ic 1 else ic 0))))), σ') ∧ cs_k2 σ0 σ' := by
  have hl := sc_len.2.2.2
  have h107' : ∀ σ, cs_k2 σ0 σ → cs_a σ 107 (n + 1) = nI F := fun σ h => by unfold cs_a; rw [h.2.1 107 (by omega) (by omega)]; exact h107
  have h106' : ∀ σ, cs_k2 σ0 σ → cs_t σ 106 = scD := fun σ h => by unfold cs_t; rw [h.2.2]; exact h106
  have kp' : ∀ σ, cs_k2 σ0 σ → cm_kp K σ μ := fun σ h => kp.fr (h.2.1 102 (by omega) (by omega)) rfl
  have hget : ∀ σ, cs_k2 σ0 σ → ∀ j, j < 280 → cs_call N (f + 10) 201 [.inl (.ref 106), .inl (.int (nI j))] (σ) = some (.inl (some (.inr (scD.getD j .leaf))), σ) := fun σ h j hj => by
    have e := h106' σ h
    rw [cs_c201 rfl (by rw [e]; omega) (by rw [e]; omega), e]
  have hnd : ∀ j, j < 280 → tr_nd (scD.getD j .leaf) = true := fun j hj => by
    obtain ⟨t1, -, -⟩ := tr_ss_ok (all_ss sc_ss j (by omega))
    exact tr_nd_wf t1.2.1 t1.1
  intro q
  induction q with
  | zero =>
    intro a m σ o4 o5 o6 ha hm h hp
    obtain rfl : a = F := by omega
    rw [jX1_clear_27_eq, ic_v1, nI_add, am_ix_nI (by omega) (by omega), h107' σ h, if_pos (nI_le (Nat.le_refl _) (by omega)), if_pos hp]
    exact ⟨σ, rfl, h⟩
  | succ q ih =>
    intro a m σ o4 o5 o6 ha hm h hp
    obtain ⟨σ1, b1, e1, c1, k1', -⟩ := cc_say (N := N) (f := f + 10) (w := 103) (j := a) (.inl rfl) (by omega) (kp' σ h) hst (by omega) (by omega)
    rw [jX1_clear_27_eq, ic_v1, nI_add, am_ix_nI (by omega) (by omega), h107' σ h, if_neg (nI_ge (by omega) (by omega)), hget σ h a (by omega), am_ct_ok, hnd a (by omega), cond_true, show ic 40 = nI 40 from rfl, e1, am_ci_ok, ic_v0]
    rw [Nat.mul_succ] at hm
    have hin : ∀ (p b m' : Nat) (σ2 : cs_S) (o6 : Option am_V), b + p = a → (F + 1) * q + 1 + p ≤ m' → cs_k2 σ0 σ2 → cw_ σ2 103 (wsd (fun _ k => K st k) (scD.getD a .leaf) 0 41) → (∀ b', b' < b → wsd (fun _ k => K st k) (scD.getD a .leaf) 0 41 ≠ wsd (fun _ k => K st k) (scD.getD b' .leaf) 0 41) →
        ∃ σ', jX1_clear_66 (am_bk (cs_hop 1 (cs_call N (f + 10))) am_no (some .int) kX1_clear m') (cs_call N (f + 10)) σ2 (nI st) (nI n) (nI a) b1 (nI b) o6 = some (.inl (some (.inl (.int ((if ∀ a', a' < F → ∀ b', b' < a' → wsd (fun _ k => K st k) (scD.getD a' .leaf) 0 41 ≠ wsd (fun _ k => K st k) (scD.getD b' .leaf) 0 41 then ic 1 else ic 0))))), σ') ∧ cs_k2 σ0 σ' := by
      intro p
      induction p with
      | zero =>
        intro b m' σ2 o6 hb hm' h2 hcw hpb
        obtain rfl : b = a := by omega
        obtain ⟨m', rfl⟩ : ∃ x, m' = x + 1 := ⟨m' - 1, by omega⟩
        rw [jX1_clear_66_eq, if_pos (nI_le (Nat.le_refl _) (by omega)), ic_v1, nI_add, jX1_clear_27_bk]
        refine ih (b + 1) m' σ2 _ _ _ (by omega) (by omega) h2 (fun a' ha' b' hb' => ?_)
        by_cases e : a' = b
        · subst e
          exact hpb b' hb'
        · exact hp a' (by omega) b' hb'
      | succ p ihp =>
        intro b m' σ2 o6 hb hm' h2 hcw hpb
        obtain ⟨m', rfl⟩ : ∃ x, m' = x + 1 := ⟨m' - 1, by omega⟩
        obtain ⟨σ3, b3, e3, c3, k3, g3⟩ := cc_say (N := N) (f := f + 10) (w := 104) (j := b) (.inr rfl) (by omega) (kp' σ2 h2) hst (by omega) (by omega)
        obtain ⟨g4, g5⟩ := g3 rfl
        obtain ⟨t1, -, -⟩ := tr_ss_ok (all_ss sc_ss a (by omega))
        obtain ⟨u1, -, -⟩ := tr_ss_ok (all_ss sc_ss b (by omega))
        have hcw3 : cw_ σ3 103 (wsd (fun _ k => K st k) (scD.getD a .leaf) 0 41) := ⟨g4.trans hcw.1, hcw.2.1, fun j hj => by
          show σ3.2.1 123 j = _
          rw [g5]
          exact hcw.2.2 j hj⟩
        rw [jX1_clear_66_eq, if_neg (nI_ge (by omega) (by omega)), hget σ2 h2 b (by omega), am_ct_ok, hnd b (by omega), cond_true, show ic 40 = nI 40 from rfl, e3, am_ci_ok, cs_isAs hcw3 c3 (wsd_le _ _ 0 41 t1.2.1) (wsd_le _ _ 0 41 u1.2.1) (by omega), am_ci_ok]
        by_cases e : wsd (fun _ k => K st k) (scD.getD a .leaf) 0 41 = wsd (fun _ k => K st k) (scD.getD b .leaf) 0 41
        · rw [decide_eq_true e, if_neg b2t0, if_neg (fun q' => q' a (by omega) b (by omega) e)]
          exact ⟨σ3, rfl, h2.tr k3⟩
        · rw [decide_eq_false e, if_pos b2f0, ic_v1, nI_add, jX1_clear_66_bk]
          refine ihp (b + 1) m' σ3 _ (by omega) (by omega) (h2.tr k3) hcw3 (fun b' hb' => ?_)
          by_cases e' : b' = b
          · rw [e']
            exact e
          · exact hpb b' (by omega)
    exact hin a 0 m σ1 _ (by omega) (by omega) (h.tr k1') c1 (fun b' hb' => by omega)
end
/-! THE OPERATION clear. -/
section
variable {N f : Nat} {FR : Nat → Int32}
theorem op_clear (hFR : ∀ j, j < 6 → FR j = nI (sfr j)) (hf : 150 ≤ f) (hN : 100000 ≤ N) (a x : Int32) : opI scD FR N f 20 29 [.inl (.ref 0), .inl (.int (a)), .inl (.int (x))] := by
  intro c σ μ hR hc
  obtain ⟨F, K, e, h, nd, fn, kp, er, wk, sm, ct⟩ := id hR
  obtain ⟨f, rfl⟩ : ∃ f', f = f' + 20 := ⟨f - 20, by omega⟩
  rw [dX1_clear_eq, dX6_clear_eq]
  unfold dX1_clear dX6_clear
  rw [cs_isStyle, am_ci_ok, mm_isStyle, am_ci_ok]
  cases h1 : inR 0 7 a with
  | false =>
    rw [if_pos b2f0, if_pos b2f0]
    exact ⟨_, σ, μ, rfl, rfl, hR.up⟩
  | true =>
    obtain ⟨st, -, hst, rfl⟩ := inR_t (by omega) (by omega) h1
    rw [if_neg b2t0, if_neg b2t0, cs_inR 1 4 x σ (by decide) (by decide), am_ci_ok, mm_inR 1 4 x μ (by decide) (by decide), am_ci_ok]
    cases h2 : inR 1 4 x with
    | false =>
      rw [if_pos b2f0, if_pos b2f0]
      exact ⟨_, σ, μ, rfl, rfl, hR.up⟩
    | true =>
      obtain ⟨n, hn1, hn, rfl⟩ := inR_t (by omega) (by omega) h2
      obtain ⟨pm, pl, pF⟩ := sm_perm hn1 hn
      rw [if_neg b2t0, if_neg b2t0]
      -- the component's side
      have hC : ∃ σ1, cs_call N (f + 19) 21 [.inl (.ref 0)] (σ) = some (.inl none, σ1) ∧ Rel scD FR (c + 1) σ1 μ ∧ cs_t σ1 106 = scD ∧ cs_a σ1 107 (n + 1) = nI (sfr (n + 1)) ∧ cm_kp K σ1 μ := by
        rcases sm.2 with ⟨s1, s2, s3⟩ | ⟨s1, s2, s3⟩
        · obtain ⟨σ1, e1, g1, g2, g3, g4, g5, g6, g7, ⟨g8, -⟩, g9, g0⟩ := cs_grows (N := N) (f := f + 8) s1 s2 s3 (by omega)
          have hfr := gR_fr s3
          have kp1 : cm_kp K σ1 μ := kp.fr (g2 102 (by omega)) rfl
          refine ⟨σ1, e1, ⟨F, K, e, h, nd.fr' (g4 100 (by omega)).1 (g4 100 (by omega)).2 rfl (fun _ _ _ _ _ => rfl), fn.fr (by rw [g1]) rfl, kp1, er.fr (by rw [g1]) (g2 108 (by omega)) rfl rfl, wk.fr' nd.1 (g4 100 (by omega)).1 g5 (by rw [g1]) (g2 116 (by omega)) rfl rfl rfl rfl (fun _ _ _ _ _ => rfl), ⟨sm.1, .inr ⟨g7, g8, fun j hj => ?_⟩⟩, ?_⟩, g7, ?_, kp1⟩
          · unfold cs_a
            rw [g3, hFR j hj]
            exact hfr j hj
          · obtain ⟨c1, c2, c3⟩ := ct
            rw [sc_len.2.2.2] at g9 g0
            exact ⟨by rw [g6]; omega, by omega, by omega⟩
          · unfold cs_a
            rw [g3]
            exact hfr (n + 1) (by omega)
        · refine ⟨σ, ?_, hR.up, s1, (s3 (n + 1) (by omega)).trans (hFR (n + 1) (by omega)), kp⟩
          rw [dX1_grows_eq]
          unfold dX1_grows
          rw [cs_c200 rfl, am_ci_ok, s1, sc_len.2.2.2, if_neg (by decide)]
      obtain ⟨σ1, e1, hR1, ht1, hf1, kp1⟩ := hC
      have hm1 : (sfr (n + 1) + 1) * sfr (n + 1) ≤ N := Nat.le_trans (Nat.mul_le_mul (show sfr (n + 1) + 1 ≤ 281 by omega) pF) (by omega)
      obtain ⟨σ2, e2, k2'⟩ := cc_27 (N := N) (f := f + 9) (n := n) (st := st) (by omega) hn kp1 ht1 hf1 pF (by omega) (by omega) (sfr (n + 1)) 0 N σ1 none none none (by omega) hm1 (cs_k2.rf σ1) (fun a' h' => by omega)
      rw [e1, am_cv_ok, ic_v0, e2]
      -- the model's side
      have hK : ∀ (μ' : mm_S), μ'.2.1 8 = μ.2.1 8 → ∀ k, k < 10 → μ'.2.1 8 (10 * st + k) = b2 (K st k) := fun μ' q k hk => by
        rw [q]
        exact (kp st (by omega)).1.elim fun m q => (q.2.2 k hk).2
      have m0 : msm (mm_p μ 23 (ic 0)) [] := ⟨rfl, by decide, fun j hj => by simp at hj⟩
      obtain ⟨μ1, d1, p1, r1⟩ := mm_adds (N := N) (f := f + 17) (k := 0) (v := 0) (tx := .leaf) (ty := .leaf) (x := ic (-2)) (y := ic (-2)) m0 (by decide) (mr_nil _ _ _) (mr_nil _ _ _) (by decide) (by decide)
      obtain ⟨μ2, d2, p2, r2⟩ := mm_adds (N := N) (f := f + 17) (k := 1) (v := 1) (tx := .leaf) (ty := .leaf) (x := ic (-2)) (y := ic (-2)) p1 (by decide) (mr_nil _ _ _) (mr_nil _ _ _) (by decide) (by decide)
      have p2 : msm μ2 (smM 0) := p2
      have k0 : mm_kl μ μ2 := (show mm_kl μ (mm_p μ 23 (ic 0)) from ⟨fun j _ _ _ q => by rw [mm_p_get, if_neg q], fun _ _ _ _ _ => rfl, fun _ _ _ _ _ => rfl⟩).tr (r1.kl.tr r2.kl)
      have d1 : mm_call N (f + 19) 30 [.inl (.ref 0), .inl (.int (nI 0)), .inl (.int (nI 0)), .inl (.int (ic (-2))), .inl (.int (ic (-2)))] (mm_p μ 23 (nI 0)) = some (.inl none, μ1) := d1
      have d2 : mm_call N (f + 19) 30 [.inl (.ref 0), .inl (.int (ic 1)), .inl (.int (ic 1)), .inl (.int (ic (-2))), .inl (.int (ic (-2)))] (μ1) = some (.inl none, μ2) := d2
      rw [d1, am_cv_ok, d2, am_cv_ok, ic_v2]
      have hgrow : ∀ (q k m : Nat) (μ3 : mm_S), k + q = n → 1 ≤ k → 90000 + q ≤ m → msm μ3 (smM (k - 1)) → mm_kl μ μ3 → ∃ μ' m', jX6_clear_48 (am_bk (mm_hop (mm_call N (f + 19))) am_no (some .int) kX6_clear m) (mm_call N (f + 19)) μ3 (nI st) (nI n) (nI (k + 1)) = jX6_clear_66 (am_bk (mm_hop (mm_call N (f + 19))) am_no (some .int) kX6_clear m') (mm_call N (f + 19)) μ' (nI st) (nI n) (nI 0) none ∧ 90000 ≤ m' ∧ msm μ' (smM (n - 1)) ∧ mm_kl μ μ' := by
        intro q
        induction q with
        | zero =>
          intro k m μ3 hk h1 hm g1 g2
          obtain rfl : k = n := by omega
          rw [jX6_clear_48_eq, if_pos (nI_lt (by omega) (by omega)), ic_v0]
          exact ⟨μ3, m, rfl, by omega, g1, g2⟩
        | succ q ih =>
          intro k m μ3 hk h1 hm g1 g2
          obtain ⟨m, rfl⟩ : ∃ x, m = x + 1 := ⟨m - 1, by omega⟩
          have hss : ∀ j, j < (smM (k - 1)).length → tr_ss ((smM (k - 1)).getD j .leaf) = true := by
            rcases (by omega : k = 1 ∨ k = 2 ∨ k = 3) with rfl | rfl | rfl
            · exact all_ss (by decide +kernel)
            · exact all_ss (by decide +kernel)
            · exact all_ss (by decide +kernel)
          have hlen : (smM (k - 1)).length ≤ 46 ∧ (smM k).length ≤ 280 := by
            obtain ⟨a1, a2, a3, a4⟩ := sm_len
            rcases (by omega : k = 1 ∨ k = 2 ∨ k = 3) with rfl | rfl | rfl
            · rw [a2]; rw [show smM (1 - 1) = smM 0 from rfl, a1]; decide
            · rw [a3]; rw [show smM (2 - 1) = smM 1 from rfl, a2]; decide
            · rw [a4]; rw [show smM (3 - 1) = smM 2 from rfl, a3]; decide
          have esm : smg (k + 1) (smM (k - 1)) = smM k := by
            obtain ⟨k, rfl⟩ : ∃ x, k = x + 1 := ⟨k - 1, by omega⟩
            rfl
          obtain ⟨μ4, d4, p4, r4⟩ := mm_grows (N := N) (f := f + 16) (n := k + 1) g1 (by omega) (by omega) (fun j hj => (tr_ss_ok (hss j hj)).2.1) hlen.1 (by rw [esm]; exact hlen.2) (by omega)
          rw [esm] at p4
          rw [jX6_clear_48_eq, if_neg (nI_nlt (by omega) (by omega)), d4, am_cv_ok, ic_v1, nI_add, jX6_clear_48_bk]
          exact ih (k + 1) m μ4 (by omega) (by omega) (by omega) p4 (g2.tr r4.kl)
      obtain ⟨μ5, m5, e5, h5, p5, k5⟩ := hgrow (n - 1) 1 N μ2 (by omega) (by omega) (by omega) p2 k0
      rw [e5]
      have hss : ∀ j, j < (smM (n - 1)).length → tr_ss ((smM (n - 1)).getD j .leaf) = true := fun j hj => by
        have hmem : (smM (n - 1)).getD j .leaf ∈ smM (n - 1) := by
          rw [List.getD_eq_getElem?_getD, List.getElem?_eq_getElem hj]
          exact List.getElem_mem hj
        exact List.all_eq_true.mp sc_ss _ (List.mem_of_mem_take (pm.mem_iff.mpr hmem))
      have hm6 : 22 * (smM (n - 1)).length + ((smM (n - 1)).length + 1) * (smM (n - 1)).length ≤ m5 := by
        rw [pl]
        have := Nat.mul_le_mul (show sfr (n + 1) + 1 ≤ 281 by omega) pF
        omega
      obtain ⟨μ6, e6, k6⟩ := mc_66 (N := N) (f := f + 18) (st := st) (L := smM (n - 1)) (K := K st) (by omega) (by omega) (by omega) (by rw [pl]; exact pF) hss (kp st (by omega)).2 (nI n) (smM (n - 1)).length 0 m5 μ5 none (by omega) hm6 p5 (hK μ5 (k5.2.1 8 (by omega) (by omega) (by omega) (by omega))) k5 (fun j hj => by omega)
      rw [e6]
      have hiff : (∀ a', a' < sfr (n + 1) → ∀ b', b' < a' → wsd (fun _ k => K st k) (scD.getD a' .leaf) 0 41 ≠ wsd (fun _ k => K st k) (scD.getD b' .leaf) 0 41) ↔ (∀ a', a' < (smM (n - 1)).length → ∀ b', b' < a' → wsd (fun _ k => K st k) ((smM (n - 1)).getD a' .leaf) 0 41 ≠ wsd (fun _ k => K st k) ((smM (n - 1)).getD b' .leaf) 0 41) := by
        have hn2 := sm_nodup (fun t => wsd (fun _ k => K st k) t 0 41) hn1 hn
        rw [nd_pairs, nd_pairs] at hn2
        have hlt : (scD.take (sfr (n + 1))).length = sfr (n + 1) := by rw [pm.length_eq, pl]
        have hgt : ∀ j, j < sfr (n + 1) → (scD.take (sfr (n + 1))).getD j .leaf = scD.getD j .leaf := fun j hj => by
          rw [List.getD_eq_getElem?_getD, List.getD_eq_getElem?_getD, List.getElem?_take_of_lt hj]
        rw [← hn2, hlt]
        constructor
        · intro q a' ha' b' hb'
          rw [hgt a' ha', hgt b' (by omega)]
          exact q a' ha' b' hb'
        · intro q a' ha' b' hb'
          have := q a' ha' b' hb'
          rw [hgt a' ha', hgt b' (by omega)] at this
          exact this
      refine ⟨_, σ2, μ6, rfl, ?_, hR1.fr0 k2'.same k6.same⟩
      by_cases hq : ∀ a', a' < sfr (n + 1) → ∀ b', b' < a' → wsd (fun _ k => K st k) (scD.getD a' .leaf) 0 41 ≠ wsd (fun _ k => K st k) (scD.getD b' .leaf) 0 41
      · rw [if_pos hq, if_pos (hiff.mp hq)]
      · rw [if_neg hq, if_neg (fun z => hq (hiff.mpr z))]
end
