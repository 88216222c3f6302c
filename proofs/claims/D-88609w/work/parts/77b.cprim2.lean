set_option maxRecDepth 16384
/-! THE PRIMS. -/
section
variable {l : Launch} {D : va_G} {cl : List vw_C} {ad : Nat → Nat} {d : Nat → ClassId} {σ σ' : cs_S}
def cs_lv (v : am_V) (c : Nat) : Prop := (v = .inl (.ref c) ∧ (c = 100 ∨ c = 106)) ∨ ∃ n a x y, v = .inr (.inner n 52 a x y) ∧ c = 400 + n
theorem cs_lid_w {v : am_V} {k : Nat → am_R cs_S} {r : am_O × cs_S} (h : cs_lid σ v k = some r) : ∃ c, cx_isl σ c ∧ k c = some r ∧ cs_lv v c := by
  unfold cs_lid at h
  split at h
  · rename_i c
    obtain ⟨h1, h2⟩ := bif_e h
    refine ⟨c, ?_, h2, .inl ⟨rfl, cs_isL_e h1⟩⟩
    rcases cs_isL_e h1 with rfl | rfl
    · exact .inl rfl
    · exact .inr (.inl rfl)
  · rename_i n v0 x0 y0
    split at h
    · rename_i hn
      exact ⟨400 + n, .inr (.inr ⟨n, rfl, hn⟩), h, .inr ⟨n, v0, x0, y0, rfl, rfl⟩⟩
    · cases h
  · cases h
theorem cs_lv_r {ι : cx_I} {v : am_V} {rv : Value} {c : Nat} (hi : cx_inv ad ι σ) (hv : am_vr (cx_TR ad ι) ad v rv) (h : cs_lv v c) : rv = .ref (ι.2.1 c) := by
  rcases h with ⟨rfl, h⟩ | ⟨n, a, x, y, rfl, rfl⟩
  · have hv : rv = .ref (ad c) := hv
    rw [hv]
    rcases h with rfl | rfl
    · rw [(hi.1 100 (by decide)).2]
    · rw [(hi.1 106 (by decide)).2]
  · rcases hv with ⟨h9, -⟩ | ⟨h9, -⟩ | ⟨-, -, -, h9⟩
    · omega
    · omega
    · exact h9
theorem cx_Met.of {f : Nat} {y : MethodName} {ws : List Cond} {args : List am_V} {o : am_O} (k n : Nat) (h1 : cs_n1 σ' = cs_n1 σ + k) (h2 : cs_n2 σ' = cs_n2 σ + n)
    (h : ∀ (ι : cx_I) (U : State) (rargs : List Value), am_S2 (am_vr (cx_TR ad ι) ad) args rargs → cx_W D cl ad d ι σ U.heap → cx_K D cl ad d (cx_A ι U.heap.size) U → ∃ (rm : Room) (Pc : Array Value → State → Prop) (Qc : Array Value → State → Outcome → State → Prop) (free : Addr → Prop), Met l y ws rm Pc Qc k n free ∧ (rm.frames ≤ f ∧ rm.cells ≤ k ∧ rm.slots ≤ n ∧ rm.locals ≤ 40 * f) ∧ Pc rargs.toArray U ∧
      (∀ o' t, Qc rargs.toArray U o' t → ∃ ι', cx_ro ad ι' o o' ∧ cx_le ι ι' ∧ cx_W D cl ad d ι' σ' t.heap ∧ (∀ c ∈ ι'.1, cx_A ι U.heap.size (ι'.2.1 c)) ∧ va_F (cx_A ι U.heap.size) U t) ∧ ∀ q, free q → cx_A ι U.heap.size q) : cx_Met l D cl ad d f y ws args σ o σ' := by
  intro ι sz rargs hra
  have e1 : cs_n1 σ' - cs_n1 σ = k := by omega
  have e2 : cs_n2 σ' - cs_n2 σ = n := by omega
  rw [e1, e2]
  refine xm_cons fun a U hP => ?_
  obtain ⟨rfl, rfl, hW, hK⟩ := hP
  exact h ι U rargs hra hW hK
/-- a list in the world -/
theorem cx_lat {ι : cx_I} {H : Heap} (hW : cx_W D cl ad d ι σ H) {c : Nat} (hc : cx_isl σ c) : va_at D cl (ι.2.1 c, .inr (10, [.int (cs_c σ c).2, .ref (bif Nat.beq (cs_c σ c).1 0 then ad 190 else ι.2.1 (c + 1000)), .int (nI (cs_t σ c).length)])) H ∧
    ((cs_c σ c).1 ≠ 0 → c + 1000 ∈ ι.1 ∧ va_at D cl (ι.2.1 (c + 1000), .inl (d 8, (cs_c σ c).1, .inr (.inr (.inr (.inr (ι.2.2.2 c)))))) H) := by
  obtain ⟨hb, hm⟩ := cx_isl_b hW.2.2.2 hc
  have h1 := hW.1 c hm
  rw [cx_E_l hb, cx_lf_r hc] at h1
  refine ⟨h1, fun hne => ?_⟩
  have h5 : c + 1000 ∈ ι.1 := by
    rcases (hW.2.2.2.2.2.1 c hc).2.1 with h | h
    · exact absurd h hne
    · exact h.2
  have h2 := hW.1 (c + 1000) h5
  rw [cx_E_a hb] at h2
  exact ⟨h5, h2⟩
theorem cx_F_rf {ι : cx_I} {U t : State} (ht : t.heap = U.heap) : va_F (cx_A ι U.heap.size) U t := ⟨by rw [ht]; exact Nat.le_refl _, fun q _ _ => by rw [ht]⟩
theorem cx_A_rf {ι : cx_I} {sz : Nat} : ∀ c ∈ ι.1, cx_A ι sz (ι.2.1 c) := fun c hc => .inl ⟨c, hc, rfl⟩
theorem cx_p200 (hcl : cx_clok cl) {f : Nat} {v : am_V} {c : Nat} (hc : cx_isl σ c) (hv : cs_lv v c) : cx_Met l D cl ad d (f + 1) yJ2_size (ws_ yJ2_size cJ2_size 1 (some .int)) [v] σ (.inl (some (.inl (.int (nI (cs_t σ c).length))))) σ := by
  refine cx_Met.of 0 0 rfl rfl fun ι U rargs hra hW hK => ?_
  obtain ⟨rv, rr, rfl, h1, h2⟩ := am_S2_c hra
  obtain rfl := am_S2_n h2
  obtain rfl := cs_lv_r hW.2.2.2 h1 hv
  refine ⟨_, _, _, _, jm_size hcl (ι.2.1 c) (cs_c σ c).2 (nI (cs_t σ c).length) (.ref (bif Nat.beq (cs_c σ c).1 0 then ad 190 else ι.2.1 (c + 1000))), ⟨Nat.zero_le _, Nat.zero_le _, Nat.zero_le _, Nat.zero_le _⟩, ⟨rfl, va_P1 (cx_lat hW hc).1, hK.1.sub [] rfl⟩, fun o' t hq => ?_, fun q h => h.elim⟩
  obtain ⟨rfl, ht⟩ := hq
  exact ⟨ι, ⟨_, rfl, rfl⟩, cx_le.rf ι, by rw [ht]; exact hW, cx_A_rf, cx_F_rf ht⟩
theorem cx_cap {ι : cx_I} {H : Heap} (hW : cx_W D cl ad d ι σ H) {c : Nat} (hc : cx_isl σ c) (h : (cs_c σ c).1 ≠ 0) : 10 ≤ (cs_c σ c).1 ∧ (cs_t σ c).length ≤ (cs_c σ c).1 ∧ (cs_c σ c).1 ≤ 65000 ∧ ι.2.1 c ≠ ι.2.1 (c + 1000) := by
  obtain ⟨h1, h2, h3, -⟩ := hW.2.2.2.2.2.1 c hc
  rcases h2 with h2 | h2
  · exact absurd h2 h
  · refine ⟨h2.1, h1, h3, fun e => ?_⟩
    have := hW.2.1 c (cx_isl_b hW.2.2.2 hc).2 _ h2.2 e
    omega
theorem cx_p201 (hcl : cx_clok cl) {f : Nat} (hf : 9 ≤ f) {v : am_V} {c : Nat} {i : Int32} (hc : cx_isl σ c) (hv : cs_lv v c) (hi : vp_in i (cs_t σ c).length) : cx_Met l D cl ad d (f + 1) yJ2_get (ws_ yJ2_get cJ2_get 2 (some (.object "java/lang/Object"))) [v, .inl (.int i)] σ (.inl (some (.inr ((cs_t σ c).getD i.toNatClampNeg .leaf)))) σ := by
  refine cx_Met.of 0 0 rfl rfl fun ι U rargs hra hW hK => ?_
  obtain ⟨rv, rr, rfl, h1, h2⟩ := am_S2_c hra
  obtain ⟨rr2, rfl, h3⟩ := am_S2_i h2
  obtain rfl := am_S2_n h3
  obtain rfl := cs_lv_r hW.2.2.2 h1 hv
  obtain ⟨b1, b2, b3, b4, b5⟩ := hW.2.2.2.2.2.1 c hc
  have hi0 : ¬ i < 0 := fun z => hi (.inl z)
  obtain ⟨j, hj, rfl⟩ := nI_of hi0
  have hjl : j < (cs_t σ c).length := by
    have : ¬ (cs_t σ c).length ≤ (nI j).toNatClampNeg := fun z => hi (.inr z)
    rw [nI_clamp hj] at this
    omega
  have hne : (cs_c σ c).1 ≠ 0 := by omega
  obtain ⟨e1, e2⟩ := cx_lat hW hc
  rw [nb_f hne] at e1
  refine ⟨_, _, _, _, jm_get hcl (ι.2.1 c) (ι.2.1 (c + 1000)) (cs_c σ c).1 (d 8) (cs_c σ c).2 (nI (cs_t σ c).length) (nI j) (ι.2.2.2 c) (nI_in (by omega) (by omega)) hi0 (nI_lt hjl (by omega)), ⟨by show 2 ≤ f + 1; omega, Nat.zero_le _, Nat.zero_le _, by show 80 ≤ 40 * (f + 1); omega⟩, ⟨rfl, va_P2 e1 (e2 hne).2, hK.1.sub [8] rfl⟩, fun o' t hq => ?_, fun q h => h.elim⟩
  obtain ⟨rfl, ht⟩ := hq
  rw [nI_clamp hj]
  exact ⟨ι, ⟨_, rfl, (b4 j hjl).2⟩, cx_le.rf ι, by rw [ht]; exact hW, cx_A_rf, cx_F_rf ht⟩
/-- outside of a list's cells nothing has changed -/
theorem cx_kept {ι : cx_I} {U t : State} (hW : cx_W D cl ad d ι σ U.heap) {c : Nat} (hc : cx_isl σ c) {A : Nat → Prop} (hA : ∀ z, A z → z = ι.2.1 c ∨ (c + 1000 ∈ ι.1 ∧ z = ι.2.1 (c + 1000)) ∨ U.heap.size ≤ z) (hF : va_F A U t) : (∀ c' ∈ ι.1, c' ≠ c → c' ≠ c + 1000 → t.heap[ι.2.1 c']? = U.heap[ι.2.1 c']?) ∧ va_F (cx_A ι U.heap.size) U t := by
  have hm := (cx_isl_b hW.2.2.2 hc).2
  refine ⟨fun c' hc' h1 h2 => hF.2 _ (va_at.lt (hW.1 c' hc')) fun z => ?_, hF.1, fun q h1 h2 => hF.2 q h1 fun z => h2 ?_⟩
  · rcases hA _ z with e | ⟨e1, e⟩ | e
    · exact h1 (hW.2.1 _ hc' _ hm e)
    · exact h2 (hW.2.1 _ hc' _ e1 e)
    · have := va_at.lt (hW.1 c' hc')
      dsimp only at this
      omega
  · rcases hA _ z with e | ⟨e1, e⟩ | e
    · exact .inl ⟨c, hm, e⟩
    · exact .inl ⟨_, e1, e⟩
    · exact .inr e
theorem cx_fA {ι : cx_I} {sz : Nat} (hW : cx_inv ad ι σ) {c : Nat} (hc : cx_isl σ c) {z : Nat} (h : z = ι.2.1 c ∨ (c + 1000 ∈ ι.1 ∧ z = ι.2.1 (c + 1000)) ∨ sz ≤ z) : cx_A ι sz z := by
  rcases h with e | ⟨e1, e⟩ | e
  · exact .inl ⟨c, (cx_isl_b hW hc).2, e⟩
  · exact .inl ⟨_, e1, e⟩
  · exact .inr e
theorem va_rf_e {o : Option Nat} {a : Nat} (h : va_rf o = .ref a) : o = some a := by
  cases o with
  | none => cases h
  | some b => cases h; rfl
theorem getD_app {l' : List Tr} {t : Tr} {j : Nat} (h : j < (l' ++ [t]).length) : (j < l'.length ∧ (l' ++ [t]).getD j .leaf = l'.getD j .leaf) ∨ (j = l'.length ∧ (l' ++ [t]).getD j .leaf = t) := by
  rw [List.length_append] at h
  have h : j < l'.length + 1 := h
  by_cases e : j < l'.length
  · refine .inl ⟨e, ?_⟩
    rw [List.getD_eq_getElem?_getD, List.getD_eq_getElem?_getD, List.getElem?_append_left e]
  · have e : j = l'.length := by omega
    refine .inr ⟨e, ?_⟩
    rw [e, List.getD_eq_getElem?_getD, List.getElem?_append_right (Nat.le_refl _), Nat.sub_self]
    rfl
theorem cx_p202 (hcl : cx_clok cl) {f : Nat} (hf : 9 ≤ f) {v : am_V} {c : Nat} {t : Tr} (hc : cx_isl σ c) (hv : cs_lv v c) (ht : tr_nd t = true) (h40 : (cs_c σ c).1 ≤ 40000) : cx_Met l D cl ad d (f + 1) yJ2_add (ws_ yJ2_add cJ2_add 2 (some .boolean)) [v, .inr t] σ (.inl (some (.inl (.int 1)))) (cs_add σ c t) := by
  unfold cs_add
  by_cases hlt : (cs_t σ c).length < (cs_c σ c).1
  · rw [if_pos hlt]
    refine cx_Met.of 0 0 rfl rfl fun ι U rargs hra hW hK => ?_
    obtain ⟨rv, rr, rfl, h1, h2⟩ := am_S2_c hra
    obtain ⟨rv2, rr2, rfl, h3, h4⟩ := am_S2_c h2
    obtain rfl := am_S2_n h4
    obtain rfl := cs_lv_r hW.2.2.2 h1 hv
    have h3 : cx_TR ad ι t rv2 := h3
    obtain ⟨b1, b2, b3, b4, b5⟩ := hW.2.2.2.2.2.1 c hc
    have hne : (cs_c σ c).1 ≠ 0 := by omega
    obtain ⟨e1, e2⟩ := cx_lat hW hc
    rw [nb_f hne] at e1
    obtain ⟨c10, -, c65, cne⟩ := cx_cap hW hc hne
    obtain ⟨ni, n1, n2, rfl⟩ := cx_nid ht h3
    obtain ⟨a1, a2⟩ := cx_nany hcl hW hK ht h3
    have hb := (cx_isl_b hW.2.2.2 hc)
    have hvx : ι.2.1 ni ≠ ι.2.1 c := fun e => by
      have := hW.2.1 _ n2 _ hb.2 e
      omega
    have hve : ι.2.1 ni ≠ ι.2.1 (c + 1000) := fun e => by
      have := hW.2.1 _ n2 _ (e2 hne).1 e
      omega
    have hA : ∀ z, (z = ι.2.1 c ∨ z = ι.2.1 (c + 1000) ∨ U.heap.size ≤ z) → z = ι.2.1 c ∨ (c + 1000 ∈ ι.1 ∧ z = ι.2.1 (c + 1000)) ∨ U.heap.size ≤ z := fun z h => h.imp id (fun h => h.imp (fun h => ⟨(e2 hne).1, h⟩) id)
    refine ⟨_, _, _, _, jm_add_room hcl (ι.2.1 c) (ι.2.1 (c + 1000)) (cs_c σ c).1 (cs_t σ c).length (ι.2.1 ni) U.heap.size (d 8) (cs_c σ c).2 (ι.2.2.2 c) hlt c65 cne hvx hve, ⟨by show 6 ≤ f + 1; omega, Nat.zero_le _, Nat.zero_le _, by show 240 ≤ 40 * (f + 1); omega⟩, ⟨rfl, rfl, va_P2 e1 (e2 hne).2, hK.1.sub [8] rfl, hK.2.1.2.2.2.2, a1, a2⟩, fun o' t' hq => ?_, fun q h => cx_fA hW.2.2.2 hc (hA q h)⟩
    obtain ⟨rfl, hP, hF⟩ := hq
    obtain ⟨k1, k2⟩ := cx_kept hW hc hA hF
    have hl : (cs_t σ c ++ [t]).length = (cs_t σ c).length + 1 := List.length_append
    have hno : ∀ j, (cs_t σ c ++ [t]).length ≤ j → (va_up (ι.2.2.2 c) (cs_t σ c).length (some (ι.2.1 ni))) j = none := by
      intro j hj
      rw [va_up_ne _ _ (by omega)]
      exact b5 j (by omega)
    have hel2 : ∀ j, j < (cs_t σ c ++ [t]).length → tr_nd ((cs_t σ c ++ [t]).getD j .leaf) = true ∧ cx_TR ad ι ((cs_t σ c ++ [t]).getD j .leaf) (va_rf ((va_up (ι.2.2.2 c) (cs_t σ c).length (some (ι.2.1 ni))) j)) := by
      intro j hj
      rcases getD_app hj with ⟨j1, j2⟩ | ⟨j1, j2⟩
      · rw [j2, va_up_ne _ _ (by omega)]
        exact b4 j j1
      · rw [j2, j1, va_up_self]
        exact ⟨ht, h3⟩
    obtain ⟨ι', g1, g2, g3⟩ := cx_W_pt (l' := cs_t σ c ++ [t]) (mc' := (cs_c σ c).2 + 1) hW hc (.inl ⟨(e2 hne).1, rfl⟩) (by rw [hl]; exact hP 0 _ rfl) (hP 1 _ rfl) k1 (by omega) c10 c65 hel2 hno
    exact ⟨ι', ⟨_, rfl, rfl⟩, g1, g2, g3, k2⟩
  · rw [if_neg hlt]
    by_cases h0 : (cs_c σ c).1 = 0
    · have ecap : cs_cap (cs_c σ c).1 = 10 := by unfold cs_cap; rw [if_pos h0]
      rw [ecap]
      refine cx_Met.of 1 10 rfl rfl fun ι U rargs hra hW hK => ?_
      obtain ⟨rv, rr, rfl, h1, h2⟩ := am_S2_c hra
      obtain ⟨rv2, rr2, rfl, h3, h4⟩ := am_S2_c h2
      obtain rfl := am_S2_n h4
      obtain rfl := cs_lv_r hW.2.2.2 h1 hv
      have h3 : cx_TR ad ι t rv2 := h3
      obtain ⟨b1, b2, b3, b4, b5⟩ := hW.2.2.2.2.2.1 c hc
      have hnil : cs_t σ c = [] := List.eq_nil_of_length_eq_zero (by omega)
      obtain ⟨e1, -⟩ := cx_lat hW hc
      rw [h0, hnil] at e1
      obtain ⟨ni, n1, n2, rfl⟩ := cx_nid ht h3
      obtain ⟨a1, a2⟩ := cx_nany hcl hW hK ht h3
      have hb := (cx_isl_b hW.2.2.2 hc)
      have hvx : ι.2.1 ni ≠ ι.2.1 c := fun e => by
        have := hW.2.1 _ n2 _ hb.2 e
        omega
      have hA : ∀ z, (z = ι.2.1 c ∨ U.heap.size ≤ z) → z = ι.2.1 c ∨ (c + 1000 ∈ ι.1 ∧ z = ι.2.1 (c + 1000)) ∨ U.heap.size ≤ z := fun z h => h.imp id .inr
      have hnar : ∀ z, (z = ι.2.1 c ∨ U.heap.size ≤ z) → cx_A ι U.heap.size z := fun z h => cx_fA hW.2.2.2 hc (hA z h)
      refine ⟨_, _, _, _, jm_add_first hcl (ι.2.1 c) (ad 190) (ι.2.1 ni) U.heap.size (d 8) (cs_c σ c).2 hvx, ⟨by show 6 ≤ f + 1; omega, Nat.le_refl _, Nat.le_refl _, by show 240 ≤ 40 * (f + 1); omega⟩, ⟨rfl, rfl, va_P1 e1, hK.1.sub [8] rfl, hK.2.1.2.2.2.2, ⟨a1, a2⟩, hK.2.2.1.narrow hnar, hK.2.2.2.narrow hnar⟩, fun o' t' hq => ?_, fun q h => hnar q h⟩
      obtain ⟨rfl, q, hsz, hP, hF⟩ := hq
      obtain ⟨k1, k2⟩ := cx_kept hW hc hA hF
      have hno : ∀ j, (cs_t σ c ++ [t]).length ≤ j → (va_up (fun _ => none) 0 (some (ι.2.1 ni))) j = none := by
        intro j hj
        rw [hnil] at hj
        have hj : 1 ≤ j := hj
        rw [va_up_ne _ _ (by omega)]
      have hel2 : ∀ j, j < (cs_t σ c ++ [t]).length → tr_nd ((cs_t σ c ++ [t]).getD j .leaf) = true ∧ cx_TR ad ι ((cs_t σ c ++ [t]).getD j .leaf) (va_rf ((va_up (fun _ => none) 0 (some (ι.2.1 ni))) j)) := by
        intro j hj
        rw [hnil] at hj ⊢
        have hj : j < 1 := hj
        obtain rfl : j = 0 := by omega
        rw [va_up_self]
        exact ⟨ht, h3⟩
      obtain ⟨ι', g1, g2, g3⟩ := cx_W_pt (l' := cs_t σ c ++ [t]) (mc' := (cs_c σ c).2 + 1) hW hc (.inr hsz) (by rw [hnil]; exact hP 0 _ rfl) (hP 1 _ rfl) k1 (by rw [hnil]; exact Nat.le_of_ble_eq_true rfl) (Nat.le_refl _) (by omega) hel2 hno
      exact ⟨ι', ⟨_, rfl, rfl⟩, g1, g2, g3, k2⟩
    · have ecap : cs_cap (cs_c σ c).1 = (cs_c σ c).1 + (cs_c σ c).1 / 2 := by unfold cs_cap; rw [if_neg h0]
      rw [ecap]
      refine cx_Met.of 1 ((cs_c σ c).1 + (cs_c σ c).1 / 2) rfl rfl fun ι U rargs hra hW hK => ?_
      obtain ⟨rv, rr, rfl, h1, h2⟩ := am_S2_c hra
      obtain ⟨rv2, rr2, rfl, h3, h4⟩ := am_S2_c h2
      obtain rfl := am_S2_n h4
      obtain rfl := cs_lv_r hW.2.2.2 h1 hv
      have h3 : cx_TR ad ι t rv2 := h3
      obtain ⟨b1, b2, b3, b4, b5⟩ := hW.2.2.2.2.2.1 c hc
      have hfull : (cs_t σ c).length = (cs_c σ c).1 := by omega
      obtain ⟨e1, e2⟩ := cx_lat hW hc
      rw [nb_f h0, hfull] at e1
      obtain ⟨c10, -, c65, cne⟩ := cx_cap hW hc h0
      obtain ⟨ni, n1, n2, rfl⟩ := cx_nid ht h3
      obtain ⟨a1, a2⟩ := cx_nany hcl hW hK ht h3
      have hb := (cx_isl_b hW.2.2.2 hc)
      have hap : ∀ ni ∈ ι.1, 10000 ≤ ni → ι.2.1 ni ≠ ι.2.1 c ∧ ι.2.1 ni ≠ ι.2.1 (c + 1000) := fun ni n2 n1 => ⟨fun e => by
        have := hW.2.1 _ n2 _ hb.2 e
        omega, fun e => by
        have := hW.2.1 _ n2 _ (e2 h0).1 e
        omega⟩
      have hA : ∀ z, (z = ι.2.1 c ∨ z = ι.2.1 (c + 1000) ∨ U.heap.size ≤ z) → z = ι.2.1 c ∨ (c + 1000 ∈ ι.1 ∧ z = ι.2.1 (c + 1000)) ∨ U.heap.size ≤ z := fun z h => h.imp id (fun h => h.imp (fun h => ⟨(e2 h0).1, h⟩) id)
      have hel : ∀ j y, j < (cs_c σ c).1 → ι.2.2.2 c j = some y → ∃ t', tr_nd t' = true ∧ cx_TR ad ι t' (.ref y) := by
        intro j y hj hy
        have := b4 j (by omega)
        rw [hy] at this
        exact ⟨_, this⟩
      refine ⟨_, _, _, _, jm_add_full hcl (ι.2.1 c) (ι.2.1 (c + 1000)) (cs_c σ c).1 (ι.2.1 ni) U.heap.size (d 8) (cs_c σ c).2 (ι.2.2.2 c) c10 c65 cne (hap ni n2 n1).1 (hap ni n2 n1).2 (fun j y hj hy => ?_), ⟨by show 6 ≤ f + 1; omega, Nat.le_refl _, Nat.le_refl _, by show 240 ≤ 40 * (f + 1); omega⟩, ⟨rfl, rfl, va_P2 e1 (e2 h0).2, hK.1.sub [8] rfl, hK.2.1.2.2.2.2, ⟨a1, a2⟩, fun j y hj hy => ?_⟩, fun o' t' hq => ?_, fun q h => cx_fA hW.2.2.2 hc (hA q h)⟩
      · obtain ⟨t', ht', h'⟩ := hel j y hj hy
        obtain ⟨id', m1, m2, m3⟩ := cx_nid ht' h'
        cases m3
        exact hap id' m2 m1
      · obtain ⟨t', ht', h'⟩ := hel j y hj hy
        exact cx_nany hcl hW hK ht' h'
      · obtain ⟨rfl, q, hsz, hP, hF⟩ := hq
        obtain ⟨k1, k2⟩ := cx_kept hW hc hA hF
        have hl : (cs_t σ c ++ [t]).length = (cs_c σ c).1 + 1 := by rw [← hfull]; exact List.length_append
        have hno : ∀ j, (cs_t σ c ++ [t]).length ≤ j → (va_up (va_cpy (ι.2.2.2 c) (fun _ => none) 0 0 (cs_c σ c).1) (cs_c σ c).1 (some (ι.2.1 ni))) j = none := by
          intro j hj
          rw [va_up_ne _ _ (by omega)]
          unfold va_cpy
          rw [if_neg (by omega)]
        have hel2 : ∀ j, j < (cs_t σ c ++ [t]).length → tr_nd ((cs_t σ c ++ [t]).getD j .leaf) = true ∧ cx_TR ad ι ((cs_t σ c ++ [t]).getD j .leaf) (va_rf ((va_up (va_cpy (ι.2.2.2 c) (fun _ => none) 0 0 (cs_c σ c).1) (cs_c σ c).1 (some (ι.2.1 ni))) j)) := by
          intro j hj
          rcases getD_app hj with ⟨j1, j2⟩ | ⟨j1, j2⟩
          · rw [j2, va_up_ne _ _ (by omega)]
            unfold va_cpy
            rw [if_pos (by omega), Nat.sub_zero, Nat.zero_add]
            exact b4 j j1
          · rw [j2, j1, hfull, va_up_self]
            exact ⟨ht, h3⟩
        obtain ⟨ι', g1, g2, g3⟩ := cx_W_pt (l' := cs_t σ c ++ [t]) (mc' := (cs_c σ c).2 + 1) hW hc (.inr hsz) (by rw [hl]; exact hP 0 _ rfl) (hP 1 _ rfl) k1 (by omega) (by omega) (by omega) hel2 hno
        exact ⟨ι', ⟨_, rfl, rfl⟩, g1, g2, g3, k2⟩
end
