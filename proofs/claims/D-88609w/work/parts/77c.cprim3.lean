set_option maxRecDepth 16384
/-! THE PRIMS: remove, the constructor, made. -/
section
variable {l : Launch} {D : va_G} {cl : List vw_C} {ad : Nat → Nat} {d : Nat → ClassId} {σ σ' : cs_S}
theorem getD_drop {a : Tr} {l' : List Tr} {j : Nat} (h : j < l'.length) : (a :: l').dropLast.getD j .leaf = (a :: l').getD j .leaf := by
  rw [List.getD_eq_getElem?_getD, List.getD_eq_getElem?_getD, List.getElem?_dropLast, if_pos (by show j < l'.length + 1 - 1; omega)]
theorem cx_p203 (hcl : cx_clok cl) {f : Nat} (hf : 9 ≤ f) {v : am_V} {c : Nat} {a : Tr} {l' : List Tr} (hc : cx_isl σ c) (hv : cs_lv v c) (hl : cs_t σ c = a :: l') : cx_Met l D cl ad d (f + 1) yJ2_remove (ws_ yJ2_remove cJ2_remove 4 (some (.object "java/lang/Object"))) [v, .inl (.int (nI l'.length))] σ (.inl (some (.inr ((a :: l').getD l'.length .leaf)))) (cs_pt σ c (a :: l').dropLast ((cs_c σ c).1, (cs_c σ c).2 + 1)) := by
  refine cx_Met.of 0 0 rfl rfl fun ι U rargs hra hW hK => ?_
  obtain ⟨rv, rr, rfl, h1, h2⟩ := am_S2_c hra
  obtain ⟨rr2, rfl, h3⟩ := am_S2_i h2
  obtain rfl := am_S2_n h3
  obtain rfl := cs_lv_r hW.2.2.2 h1 hv
  obtain ⟨b1, b2, b3, b4, b5⟩ := hW.2.2.2.2.2.1 c hc
  have hll : (cs_t σ c).length = l'.length + 1 := by rw [hl]; rfl
  have hne : (cs_c σ c).1 ≠ 0 := by omega
  obtain ⟨e1, e2⟩ := cx_lat hW hc
  rw [nb_f hne, hll] at e1
  obtain ⟨c10, -, c65, cne⟩ := cx_cap hW hc hne
  have b4' := b4 l'.length (by omega)
  rw [hl] at b4'
  obtain ⟨ni, n1, n2, n3⟩ := cx_nid b4'.1 b4'.2
  have hy := va_rf_e n3
  have hA : ∀ z, (z = ι.2.1 c ∨ z = ι.2.1 (c + 1000) ∨ U.heap.size ≤ z) → z = ι.2.1 c ∨ (c + 1000 ∈ ι.1 ∧ z = ι.2.1 (c + 1000)) ∨ U.heap.size ≤ z := fun z h => h.imp id (fun h => h.imp (fun h => ⟨(e2 hne).1, h⟩) id)
  refine ⟨_, _, _, _, jm_rem hcl (ι.2.1 c) (ι.2.1 (c + 1000)) (cs_c σ c).1 l'.length U.heap.size (d 8) (cs_c σ c).2 (ι.2.2.2 c) (by omega) c65 cne (ι.2.1 ni) hy, ⟨by show 2 ≤ f + 1; omega, Nat.zero_le _, Nat.zero_le _, by show 80 ≤ 40 * (f + 1); omega⟩, ⟨rfl, rfl, va_P2 e1 (e2 hne).2, hK.1.sub [8] rfl⟩, fun o' t' hq => ?_, fun q h => cx_fA hW.2.2.2 hc (hA q h)⟩
  obtain ⟨rfl, hP, hF⟩ := hq
  obtain ⟨k1, k2⟩ := cx_kept hW hc hA hF
  have hdl : (a :: l').dropLast.length = l'.length := by rw [List.length_dropLast]; rfl
  have hno : ∀ j, (a :: l').dropLast.length ≤ j → (va_up (ι.2.2.2 c) l'.length none) j = none := by
    intro j hj
    by_cases e : j = l'.length
    · rw [e, va_up_self]
    · rw [va_up_ne _ _ e]
      exact b5 j (by omega)
  have hel : ∀ j, j < (a :: l').dropLast.length → tr_nd ((a :: l').dropLast.getD j .leaf) = true ∧ cx_TR ad ι ((a :: l').dropLast.getD j .leaf) (va_rf ((va_up (ι.2.2.2 c) l'.length none) j)) := by
    intro j hj
    rw [hdl] at hj
    rw [getD_drop hj, va_up_ne _ _ (by omega), ← hl]
    exact b4 j (by omega)
  obtain ⟨ι', g1, g2, g3⟩ := cx_W_pt (l' := (a :: l').dropLast) (mc' := (cs_c σ c).2 + 1) hW hc (.inl ⟨(e2 hne).1, rfl⟩) (by rw [hdl]; exact hP 0 _ rfl) (hP 1 _ rfl) k1 (by omega) c10 c65 hel hno
  refine ⟨ι', ⟨_, rfl, ?_⟩, g1, g2, g3, k2⟩
  show cx_TR ad ι' _ _
  rw [← n3]
  exact g1.cr _ _ b4'.2
/-- a new list becomes ready -/
theorem cx_p204 (hcl : cx_clok cl) {f n a : Nat} {x y : Tr} (hf : 9 ≤ f) (hn : (cs_y σ)[n]? = some 0) : cx_Met l D cl ad d (f + 1) yJ2_init (ws_ yJ2_init cJ2_init 1 none) [.inr (.inner n 52 a x y)] σ (.inl none) (cs_pt (cs_py σ ((cs_y σ).set n 1)) (400 + n) [] (0, 0)) := by
  refine cx_Met.of 0 0 rfl rfl fun ι U rargs hra hW hK => ?_
  obtain ⟨rv, rr, rfl, h1, h2⟩ := am_S2_c hra
  obtain rfl := am_S2_n h2
  have hnl := (List.getElem?_eq_some_iff.mp hn).1
  obtain ⟨w1, w2, w3, i1, i2, i3, i4, i5, i6, i7⟩ := hW
  have hm : 400 + n ∈ ι.1 := i2.2.1 n hnl
  have hb : 400 + n = 100 ∨ 400 + n = 106 ∨ 400 ≤ 400 + n ∧ 400 + n ≤ 900 := by omega
  have e1 := w1 _ hm
  have hlf : cx_lf ad ι σ (400 + n) = [.int 0, .null, .int 0] := by
    unfold cx_lf
    have : (cs_y σ).getD (400 + n - 400) 0 = 0 := by
      rw [Nat.add_sub_cancel_left, List.getD_eq_getElem?_getD, hn]
      rfl
    rw [this, nl_t (by omega : 400 ≤ 400 + n)]
    rfl
  rw [cx_E_l hb, hlf] at e1
  obtain rfl : rv = .ref (ι.2.1 (400 + n)) := by
    rcases h1 with ⟨h9, -⟩ | ⟨h9, -⟩ | ⟨-, -, -, h9⟩
    · omega
    · omega
    · exact h9
  have hnar : ∀ z, (z = ι.2.1 (400 + n) ∨ U.heap.size ≤ z) → cx_A ι U.heap.size z := fun z h => h.elim (fun h => .inl ⟨_, hm, h⟩) .inr
  refine ⟨_, _, _, _, jm_ini hcl (ι.2.1 (400 + n)) (ad 190) U.heap.size, ⟨by show 3 ≤ f + 1; omega, Nat.zero_le _, Nat.zero_le _, by show 120 ≤ 40 * (f + 1); omega⟩, ⟨rfl, rfl, va_P1 e1, hK.1.sub [] rfl, hK.2.2.1.narrow hnar⟩, fun o' t' hq => ?_, hnar⟩
  obtain ⟨rfl, hP, hF⟩ := hq
  have hle : cx_le ι (ι.1, ι.2.1, ι.2.2.1, va_up ι.2.2.2 (400 + n) (fun _ => none)) := ⟨fun _ h => h, fun _ _ _ => rfl, fun _ _ => rfl⟩
  have hy1 : ((cs_y σ).set n 1)[n]? = some 1 := List.getElem?_set_self hnl
  have hy2 : ∀ m, m ≠ n → ((cs_y σ).set n 1)[m]? = (cs_y σ)[m]? := fun m h => List.getElem?_set_ne (fun z => h z.symm)
  have hni : ¬ cx_isl σ (400 + n) := by
    rintro (h | h | ⟨m, h, h'⟩)
    · omega
    · omega
    · obtain rfl : m = n := by omega
      rw [hn] at h'
      cases h'
  have hisl : ∀ c, cx_isl (cs_pt (cs_py σ ((cs_y σ).set n 1)) (400 + n) [] (0, 0)) c → c = 400 + n ∨ (c ≠ 400 + n ∧ cx_isl σ c) := by
    rintro c (h | h | ⟨m, h, h'⟩)
    · exact .inr ⟨by omega, .inl h⟩
    · exact .inr ⟨by omega, .inr (.inl h)⟩
    · by_cases e : m = n
      · exact .inl (by omega)
      · have h' : ((cs_y σ).set n 1)[m]? = some 1 := h'
        rw [hy2 m e] at h'
        exact .inr ⟨by omega, .inr (.inr ⟨m, h, h'⟩)⟩
  have hisl2 : ∀ c, cx_isl σ c → cx_isl (cs_pt (cs_py σ ((cs_y σ).set n 1)) (400 + n) [] (0, 0)) c := by
    rintro c (h | h | ⟨m, h, h'⟩)
    · exact .inl h
    · exact .inr (.inl h)
    · refine .inr (.inr ⟨m, h, ?_⟩)
      show ((cs_y σ).set n 1)[m]? = some 1
      by_cases e : m = n
      · subst e
        rw [hn] at h'
        cases h'
      · rw [hy2 m e]
        exact h'
  have t1 : cs_t (cs_pt (cs_py σ ((cs_y σ).set n 1)) (400 + n) [] (0, 0)) (400 + n) = [] := va_up_self _ _ _
  have t2 : cs_c (cs_pt (cs_py σ ((cs_y σ).set n 1)) (400 + n) [] (0, 0)) (400 + n) = (0, 0) := va_up_self _ _ _
  have t4 : ∀ j, j ≠ 400 + n → cs_t (cs_pt (cs_py σ ((cs_y σ).set n 1)) (400 + n) [] (0, 0)) j = cs_t σ j := fun j h => va_up_ne _ _ h
  have t5 : ∀ j, j ≠ 400 + n → cs_c (cs_pt (cs_py σ ((cs_y σ).set n 1)) (400 + n) [] (0, 0)) j = cs_c σ j := fun j h => va_up_ne _ _ h
  have t6 : ∀ j, j ≠ 400 + n → va_up ι.2.2.2 (400 + n) (fun _ => none) j = ι.2.2.2 j := fun j h => va_up_ne _ _ h
  have t7 : va_up ι.2.2.2 (400 + n) (fun _ => none) (400 + n) = (fun _ => none) := va_up_self _ _ _
  have hrdy : cx_isl (cs_pt (cs_py σ ((cs_y σ).set n 1)) (400 + n) [] (0, 0)) (400 + n) := .inr (.inr ⟨n, rfl, hy1⟩)
  refine ⟨(ι.1, ι.2.1, ι.2.2.1, va_up ι.2.2.2 (400 + n) (fun _ => none)), ⟨_, rfl, trivial⟩, hle, ⟨?_, w2, w3, i1, ?_, ?_, ?_, ?_, i6, i7⟩, cx_A_rf, hF.1, fun q q1 q2 => hF.2 q q1 fun z => q2 (hnar q z)⟩
  · intro c' hc'
    by_cases e : c' = 400 + n
    · rw [e, cx_E_l hb, cx_lf_r hrdy, t1, t2]
      exact hP 0 _ rfl
    · rw [cx_E_ch (ι := ι) (σ := σ) (ι' := (ι.1, ι.2.1, ι.2.2.1, va_up ι.2.2.2 (400 + n) (fun _ => none))) (σ' := cs_pt (cs_py σ ((cs_y σ).set n 1)) (400 + n) [] (0, 0)) (c := c') rfl rfl rfl (fun a1 a2 => ?_) (t6 115 (by omega)) (fun _ => ⟨t4 c' e, t5 c' e, rfl⟩) (fun a1 a2 => ?_) rfl]
      · refine va_at.kept (w1 c' hc') (hF.2 _ (va_at.lt (w1 c' hc')) fun z => ?_)
        rcases z with z | z
        · exact e (w2 _ hc' _ hm z)
        · have z : U.heap.size ≤ ι.2.1 c' := z
          have := va_at.lt (w1 c' hc')
          dsimp only at this
          omega
      · show ((cs_y σ).set n 1).getD (c' - 400) 0 = _
        rw [List.getD_eq_getElem?_getD, List.getD_eq_getElem?_getD, hy2 (c' - 400) (by omega)]
      · have hz : c' - 1000 ≠ 400 + n := fun z => hni (z ▸ (i4 c' hc' a1 (by omega)).1)
        exact ⟨t5 (c' - 1000) hz, t6 (c' - 1000) hz⟩
  · refine ⟨?_, fun m hm' => ?_, fun c' hc' h3 h4 => ?_⟩
    · show ((cs_y σ).set n 1).length ≤ 501
      rw [List.length_set]
      exact i2.1
    · have hm' : m < ((cs_y σ).set n 1).length := hm'
      rw [List.length_set] at hm'
      exact i2.2.1 m hm'
    · show c' < 400 + ((cs_y σ).set n 1).length
      rw [List.length_set]
      exact i2.2.2 c' hc' h3 h4
  · intro c' hc'
    rcases hisl c' hc' with e | ⟨e, h⟩
    · rw [e]
      unfold cx_lok
      rw [t1, t2]
      exact ⟨Nat.zero_le _, .inl rfl, Nat.zero_le _, fun j hj => absurd hj (Nat.not_lt_zero _), fun j _ => congrFun t7 j⟩
    · exact (i3 c' h).mono hle (t6 c' e) (t4 c' e) (t5 c' e)
  · intro c' hc' h3 h4
    obtain ⟨z1, z2⟩ := i4 c' hc' h3 h4
    have hz : c' - 1000 ≠ 400 + n := fun z => hni (z ▸ z1)
    refine ⟨hisl2 _ z1, ?_⟩
    rw [t5 (c' - 1000) hz]
    exact z2
  · intro j hj
    show cx_TR ad _ (cs_p σ j) (va_rf (va_up ι.2.2.2 (400 + n) (fun _ => none) 115 j))
    rw [t6 115 (by omega)]
    exact hle.cr _ _ (i5 j hj)
/-! a new node -/
theorem nat_above (l : List Nat) : ∃ N, ∀ c ∈ l, c < N := by
  induction l with
  | nil => exact ⟨0, fun _ h => by cases h⟩
  | cons a l ih =>
    obtain ⟨N, h⟩ := ih
    refine ⟨N + a + 1, fun c hc => ?_⟩
    rcases List.mem_cons.mp hc with rfl | hc
    · omega
    · have := h c hc
      omega
theorem cx_W_nd {ι : cx_I} {H H1 : Heap} {q ci : Nat} {fs : List Value} (hW : cx_W D cl ad d ι σ H) (hq : H.size ≤ q) (h1 : va_at D cl (q, .inr (ci, fs)) H1) (hk : ∀ c' ∈ ι.1, H1[ι.2.1 c']? = H[ι.2.1 c']?) :
    ∃ (ι' : cx_I) (c0 : Nat), cx_le ι ι' ∧ cx_W D cl ad d ι' σ H1 ∧ (∀ c ∈ ι'.1, cx_A ι H.size (ι'.2.1 c)) ∧ 10000 ≤ c0 ∧ c0 ∈ ι'.1 ∧ ι'.2.1 c0 = q ∧ ι'.2.2.1 c0 = (ci, fs) := by
  obtain ⟨w1, w2, w3, i1, i2, i3, i4, i5, i6, i7, i8⟩ := hW
  obtain ⟨N, hN⟩ := nat_above ι.1
  have hfr : N + 10000 ∉ ι.1 := fun h => by
    have := hN _ h
    omega
  generalize hc0 : N + 10000 = c0 at hfr
  have h10 : 10000 ≤ c0 := by omega
  have hnc : ∀ c' ∈ ι.1, c' ≠ c0 := fun c' h e => hfr (e ▸ h)
  have u1 : va_up ι.2.1 c0 q c0 = q := va_up_self _ _ _
  have u2 : ∀ c', c' ≠ c0 → va_up ι.2.1 c0 q c' = ι.2.1 c' := fun c' h => va_up_ne _ _ h
  have u3 : va_up ι.2.2.1 c0 (ci, fs) c0 = (ci, fs) := va_up_self _ _ _
  have u4 : ∀ c', c' ≠ c0 → va_up ι.2.2.1 c0 (ci, fs) c' = ι.2.2.1 c' := fun c' h => va_up_ne _ _ h
  have hle : cx_le ι (ι.1 ++ [c0], va_up ι.2.1 c0 q, va_up ι.2.2.1 c0 (ci, fs), ι.2.2.2) := ⟨fun _ h => List.mem_append_left _ h, fun c' hc' _ => u2 c' (hnc c' hc'), fun c' hc' => u4 c' (hnc c' hc')⟩
  have hs3 : ∀ c' ∈ ι.1 ++ [c0], c' ∈ ι.1 ∨ c' = c0 := fun c' h => (List.mem_append.mp h).imp id List.mem_singleton.mp
  have hqn : ∀ c' ∈ ι.1, ι.2.1 c' ≠ q := fun c' hc' e => by
    have := va_at.lt (w1 c' hc')
    dsimp only at this
    omega
  refine ⟨(ι.1 ++ [c0], va_up ι.2.1 c0 q, va_up ι.2.2.1 c0 (ci, fs), ι.2.2.2), c0, hle, ⟨?_, ?_, ?_, ?_, ?_, ?_, ?_, ?_, i6, ?_, ?_⟩, ?_, h10, List.mem_append_right _ List.mem_cons_self, u1, u3⟩
  · intro c' hc'
    rcases hs3 c' hc' with h | h
    · rw [cx_E_ch (ι := ι) (σ := σ) (ι' := (ι.1 ++ [c0], va_up ι.2.1 c0 q, va_up ι.2.2.1 c0 (ci, fs), ι.2.2.2)) (σ' := σ) (c := c') rfl rfl rfl (fun _ _ => rfl) rfl (fun a1 => ⟨rfl, rfl, u2 (c' + 1000) (by omega)⟩) (fun _ _ => ⟨rfl, rfl⟩) (u4 c' (hnc c' h))]
      dsimp only
      rw [u2 c' (hnc c' h)]
      exact va_at.kept (w1 c' h) (hk c' h)
    · rw [h, cx_E_nd h10]
      dsimp only
      rw [u1, u3]
      exact h1
  · intro a ha b hb e
    have e : va_up ι.2.1 c0 q a = va_up ι.2.1 c0 q b := e
    rcases hs3 a ha with h | h
    · rcases hs3 b hb with h' | h'
      · rw [u2 a (hnc a h), u2 b (hnc b h')] at e
        exact w2 a h b h' e
      · rw [u2 a (hnc a h), h', u1] at e
        exact absurd e (hqn a h)
    · rcases hs3 b hb with h' | h'
      · rw [u2 b (hnc b h'), h, u1] at e
        exact absurd e.symm (hqn b h')
      · rw [h, h']
  · refine List.nodup_append.mpr ⟨w3, List.nodup_cons.mpr ⟨by simp, List.nodup_nil⟩, fun a ha b hb2 e => ?_⟩
    rw [List.mem_singleton.mp hb2] at e
    exact hfr (e ▸ ha)
  · intro c' hc'
    obtain ⟨z1, z2⟩ := i1 c' hc'
    exact ⟨List.mem_append_left _ z1, (u2 c' (hnc c' z1)).trans z2⟩
  · refine ⟨i2.1, fun n hn => List.mem_append_left _ (i2.2.1 n hn), fun c' hc' h3 h4 => ?_⟩
    rcases hs3 c' hc' with h | h
    · exact i2.2.2 c' h h3 h4
    · omega
  · exact fun c' hc' => (i3 c' hc').mono hle rfl rfl rfl
  · intro c' hc' h3 h4
    rcases hs3 c' hc' with h | h
    · exact i4 c' h h3 h4
    · omega
  · exact fun j hj => hle.cr _ _ (i5 j hj)
  · show (va_up ι.2.2.1 c0 (ci, fs) 143).1 = 11
    rw [u4 143 (by omega)]
    exact i7
  · show (va_up ι.2.2.1 c0 (ci, fs) 144).1 = 11
    rw [u4 144 (by omega)]
    exact i8
  · intro c' hc'
    show cx_A ι H.size (va_up ι.2.1 c0 q c')
    rcases hs3 c' hc' with h | h
    · rw [u2 c' (hnc c' h)]
      exact .inl ⟨c', h, rfl⟩
    · rw [h, u1]
      exact .inr hq
end
