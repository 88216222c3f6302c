set_option maxRecDepth 16384
/-! NEW NODES. -/
section
variable {l : Launch} {D : va_G} {cl : List vw_C} {ad : Nat → Nat} {d : Nat → ClassId} {σ : cs_S}
theorem nI_sz (a b : Nat) : (1 : Int32) + nI a + nI b = nI (1 + a + b) := by
  rw [show (1 : Int32) = nI 1 from rfl, nI_add, nI_add]
theorem nI_dp {a b : Nat} (ha : a ≤ 1000) (hb : b ≤ 1000) : (1 : Int32) + (if nI a < nI b then nI b else nI a) = nI (1 + max a b) := by
  rw [show (1 : Int32) = nI 1 from rfl]
  by_cases h : a < b
  · rw [if_pos (nI_lt h (by omega)), nI_add, Nat.max_eq_right (by omega)]
  · rw [if_neg (nI_nlt (by omega) (by omega)), nI_add, Nat.max_eq_left (by omega)]
theorem nI_s1 (a : Nat) : (1 : Int32) + nI a = nI (1 + a) := by
  rw [show (1 : Int32) = nI 1 from rfl, nI_add]
theorem cx_mfin {ι : cx_I} {U t : State} {q n k v m : Nat} {x y : Tr} {rx ry : Value} (hW : cx_W D cl ad d ι σ U.heap) (hq : U.heap.size ≤ q) (h1 : va_at D cl (q, .inr (cx_ci k, cx_nfs n k v (tr_sz (.inner n k v x y)) (tr_dp (.inner n k v x y)) rx ry)) t.heap) (hF : va_F (fun z => U.heap.size ≤ z) U t) (hk : k ≤ 9) (hx : cx_TR ad ι x rx) (hy : cx_TR ad ι y ry) :
    ∃ ι', cx_ro ad ι' (.inl (some (.inr (.inner n k v x y)))) (.returned (some (.ref q))) ∧ cx_le ι ι' ∧ cx_W D cl ad d ι' (cs_mk σ 1 m) t.heap ∧ (∀ c ∈ ι'.1, cx_A ι U.heap.size (ι'.2.1 c)) ∧ va_F (cx_A ι U.heap.size) U t := by
  obtain ⟨ι', c0, g1, g2, g3, g4, g5, g6, g7⟩ := cx_W_nd hW hq h1 (fun c' hc' => hF.2 _ (va_at.lt (hW.1 c' hc')) fun z => by
    have z : U.heap.size ≤ ι.2.1 c' := z
    have := va_at.lt (hW.1 c' hc')
    dsimp only at this
    omega)
  exact ⟨ι', ⟨_, rfl, .inl ⟨hk, c0, rx, ry, g4, g5, by rw [g6], g7, g1.cr _ _ hx, g1.cr _ _ hy⟩⟩, g1, g2, g3, hF.1, fun q h2 h3 => hF.2 q h2 fun z => h3 (.inr z)⟩
theorem cx_p205a {f j : Nat} (hf : 9 ≤ f) (hj : j ≤ 1) (hM : ∀ (sz : Nat) (n v : Int32) , Met l yX1_made (ws_ yX1_made cX1_made 5 (some (.object "FormulaVoice$Node"))) { frames := 4, cells := 1, slots := 5, locals := 160 } (fun a U => a = [.int n, .int (nI j), .null, .null, .int v].toArray ∧ U.heap.size = sz ∧ va_K D cl [] U) (fun _ st o t => ∃ q, o = .returned (some (.ref q)) ∧ sz ≤ q ∧ va_P D cl [(q, .inr (cx_ci j, [.int n, .int (nI j), .int 1, .int 1, .int v]))] t.heap ∧ va_F (fun z => sz ≤ z) st t) 1 5 (fun z => sz ≤ z)) {n v : Nat} {x y : Tr} (hx : tr_lf x = true) (hy : tr_lf y = true) : cx_Met l D cl ad d (f + 1) yX1_made (ws_ yX1_made cX1_made 5 (some (.object "FormulaVoice$Node"))) [.inl (.int (nI n)), .inl (.int (nI j)), .inr x, .inr y, .inl (.int (nI v))] σ (.inl (some (.inr (.inner n j v .leaf .leaf)))) (cs_mk σ 1 (cs_nf j)) := by
  have hnf : cs_nf j = 5 := by unfold cs_nf; rw [if_neg (by omega)]
  refine cx_Met.of 1 5 rfl (by rw [hnf]; rfl) fun ι U rargs hra hW hK => ?_
  obtain ⟨r1, rfl, s1⟩ := am_S2_i hra
  obtain ⟨r2, rfl, s2⟩ := am_S2_i s1
  obtain ⟨rx, r3, rfl, hrx, s3⟩ := am_S2_c s2
  obtain ⟨ry, r4, rfl, hry, s4⟩ := am_S2_c s3
  obtain ⟨r5, rfl, s5⟩ := am_S2_i s4
  obtain rfl := am_S2_n s5
  have hrx : cx_TR ad ι x rx := hrx
  have hry : cx_TR ad ι y ry := hry
  obtain rfl : x = .leaf := by cases x with | leaf => rfl | inner => cases hx
  obtain rfl : y = .leaf := by cases y with | leaf => rfl | inner => cases hy
  obtain rfl : rx = .null := hrx
  obtain rfl : ry = .null := hry
  refine ⟨_, _, _, _, hM U.heap.size (nI n) (nI v), ⟨by show 4 ≤ f + 1; omega, Nat.le_refl _, Nat.le_refl _, by show 160 ≤ 40 * (f + 1); omega⟩, ⟨rfl, rfl, hK.1.sub [] rfl⟩, fun o' t hq => ?_, fun q h => .inr h⟩
  obtain ⟨q, rfl, hsz, hP, hF⟩ := hq
  refine cx_mfin (rx := .null) (ry := .null) hW hsz ?_ hF (by omega) rfl rfl
  have := hP 0 _ rfl
  unfold cx_nfs
  rw [if_pos hj]
  exact this
theorem cx_p205b {f j : Nat} (hf : 9 ≤ f) (hj : 2 ≤ j ∧ j ≤ 6) (hM : ∀ (sz : Nat) (n v : Int32) (ax kx : Nat) (fx : List Value) (sx dx : Int32) (hkx : kx ≤ 9) (hsx : fx[2]? = some (.int sx)) (hdx : fx[3]? = some (.int dx)) (ay ky : Nat) (fy : List Value) (sy dy : Int32) (hky : ky ≤ 9) (hsy : fy[2]? = some (.int sy)) (hdy : fy[3]? = some (.int dy)), Met l yX1_made (ws_ yX1_made cX1_made 5 (some (.object "FormulaVoice$Node"))) { frames := 4, cells := 1, slots := 6, locals := 160 } (fun a U => a = [.int n, .int (nI j), .ref ax, .ref ay, .int v].toArray ∧ U.heap.size = sz ∧ va_K D cl [] U ∧ va_P D cl [(ax, .inr (cx_ci kx, fx))] U.heap ∧ va_P D cl [(ay, .inr (cx_ci ky, fy))] U.heap) (fun _ st o t => ∃ q, o = .returned (some (.ref q)) ∧ sz ≤ q ∧ va_P D cl [(q, .inr (cx_ci j, [.int n, .int (nI j), .int (1 + sx + sy), .int (1 + (if dx < dy then dy else dx)), .ref ax, .ref ay]))] t.heap ∧ va_F (fun z => sz ≤ z) st t) 1 6 (fun z => sz ≤ z)) {n : Nat} {v : Int32} {x y : Tr} (hx : tr_nd x = true) (hy : tr_nd y = true) (h5 : tr_dp x ≤ 1000) (h6 : tr_dp y ≤ 1000) : cx_Met l D cl ad d (f + 1) yX1_made (ws_ yX1_made cX1_made 5 (some (.object "FormulaVoice$Node"))) [.inl (.int (nI n)), .inl (.int (nI j)), .inr x, .inr y, .inl (.int v)] σ (.inl (some (.inr (.inner n j 0 x y)))) (cs_mk σ 1 (cs_nf j)) := by
  have hnf : cs_nf j = 6 := by unfold cs_nf; rw [if_pos (.inl hj)]
  refine cx_Met.of 1 6 rfl (by rw [hnf]; rfl) fun ι U rargs hra hW hK => ?_
  obtain ⟨r1, rfl, s1⟩ := am_S2_i hra
  obtain ⟨r2, rfl, s2⟩ := am_S2_i s1
  obtain ⟨rx, r3, rfl, hrx, s3⟩ := am_S2_c s2
  obtain ⟨ry, r4, rfl, hry, s4⟩ := am_S2_c s3
  obtain ⟨r5, rfl, s5⟩ := am_S2_i s4
  obtain rfl := am_S2_n s5
  have hrx : cx_TR ad ι x rx := hrx
  have hry : cx_TR ad ι y ry := hry
  obtain ⟨ax, qx, x1, x2, rfl, kx, atx, -, -⟩ := cx_nat (d := d) hW hx hrx
  obtain ⟨ay, qy, y1, y2, rfl, ky, aty, -, -⟩ := cx_nat (d := d) hW hy hry
  refine ⟨_, _, _, _, hM U.heap.size (nI n) v ax (tr_k x) _ (nI (tr_sz x)) (nI (tr_dp x)) kx rfl rfl ay (tr_k y) _ (nI (tr_sz y)) (nI (tr_dp y)) ky rfl rfl, ⟨by show 4 ≤ f + 1; omega, Nat.le_refl _, Nat.le_refl _, by show 160 ≤ 40 * (f + 1); omega⟩, ⟨rfl, rfl, hK.1.sub [] rfl, va_P1 (cw_P hW.1 _ _ atx), va_P1 (cw_P hW.1 _ _ aty)⟩, fun o' t hq => ?_, fun q h => .inr h⟩
  obtain ⟨q, rfl, hsz, hP, hF⟩ := hq
  refine cx_mfin (rx := .ref ax) (ry := .ref ay) hW hsz ?_ hF (by omega) hrx hry
  have := hP 0 _ rfl
  rw [nI_sz, nI_dp h5 h6] at this
  unfold cx_nfs
  rw [if_neg (by omega), if_pos hj.2]
  exact this
theorem cx_p205c {f j : Nat} (hf : 9 ≤ f) (hj : j = 7 ∨ j = 8) (hM : ∀ (sz : Nat) (n v : Int32) (ax kx : Nat) (fx : List Value) (sx dx : Int32) (hkx : kx ≤ 9) (hsx : fx[2]? = some (.int sx)) (hdx : fx[3]? = some (.int dx)), Met l yX1_made (ws_ yX1_made cX1_made 5 (some (.object "FormulaVoice$Node"))) { frames := 4, cells := 1, slots := 5, locals := 160 } (fun a U => a = [.int n, .int (nI j), .ref ax, .null, .int v].toArray ∧ U.heap.size = sz ∧ va_K D cl [] U ∧ va_P D cl [(ax, .inr (cx_ci kx, fx))] U.heap) (fun _ st o t => ∃ q, o = .returned (some (.ref q)) ∧ sz ≤ q ∧ va_P D cl [(q, .inr (cx_ci j, [.int n, .int (nI j), .int (1 + sx), .int (1 + dx), .ref ax]))] t.heap ∧ va_F (fun z => sz ≤ z) st t) 1 5 (fun z => sz ≤ z)) {n : Nat} {v : Int32} {x y : Tr} (hx : tr_nd x = true) (hy : tr_lf y = true) : cx_Met l D cl ad d (f + 1) yX1_made (ws_ yX1_made cX1_made 5 (some (.object "FormulaVoice$Node"))) [.inl (.int (nI n)), .inl (.int (nI j)), .inr x, .inr y, .inl (.int v)] σ (.inl (some (.inr (.inner n j 0 x .leaf)))) (cs_mk σ 1 (cs_nf j)) := by
  have hnf : cs_nf j = 5 := by unfold cs_nf; rw [if_neg (by omega)]
  refine cx_Met.of 1 5 rfl (by rw [hnf]; rfl) fun ι U rargs hra hW hK => ?_
  obtain ⟨r1, rfl, s1⟩ := am_S2_i hra
  obtain ⟨r2, rfl, s2⟩ := am_S2_i s1
  obtain ⟨rx, r3, rfl, hrx, s3⟩ := am_S2_c s2
  obtain ⟨ry, r4, rfl, hry, s4⟩ := am_S2_c s3
  obtain ⟨r5, rfl, s5⟩ := am_S2_i s4
  obtain rfl := am_S2_n s5
  have hrx : cx_TR ad ι x rx := hrx
  have hry : cx_TR ad ι y ry := hry
  obtain ⟨ax, qx, x1, x2, rfl, kx, atx, -, -⟩ := cx_nat (d := d) hW hx hrx
  obtain rfl : y = .leaf := by cases y with | leaf => rfl | inner => cases hy
  obtain rfl : ry = .null := hry
  refine ⟨_, _, _, _, hM U.heap.size (nI n) v ax (tr_k x) _ (nI (tr_sz x)) (nI (tr_dp x)) kx rfl rfl, ⟨by show 4 ≤ f + 1; omega, Nat.le_refl _, Nat.le_refl _, by show 160 ≤ 40 * (f + 1); omega⟩, ⟨rfl, rfl, hK.1.sub [] rfl, va_P1 (cw_P hW.1 _ _ atx)⟩, fun o' t hq => ?_, fun q h => .inr h⟩
  obtain ⟨q, rfl, hsz, hP, hF⟩ := hq
  refine cx_mfin (rx := .ref ax) (ry := .null) hW hsz ?_ hF (by omega) hrx rfl
  have := hP 0 _ rfl
  rw [nI_s1, nI_s1] at this
  unfold cx_nfs
  rw [if_neg (by omega), if_neg (by omega), if_pos (by omega)]
  show va_at D cl (q, .inr (cx_ci j, [.int (nI n), .int (nI j), .int (nI (1 + tr_sz x)), .int (nI (1 + max (tr_dp x) 0)), .ref ax])) t.heap
  rw [Nat.max_eq_left (Nat.zero_le _)]
  exact this
theorem cx_p205d {f j : Nat} (hf : 9 ≤ f) (hj : j = 9) (hM : ∀ (sz : Nat) (n v : Int32) (ax kx : Nat) (fx : List Value) (sx dx : Int32) (hkx : kx ≤ 9) (hsx : fx[2]? = some (.int sx)) (hdx : fx[3]? = some (.int dx)), Met l yX1_made (ws_ yX1_made cX1_made 5 (some (.object "FormulaVoice$Node"))) { frames := 4, cells := 1, slots := 6, locals := 160 } (fun a U => a = [.int n, .int (nI j), .ref ax, .null, .int v].toArray ∧ U.heap.size = sz ∧ va_K D cl [] U ∧ va_P D cl [(ax, .inr (cx_ci kx, fx))] U.heap) (fun _ st o t => ∃ q, o = .returned (some (.ref q)) ∧ sz ≤ q ∧ va_P D cl [(q, .inr (cx_ci j, [.int n, .int (nI j), .int (1 + sx), .int (1 + dx), .ref ax, .int v]))] t.heap ∧ va_F (fun z => sz ≤ z) st t) 1 6 (fun z => sz ≤ z)) {n v : Nat} {x y : Tr} (hx : tr_nd x = true) (hy : tr_lf y = true) : cx_Met l D cl ad d (f + 1) yX1_made (ws_ yX1_made cX1_made 5 (some (.object "FormulaVoice$Node"))) [.inl (.int (nI n)), .inl (.int (nI j)), .inr x, .inr y, .inl (.int (nI v))] σ (.inl (some (.inr (.inner n j v x .leaf)))) (cs_mk σ 1 (cs_nf j)) := by
  have hnf : cs_nf j = 6 := by unfold cs_nf; rw [if_pos (.inr hj)]
  refine cx_Met.of 1 6 rfl (by rw [hnf]; rfl) fun ι U rargs hra hW hK => ?_
  obtain ⟨r1, rfl, s1⟩ := am_S2_i hra
  obtain ⟨r2, rfl, s2⟩ := am_S2_i s1
  obtain ⟨rx, r3, rfl, hrx, s3⟩ := am_S2_c s2
  obtain ⟨ry, r4, rfl, hry, s4⟩ := am_S2_c s3
  obtain ⟨r5, rfl, s5⟩ := am_S2_i s4
  obtain rfl := am_S2_n s5
  have hrx : cx_TR ad ι x rx := hrx
  have hry : cx_TR ad ι y ry := hry
  obtain ⟨ax, qx, x1, x2, rfl, kx, atx, -, -⟩ := cx_nat (d := d) hW hx hrx
  obtain rfl : y = .leaf := by cases y with | leaf => rfl | inner => cases hy
  obtain rfl : ry = .null := hry
  refine ⟨_, _, _, _, hM U.heap.size (nI n) (nI v) ax (tr_k x) _ (nI (tr_sz x)) (nI (tr_dp x)) kx rfl rfl, ⟨by show 4 ≤ f + 1; omega, Nat.le_refl _, Nat.le_refl _, by show 160 ≤ 40 * (f + 1); omega⟩, ⟨rfl, rfl, hK.1.sub [] rfl, va_P1 (cw_P hW.1 _ _ atx)⟩, fun o' t hq => ?_, fun q h => .inr h⟩
  obtain ⟨q, rfl, hsz, hP, hF⟩ := hq
  refine cx_mfin (rx := .ref ax) (ry := .null) hW hsz ?_ hF (by omega) hrx rfl
  have := hP 0 _ rfl
  rw [nI_s1, nI_s1] at this
  unfold cx_nfs
  rw [if_neg (by omega), if_neg (by omega), if_neg (by omega)]
  show va_at D cl (q, .inr (cx_ci j, [.int (nI n), .int (nI j), .int (nI (1 + tr_sz x)), .int (nI (1 + max (tr_dp x) 0)), .ref ax, .int (nI v)])) t.heap
  rw [Nat.max_eq_left (Nat.zero_le _)]
  exact this
theorem nI_k {k : Int32} {a b : Nat} (hb : b < 2 ^ 31) (h1 : nI a ≤ k) (h2 : k ≤ nI b) (ha : a ≤ b) : ∃ j, a ≤ j ∧ j ≤ b ∧ k = nI j := by
  have h3 : ¬ k < 0 := fun z => by
    have h4 : (nI a).toInt ≤ k.toInt := Int32.le_iff_toInt_le.mp h1
    have h5 : k.toInt < (0 : Int32).toInt := Int32.lt_iff_toInt_lt.mp z
    rw [nI_toInt (by omega)] at h4
    have h6 : (0 : Int32).toInt = 0 := rfl
    omega
  obtain ⟨j, hj, rfl⟩ := nI_of h3
  exact ⟨j, (nI_leI (by omega) hj).mp h1, (nI_leI hj hb).mp h2, rfl⟩
/-- made -/
theorem cx_p205 (hcl : cx_clok cl) {f : Nat} (hf : 9 ≤ f) {n k v : Int32} {x y t : Tr} (h : cs_made n k v x y = some t) : cx_Met l D cl ad d (f + 1) yX1_made (ws_ yX1_made cX1_made 5 (some (.object "FormulaVoice$Node"))) [.inl (.int n), .inl (.int k), .inr x, .inr y, .inl (.int v)] σ (.inl (some (.inr t))) (cs_mk σ 1 (cs_nf (tr_k t))) := by
  unfold cs_made at h
  split at h
  · cases h
  · rename_i hn
    obtain ⟨n, hn', rfl⟩ := nI_of hn
    rw [nI_clamp hn'] at h
    split at h
    · rename_i hk
      split at h
      · cases h
      · rename_i hv
        obtain ⟨v, hv', rfl⟩ := nI_of hv
        obtain ⟨h1, h2⟩ := bif_e h
        obtain ⟨h3, h4⟩ := (Bool.and_eq_true _ _).mp h1
        rw [nI_clamp hv'] at h2
        cases h2
        rcases hk with rfl | rfl
        · exact cx_p205a (j := 0) hf (by omega) (jn_made_0 hcl) h3 h4
        · exact cx_p205a (j := 1) hf (by omega) (jn_made_1 hcl) h3 h4
    · split at h
      · rename_i hk
        obtain ⟨h1, h2⟩ := bif_e h
        obtain ⟨h3, h4⟩ := (Bool.and_eq_true _ _).mp h1
        obtain ⟨h5, h6⟩ := (Bool.and_eq_true _ _).mp h3
        obtain ⟨h7, h8⟩ := (Bool.and_eq_true _ _).mp h5
        obtain ⟨j, j1, j2, rfl⟩ := nI_k (a := 2) (b := 6) (by omega) hk.1 hk.2 (by omega)
        rw [nI_clamp (by omega)] at h2
        cases h2
        have h4 := Nat.le_of_ble_eq_true h4
        have h6 := Nat.le_of_ble_eq_true h6
        obtain rfl | rfl | rfl | rfl | rfl : j = 2 ∨ j = 3 ∨ j = 4 ∨ j = 5 ∨ j = 6 := by omega
        · exact cx_p205b (j := 2) hf (by omega) (jn_made_2 hcl) h7 h8 h6 h4
        · exact cx_p205b (j := 3) hf (by omega) (jn_made_3 hcl) h7 h8 h6 h4
        · exact cx_p205b (j := 4) hf (by omega) (jn_made_4 hcl) h7 h8 h6 h4
        · exact cx_p205b (j := 5) hf (by omega) (jn_made_5 hcl) h7 h8 h6 h4
        · exact cx_p205b (j := 6) hf (by omega) (jn_made_6 hcl) h7 h8 h6 h4
      · split at h
        · rename_i hk
          obtain ⟨h1, h2⟩ := bif_e h
          obtain ⟨h3, h4⟩ := (Bool.and_eq_true _ _).mp h1
          cases h2
          rcases hk with rfl | rfl
          · exact cx_p205c (j := 7) hf (by omega) (jn_made_7 hcl) h3 h4
          · exact cx_p205c (j := 8) hf (by omega) (jn_made_8 hcl) h3 h4
        · split at h
          · rename_i hk
            subst hk
            split at h
            · cases h
            · rename_i hv
              obtain ⟨v, hv', rfl⟩ := nI_of hv
              obtain ⟨h1, h2⟩ := bif_e h
              obtain ⟨h3, h4⟩ := (Bool.and_eq_true _ _).mp h1
              rw [nI_clamp hv'] at h2
              cases h2
              exact cx_p205d (j := 9) hf rfl (jn_made_9 hcl) h3 h4
          · cases h
/-- what the machine doesn't run meets its contract -/
theorem cx_hprim (hcl : cx_clok cl) : ∀ f mt as σ o σ1 q, cs_prim f mt as σ = some (o, σ1) → am_lk cx_MT mt = some q → am_lk cs_T mt = none → cx_Met l D cl ad d (f + 1) q.1 q.2.1 as σ o σ1 := by
  intro f mt as σ o σ1 q h hq _
  unfold cs_prim at h
  obtain ⟨hf, h⟩ := bif_e h
  have hf := Nat.le_of_ble_eq_true hf
  split at h
  · cases hq
    obtain ⟨c, h1, h2, h3⟩ := cs_lid_w h
    cases h2
    exact cx_p200 hcl h1 h3
  · cases hq
    obtain ⟨c, h1, h2, h3⟩ := cs_lid_w h
    obtain ⟨h4, h5⟩ := am_ix_e h2
    cases h5
    exact cx_p201 hcl hf h1 h3 h4
  · cases hq
    obtain ⟨c, h1, h2, h3⟩ := cs_lid_w h
    obtain ⟨h4, h5⟩ := bif_e h2
    obtain ⟨h6, h7⟩ := (Bool.and_eq_true _ _).mp h4
    cases h5
    exact cx_p202 hcl hf h1 h3 h6 (Nat.le_of_ble_eq_true h7)
  · cases hq
    obtain ⟨c, h1, h2, h3⟩ := cs_lid_w h
    split at h2
    · cases h2
    · rename_i x l' hl
      split at h2
      · rename_i hi
        cases h2
        subst hi
        exact cx_p203 hcl hf h1 h3 hl
      · cases h2
  · cases hq
    split at h
    · rename_i hn
      cases h
      exact cx_p204 hcl hf hn
    · cases h
  · cases hq
    split at h
    · rename_i t ht
      cases h
      exact cx_p205 hcl hf ht
    · cases h
  · cases h
/-- EVERY METHOD OF THE COMPONENT's MACHINE MEETS ITS CONTRACT -/
theorem cx_all (hcl : cx_clok cl) (N f : Nat) : cx_IH l D cl ad d f (cs_call N f) := cx_IH_all hcl (cx_hprim hcl) N f
end
