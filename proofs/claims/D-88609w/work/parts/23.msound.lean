/-! THE MODEL's MACHINE IS SOUND. -/
theorem am_ro.v {TR : Tr → Value → Prop} {ad : Nat → Nat} {rv : Option Value} (h : am_ro TR ad none rv) : rv = none := by
  cases rv with
  | none => rfl
  | some _ => exact h.elim
theorem am_ro.s {TR : Tr → Value → Prop} {ad : Nat → Nat} {v : am_V} {rv : Option Value} (h : am_ro TR ad (some v) rv) : ∃ w, rv = some w ∧ am_vr TR ad v w := by
  cases rv with
  | none => exact h.elim
  | some w => exact ⟨w, rfl, h⟩
theorem am_tk_e {α : Type} {res : α} : ∀ {n : Nat} {st acc : List am_V} {k : List am_V → List am_V → Option α}, am_tk n st acc k = some res → ∃ as r, st = as ++ r ∧ as.length = n ∧ k (as.reverse ++ acc) r = some res
  | 0, st, acc, k, h => ⟨[], st, rfl, rfl, h⟩
  | n + 1, v :: st, acc, k, h => by
    obtain ⟨as, r, h1, h2, h3⟩ := am_tk_e (n := n) (st := st) (acc := v :: acc) (k := k) h
    refine ⟨v :: as, r, by rw [h1]; rfl, by rw [List.length_cons, h2], ?_⟩
    rw [List.reverse_cons, List.append_assoc]
    exact h3
  | n + 1, [], acc, k, h => by cases h
theorem am_S2_app {P : am_V → Value → Prop} : ∀ {as : List am_V} {r : List am_V} {rs : List Value}, am_S2 P (as ++ r) rs → ∃ ra rr, rs = ra ++ rr ∧ am_S2 P as ra ∧ am_S2 P r rr ∧ ra.length = as.length
  | [], r, rs, h => ⟨[], rs, rfl, trivial, h, rfl⟩
  | v :: as, r, rs, h => by
    obtain ⟨x, rr, rfl, h1, h2⟩ := am_S2_c (vs := as ++ r) h
    obtain ⟨ra, r2, rfl, h3, h4, h5⟩ := am_S2_app h2
    exact ⟨x :: ra, r2, rfl, ⟨h1, h3⟩, h4, by rw [List.length_cons, List.length_cons, h5]⟩
theorem am_S2_snoc {P : am_V → Value → Prop} : ∀ {as : List am_V} {ra : List Value} {v : am_V} {rv : Value}, am_S2 P as ra → P v rv → am_S2 P (as ++ [v]) (ra ++ [rv])
  | [], ra, v, rv, h, hv => by
    obtain rfl := am_S2_n h
    exact ⟨hv, trivial⟩
  | u :: as, ra, v, rv, h, hv => by
    obtain ⟨x, rr, rfl, h1, h2⟩ := am_S2_c h
    exact ⟨h1, am_S2_snoc h2 hv⟩
theorem am_S2_rev {P : am_V → Value → Prop} : ∀ {as : List am_V} {ra : List Value}, am_S2 P as ra → am_S2 P as.reverse ra.reverse
  | [], ra, h => by
    obtain rfl := am_S2_n h
    exact trivial
  | u :: as, ra, h => by
    obtain ⟨x, rr, rfl, h1, h2⟩ := am_S2_c h
    rw [List.reverse_cons, List.reverse_cons]
    exact am_S2_snoc (am_S2_rev h2) h1
theorem am_S2_len {P : am_V → Value → Prop} : ∀ {as : List am_V} {ra : List Value}, am_S2 P as ra → ra.length = as.length
  | [], ra, h => by
    obtain rfl := am_S2_n h
    rfl
  | u :: as, ra, h => by
    obtain ⟨x, rr, rfl, h1, h2⟩ := am_S2_c h
    rw [List.length_cons, List.length_cons, am_S2_len h2]
theorem am_weigh {TR : Tr → Value → Prop} {ad : Nat → Nat} (hT : am_TRok TR) : ∀ {r : List am_V} {rr : List Value}, am_S2 (am_vr TR ad) r rr → (rr.map fun v => v.category).sum = am_wt r
  | [], rr, h => by
    obtain rfl := am_S2_n h
    rfl
  | v :: r, rr, h => by
    obtain ⟨x, r2, rfl, h1, h2⟩ := am_S2_c h
    rw [List.map_cons, List.sum_cons, am_weigh hT h2, am_vr_cat hT h1, am_wt]
section
variable {p : Program} {l : Launch} {e : Env} {R : Room} {s : State} {m : MethodId} {args : Array Value} {below : List Frame} {meth : Method} {c : Code} {H : Heap} {locs : List Loc} {cells slots : Nat} {Q : State → Prop}
/-- behind a call, its end free -/
theorem am_callR {mc ms pc : Nat} {ls : Array Slot} {st0 rest : List Value} {Qa : State → Outcome → State → Prop} {free : Addr → Prop} (hr : va_Run p l e R s m args below meth c H locs cells slots mc ms (F0 m pc ls st0) rest Qa free)
    (kk : ∀ (v : Option Value) (st₀ t : State) (L : List Loc), st₀.heap = H → s.WarmedH t.vm → Qa st₀ (.returned v) t → (∀ q ∈ L, free q.base) → W p l e R s m args below meth c t.heap (locs ++ L) (cells + mc) (slots + ms) Q (F0 m (pc + 3) ls (v.toList ++ rest))) : W p l e R s m args below meth c H locs cells slots Q (F0 m pc ls st0) := by
  intro T hT X
  obtain ⟨v, st₀, t, T', L, h0, X', hL, e1, e2, hq, st⟩ := hr T hT X
  obtain ⟨t2, a1, b1⟩ := kk v st₀ t L h0 (by rw [← e2]; exact X'.warmed) hq hL T' e1 X'
  exact ⟨t2, st t2 a1, b1⟩
end
theorem am_ix_e {α : Type} {res : α} {i : Int32} {n : Nat} {k : Nat → Option α} (h : am_ix i n k = some res) : vp_in i n ∧ k i.toNatClampNeg = some res := by
  unfold am_ix at h
  split at h
  · cases h
  · rename_i hn
    exact ⟨hn, h⟩
theorem am_cr_e {S : Type} {rk : Nat} {r : am_R S} {kx : Nat → S → am_R S} {k : List am_V → S → am_R S} {st : List am_V} {res : am_O × S} (hk : kx = am_tx) (hr : ∃ v, res.1 = .inl v) (h : am_cr rk r kx k st = some res) : ∃ o s', r = some (.inl o, s') ∧ ((rk = 0 ∧ o = none ∧ k st s' = some res) ∨ (∃ x, o = some (.inl (.int x)) ∧ k (.inl (.int x) :: st) s' = some res) ∨ (∃ x, o = some (.inl (.long x)) ∧ k (.inl (.long x) :: st) s' = some res) ∨ (∃ x, o = some (.inr x) ∧ k (.inr x :: st) s' = some res)) := by
  subst hk
  have hno : ∀ x (s' : S), am_tx x s' = some res → False := by
    intro x s' q
    obtain ⟨v, hv⟩ := hr
    cases q
    cases hv
  unfold am_cr at h
  split at h
  · unfold am_cv at h
    split at h
    · exact ⟨_, _, rfl, .inl ⟨rfl, rfl, h⟩⟩
    · exact (hno _ _ h).elim
    · cases h
  · unfold am_ci at h
    split at h
    · exact ⟨_, _, rfl, .inr (.inl ⟨_, rfl, h⟩)⟩
    · exact (hno _ _ h).elim
    · cases h
  · unfold am_cl at h
    split at h
    · exact ⟨_, _, rfl, .inr (.inr (.inl ⟨_, rfl, h⟩))⟩
    · exact (hno _ _ h).elim
    · cases h
  · unfold am_ct at h
    split at h
    · exact ⟨_, _, rfl, .inr (.inr (.inr ⟨_, rfl, h⟩))⟩
    · exact (hno _ _ h).elim
    · cases h
