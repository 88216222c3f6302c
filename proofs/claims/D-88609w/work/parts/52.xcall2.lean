/-! MORE CALLS: a superclass's method; what returns by the kit's rows. -/
section
variable {p : Program} {l : Launch} {e : Env} {R : Room} {s : State} {m : MethodId} {args : Array Value} {below : List Frame} {meth : Method} {c : Code} {H : Heap} {locs : List Loc} {cells slots : Nat} {Q : State → Prop}
theorem xm_Run.of {mc ms pc : Nat} {ls : Array Slot} {st0 rest : List Value} {Qa : State → Outcome → State → Prop} {free : Addr → Prop} (h : va_Run p l e R s m args below meth c H locs cells slots mc ms (F0 m pc ls st0) rest Qa free) : xm_Run p l e R s m args below meth c H locs cells slots mc ms (F0 m pc ls st0) rest Qa free := by
  intro T hT X
  obtain ⟨v, st₀, t, T', L, h0, X', hL, e1, e2, hq, st⟩ := h T hT X
  exact ⟨.returned v, st₀, t, T', L, h0, X', hL, e1, e2, hq, st⟩
variable {y : MethodName} {cc : ByteArray} {maxL nL mc ms n index : Nat} {ws : List Cond} {rm : Room} {Pc : Array Value → State → Prop} {Qc : Array Value → State → Outcome → State → Prop} {free : Addr → Prop} {Ts : List Cond} {own C owner : String} {b : Addr} {As rest : List Value} {pc : Nat} {ls : Array Slot} {st0 : List Value} {x : MethodName}
/-- super.m(..), where the superclass inherits m from its own superclass -/
theorem xm_runP {cC : ClassId} (hat : ClassAt s C cC) (S : CallFix p m c cc nL s args Ts own) (hM : xm_Met l y ws rm Pc Qc mc ms free) (hB : xm_B R s y maxL ws rm mc ms) (hyx : y = ⟨owner, x.name, x.desc⟩)
    (hlink : (Cond.methodLink own index x).before args s = true) (hsame : (Cond.sameMethod x.cls owner x.name x.desc).before args s = true) (hsup : (Cond.superclass own x.cls).before args s = true) (hsup2 : (Cond.superclass x.cls owner).before args s = true) (hinst : (Cond.instanceMethod y).before args s = true) (hno : x.name ≠ "<init>")
    (hnp : (parseMethodDescriptor x.desc).map (fun d => d.parameters.length) = some n) (hp : PreV s H C b Pc As) (hn : As.length = n) (hsize : ls.size = nL) (hstack : st0 = As.reverse ++ .ref b :: rest) (hW : (rest.map fun v => v.category).sum ≤ 8) (hdg : decode cc pc = .ok (.invokespecial index, 3)) (hf : cells + mc ≤ R.cells ∧ slots + ms ≤ R.slots) :
    xm_Run p l e R s m args below meth c H locs cells slots mc ms (F0 m pc ls st0) rest (Qc (Value.ref b :: As).toArray) free := by
  obtain ⟨hx, hb, hml, ho, -⟩ := S
  obtain ⟨hbl, ⟨cellB, hcB, hoB, hclB⟩, hPc⟩ := hp
  obtain ⟨hfc, kB, hkB, -⟩ := hat
  cases hfc.symm.trans hclB
  intro T hT X
  obtain ⟨mk, methM, hnamed, hmethM, hstM, habM⟩ := Cond.instanceMethod_spec hinst
  obtain ⟨methM', cM, hmethM', -, -, hsigM⟩ := hB.2.2.2.2.2.1 s (State.WarmedH.refl _) mk hnamed
  cases hmethM.symm.trans hmethM'
  obtain ⟨ps, dk, kp, hps, hdk, hkp, hsuper, -, -, hnid⟩ := Cond.superclass_spec ho hsup
  obtain ⟨ps2, dk2, kp2, hps2, hdk2, hkp2, hsuper2, -, -, -⟩ := Cond.superclass_spec hps hsup2
  have hn2 : s.methodNamed? ⟨owner, x.name, x.desc⟩ = some mk := by rw [← hyx]; exact hnamed
  have hpm : ps2 = mk.cls := Option.some.inj (hps2.symm.trans (findClass_of_methodNamed hn2))
  have hsub : s.vm.isSubclass ps mk.cls = true := by
    rw [← hpm]
    have hlen : ∃ n, s.vm.classes.size = n + 1 := by
      have := (Array.getElem?_eq_some_iff.mp hdk2).1
      exact ⟨s.vm.classes.size - 1, by omega⟩
    obtain ⟨n0, hn0⟩ := hlen
    unfold Vm.isSubclass
    rw [hn0]
    simp [Vm.isSubclassAux, hdk2, hsuper2]
  have hnp2 : (parseMethodDescriptor y.desc).map (fun d => d.parameters.length) = some n := by rw [hyx]; exact hnp
  rw [hsigM] at hnp2
  obtain ⟨vm₁, X₁, hstep₁⟩ := X.invokespecialUp hx ho hlink hsame hn2 hmethM hstM habM hno hdk hnid hps hsuper hsub (a := b) (cell := cellB) (by rw [hT]; exact hcB)
    (fun z h => by rw [h] at hoB; cases hoB) hkB (g := F0 m pc ls st0) rfl (argsL := As) (rest := rest) (hn.trans (Option.some.inj hnp2).symm) hstack (by rw [hb]; exact hdg)
  obtain ⟨o, t, B, L, X', e1, e2, hq, hL, hsteps⟩ := xm_back hM hbl hB (g := { F0 m pc ls st0 with stack := rest }) (ig := .invokespecial index) (len := 3) (a := (Value.ref b :: As).toArray) X₁ rfl (hsize.trans hml.symm) (by rw [hb]; exact hdg) (by show 2 * 0 + _ ≤ 8; simpa using hW) (X₁.named hnamed) hf.1 hf.2 (hPc _ hT X₁.warmed)
  exact ⟨o, (T.setVm vm₁).calling { F0 m pc ls st0 with stack := rest } mk (Value.ref b :: As).toArray, t, B, L, hT, X', hL, e1, e2, hq, fun tg h => hstep₁ _ (by rw [doInvoke_state]; exact hsteps.trans h)⟩
end
