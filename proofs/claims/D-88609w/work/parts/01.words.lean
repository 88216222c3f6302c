-- ===== PART A: goes FIRST, ahead of the names: the tables' words, and 'selects' of the private methods out of them =====
/-- a private method of a class that the tables say can be made, by its rows of tables_1 -/
def lw_okq (q : MethodName × Nat) : Prop := (q.1.cls ≠ "java/lang/invoke/MethodHandle" ∧ q.1.cls ≠ "java/lang/invoke/VarHandle") ∧ Cond.instantiable q.1.cls q.2 ∈ tables_1 ∧ Cond.privateMethod q.1 ∈ tables_1 ∧ Cond.instanceMethod q.1 ∈ tables_1
set_option maxRecDepth 100000
theorem lw_t1 {w : Cond} (h : w ∈ tables_1_1) : w ∈ tables_1 := List.mem_append_left _ h
theorem lw_t2 {w : Cond} (h : w ∈ tables_1_2) : w ∈ tables_1 := List.mem_append_right _ (List.mem_append_left _ h)
theorem lw_t3 {w : Cond} (h : w ∈ tables_1_3) : w ∈ tables_1 := List.mem_append_right _ (List.mem_append_right _ (List.mem_append_left _ h))
theorem lw_t4 {w : Cond} (h : w ∈ tables_1_4) : w ∈ tables_1 := List.mem_append_right _ (List.mem_append_right _ (List.mem_append_right _ (List.mem_append_left _ h)))
theorem lw_t5 {w : Cond} (h : w ∈ tables_1_5) : w ∈ tables_1 := List.mem_append_right _ (List.mem_append_right _ (List.mem_append_right _ (List.mem_append_right _ (List.mem_append_left _ h))))
theorem lw_t6 {w : Cond} (h : w ∈ tables_1_6) : w ∈ tables_1 := List.mem_append_right _ (List.mem_append_right _ (List.mem_append_right _ (List.mem_append_right _ (List.mem_append_right _ (List.mem_append_left _ h)))))
theorem lw_t7 {w : Cond} (h : w ∈ tables_1_7) : w ∈ tables_1 := List.mem_append_right _ (List.mem_append_right _ (List.mem_append_right _ (List.mem_append_right _ (List.mem_append_right _ (List.mem_append_right _ h)))))
theorem lw_p0 : lw_okq (⟨"FormulaVoice", "adds", "(LFormulaVoice$Node;)I"⟩, 19) := ⟨⟨by decide +kernel, by decide +kernel⟩, lw_t1 (List.mem_of_getElem? (i := 180) rfl), lw_t1 (List.mem_of_getElem? (i := 178) rfl), lw_t1 (List.mem_of_getElem? (i := 179) rfl)⟩
theorem lw_p1 : lw_okq (⟨"java/util/ArrayList", "add", "(Ljava/lang/Object;[Ljava/lang/Object;I)V"⟩, 3) := ⟨⟨by decide +kernel, by decide +kernel⟩, lw_t1 (List.mem_of_getElem? (i := 189) rfl), lw_t1 (List.mem_of_getElem? (i := 187) rfl), lw_t1 (List.mem_of_getElem? (i := 188) rfl)⟩
theorem lw_p2 : lw_okq (⟨"java/util/ArrayList", "grow", "()[Ljava/lang/Object;"⟩, 3) := ⟨⟨by decide +kernel, by decide +kernel⟩, lw_t1 (List.mem_of_getElem? (i := 189) rfl), lw_t1 (List.mem_of_getElem? (i := 192) rfl), lw_t1 (List.mem_of_getElem? (i := 193) rfl)⟩
theorem lw_p3 : lw_okq (⟨"java/util/ArrayList", "grow", "(I)[Ljava/lang/Object;"⟩, 3) := ⟨⟨by decide +kernel, by decide +kernel⟩, lw_t1 (List.mem_of_getElem? (i := 189) rfl), lw_t1 (List.mem_of_getElem? (i := 196) rfl), lw_t1 (List.mem_of_getElem? (i := 197) rfl)⟩
theorem lw_p4 : lw_okq (⟨"FormulaVoice", "isNode", "(I)Z"⟩, 19) := ⟨⟨by decide +kernel, by decide +kernel⟩, lw_t1 (List.mem_of_getElem? (i := 180) rfl), lw_t2 (List.mem_of_getElem? (i := 17) rfl), lw_t2 (List.mem_of_getElem? (i := 18) rfl)⟩
theorem lw_p5 : lw_okq (⟨"java/util/ArrayList", "fastRemove", "([Ljava/lang/Object;I)V"⟩, 3) := ⟨⟨by decide +kernel, by decide +kernel⟩, lw_t1 (List.mem_of_getElem? (i := 189) rfl), lw_t2 (List.mem_of_getElem? (i := 44) rfl), lw_t2 (List.mem_of_getElem? (i := 45) rfl)⟩
theorem lw_p6 : lw_okq (⟨"FormulaVoice", "says", "(LFormulaVoice$Words;LFormulaVoice$Node;II)Z"⟩, 19) := ⟨⟨by decide +kernel, by decide +kernel⟩, lw_t1 (List.mem_of_getElem? (i := 180) rfl), lw_t2 (List.mem_of_getElem? (i := 162) rfl), lw_t2 (List.mem_of_getElem? (i := 163) rfl)⟩
theorem lw_p7 : lw_okq (⟨"FormulaVoice", "saysSo", "(LFormulaVoice$Words;LFormulaVoice$Node;)Z"⟩, 19) := ⟨⟨by decide +kernel, by decide +kernel⟩, lw_t1 (List.mem_of_getElem? (i := 180) rfl), lw_t2 (List.mem_of_getElem? (i := 166) rfl), lw_t2 (List.mem_of_getElem? (i := 167) rfl)⟩
theorem lw_p8 : lw_okq (⟨"FormulaVoice", "grows", "()V"⟩, 19) := ⟨⟨by decide +kernel, by decide +kernel⟩, lw_t1 (List.mem_of_getElem? (i := 180) rfl), lw_t3 (List.mem_of_getElem? (i := 25) rfl), lw_t3 (List.mem_of_getElem? (i := 26) rfl)⟩
theorem lw_p9 : lw_okq (⟨"FormulaVoice", "takes", "(LFormulaVoice$Words;)V"⟩, 19) := ⟨⟨by decide +kernel, by decide +kernel⟩, lw_t1 (List.mem_of_getElem? (i := 180) rfl), lw_t3 (List.mem_of_getElem? (i := 42) rfl), lw_t3 (List.mem_of_getElem? (i := 43) rfl)⟩
theorem lw_p10 : lw_okq (⟨"FormulaVoice", "listens", "(I)J"⟩, 19) := ⟨⟨by decide +kernel, by decide +kernel⟩, lw_t1 (List.mem_of_getElem? (i := 180) rfl), lw_t3 (List.mem_of_getElem? (i := 63) rfl), lw_t3 (List.mem_of_getElem? (i := 64) rfl)⟩
theorem lw_p11 : lw_okq (⟨"FormulaVoice", "span", "(II)J"⟩, 19) := ⟨⟨by decide +kernel, by decide +kernel⟩, lw_t1 (List.mem_of_getElem? (i := 180) rfl), lw_t3 (List.mem_of_getElem? (i := 67) rfl), lw_t3 (List.mem_of_getElem? (i := 68) rfl)⟩
theorem lw_p12 : lw_okq (⟨"FormulaVoice", "ofKind", "(IZIII)J"⟩, 19) := ⟨⟨by decide +kernel, by decide +kernel⟩, lw_t1 (List.mem_of_getElem? (i := 180) rfl), lw_t3 (List.mem_of_getElem? (i := 72) rfl), lw_t3 (List.mem_of_getElem? (i := 73) rfl)⟩
theorem lw_p13 : lw_okq (⟨"FormulaVoice", "mayBe", "(IZ)Z"⟩, 19) := ⟨⟨by decide +kernel, by decide +kernel⟩, lw_t1 (List.mem_of_getElem? (i := 180) rfl), lw_t3 (List.mem_of_getElem? (i := 76) rfl), lw_t3 (List.mem_of_getElem? (i := 77) rfl)⟩
theorem lw_p14 : lw_okq (⟨"FormulaVoice", "plain", "(IIII)J"⟩, 19) := ⟨⟨by decide +kernel, by decide +kernel⟩, lw_t1 (List.mem_of_getElem? (i := 180) rfl), lw_t3 (List.mem_of_getElem? (i := 80) rfl), lw_t3 (List.mem_of_getElem? (i := 81) rfl)⟩
theorem lw_p15 : lw_okq (⟨"FormulaVoice", "isLetter", "(IZ)Z"⟩, 19) := ⟨⟨by decide +kernel, by decide +kernel⟩, lw_t1 (List.mem_of_getElem? (i := 180) rfl), lw_t3 (List.mem_of_getElem? (i := 84) rfl), lw_t3 (List.mem_of_getElem? (i := 85) rfl)⟩
def lw_privs_1 : List (MethodName × Nat) := [(⟨"FormulaVoice", "adds", "(LFormulaVoice$Node;)I"⟩, 19), (⟨"java/util/ArrayList", "add", "(Ljava/lang/Object;[Ljava/lang/Object;I)V"⟩, 3), (⟨"java/util/ArrayList", "grow", "()[Ljava/lang/Object;"⟩, 3), (⟨"java/util/ArrayList", "grow", "(I)[Ljava/lang/Object;"⟩, 3), (⟨"FormulaVoice", "isNode", "(I)Z"⟩, 19), (⟨"java/util/ArrayList", "fastRemove", "([Ljava/lang/Object;I)V"⟩, 3), (⟨"FormulaVoice", "says", "(LFormulaVoice$Words;LFormulaVoice$Node;II)Z"⟩, 19), (⟨"FormulaVoice", "saysSo", "(LFormulaVoice$Words;LFormulaVoice$Node;)Z"⟩, 19), (⟨"FormulaVoice", "grows", "()V"⟩, 19), (⟨"FormulaVoice", "takes", "(LFormulaVoice$Words;)V"⟩, 19), (⟨"FormulaVoice", "listens", "(I)J"⟩, 19), (⟨"FormulaVoice", "span", "(II)J"⟩, 19), (⟨"FormulaVoice", "ofKind", "(IZIII)J"⟩, 19), (⟨"FormulaVoice", "mayBe", "(IZ)Z"⟩, 19), (⟨"FormulaVoice", "plain", "(IIII)J"⟩, 19), (⟨"FormulaVoice", "isLetter", "(IZ)Z"⟩, 19)]
theorem lw_r1 : ∀ q ∈ lw_privs_1, lw_okq q := List.forall_mem_cons.mpr ⟨lw_p0, List.forall_mem_cons.mpr ⟨lw_p1, List.forall_mem_cons.mpr ⟨lw_p2, List.forall_mem_cons.mpr ⟨lw_p3, List.forall_mem_cons.mpr ⟨lw_p4, List.forall_mem_cons.mpr ⟨lw_p5, List.forall_mem_cons.mpr ⟨lw_p6, List.forall_mem_cons.mpr ⟨lw_p7, List.forall_mem_cons.mpr ⟨lw_p8, List.forall_mem_cons.mpr ⟨lw_p9, List.forall_mem_cons.mpr ⟨lw_p10, List.forall_mem_cons.mpr ⟨lw_p11, List.forall_mem_cons.mpr ⟨lw_p12, List.forall_mem_cons.mpr ⟨lw_p13, List.forall_mem_cons.mpr ⟨lw_p14, List.forall_mem_cons.mpr ⟨lw_p15, fun _ h => absurd h List.not_mem_nil⟩⟩⟩⟩⟩⟩⟩⟩⟩⟩⟩⟩⟩⟩⟩⟩
theorem lw_p16 : lw_okq (⟨"FormulaVoice", "numberOf", "(II)I"⟩, 19) := ⟨⟨by decide +kernel, by decide +kernel⟩, lw_t1 (List.mem_of_getElem? (i := 180) rfl), lw_t3 (List.mem_of_getElem? (i := 88) rfl), lw_t3 (List.mem_of_getElem? (i := 89) rfl)⟩
theorem lw_p17 : lw_okq (⟨"FormulaVoice", "reading", "(IIJLjava/util/ArrayList;)LFormulaVoice$Node;"⟩, 19) := ⟨⟨by decide +kernel, by decide +kernel⟩, lw_t1 (List.mem_of_getElem? (i := 180) rfl), lw_t3 (List.mem_of_getElem? (i := 121) rfl), lw_t3 (List.mem_of_getElem? (i := 122) rfl)⟩
theorem lw_p18 : lw_okq (⟨"FormulaVoice", "reading", "(IIIIJLjava/util/ArrayList;)LFormulaVoice$Node;"⟩, 19) := ⟨⟨by decide +kernel, by decide +kernel⟩, lw_t1 (List.mem_of_getElem? (i := 180) rfl), lw_t3 (List.mem_of_getElem? (i := 125) rfl), lw_t3 (List.mem_of_getElem? (i := 126) rfl)⟩
theorem lw_p19 : lw_okq (⟨"FormulaVoice", "placeOf", "(LFormulaVoice$Node;II)J"⟩, 19) := ⟨⟨by decide +kernel, by decide +kernel⟩, lw_t1 (List.mem_of_getElem? (i := 180) rfl), lw_t3 (List.mem_of_getElem? (i := 135) rfl), lw_t3 (List.mem_of_getElem? (i := 136) rfl)⟩
theorem lw_p20 : lw_okq (⟨"FormulaVoice", "placeOf", "(LFormulaVoice$Node;III)J"⟩, 19) := ⟨⟨by decide +kernel, by decide +kernel⟩, lw_t1 (List.mem_of_getElem? (i := 180) rfl), lw_t3 (List.mem_of_getElem? (i := 139) rfl), lw_t3 (List.mem_of_getElem? (i := 140) rfl)⟩
theorem lw_p21 : lw_okq (⟨"FormulaVoice", "isSure", "(LFormulaVoice$Node;I)Z"⟩, 19) := ⟨⟨by decide +kernel, by decide +kernel⟩, lw_t1 (List.mem_of_getElem? (i := 180) rfl), lw_t3 (List.mem_of_getElem? (i := 160) rfl), lw_t3 (List.mem_of_getElem? (i := 161) rfl)⟩
theorem lw_p22 : lw_okq (⟨"FormulaVoice", "chooses", "(LFormulaVoice$Node;)V"⟩, 19) := ⟨⟨by decide +kernel, by decide +kernel⟩, lw_t1 (List.mem_of_getElem? (i := 180) rfl), lw_t3 (List.mem_of_getElem? (i := 164) rfl), lw_t3 (List.mem_of_getElem? (i := 165) rfl)⟩
theorem lw_p23 : lw_okq (⟨"FormulaVoice", "goesDown", "(Z)Z"⟩, 19) := ⟨⟨by decide +kernel, by decide +kernel⟩, lw_t1 (List.mem_of_getElem? (i := 180) rfl), lw_t3 (List.mem_of_getElem? (i := 179) rfl), lw_t3 (List.mem_of_getElem? (i := 180) rfl)⟩
theorem lw_p24 : lw_okq (⟨"java/lang/NullPointerException", "getExtendedNPEMessage", "()Ljava/lang/String;"⟩, 8) := ⟨⟨by decide +kernel, by decide +kernel⟩, lw_t4 (List.mem_of_getElem? (i := 28) rfl), lw_t4 (List.mem_of_getElem? (i := 26) rfl), lw_t4 (List.mem_of_getElem? (i := 27) rfl)⟩
theorem lw_p25 : lw_okq (⟨"java/lang/Throwable", "fillInStackTrace", "(I)Ljava/lang/Throwable;"⟩, 6) := ⟨⟨by decide +kernel, by decide +kernel⟩, lw_t4 (List.mem_of_getElem? (i := 40) rfl), lw_t4 (List.mem_of_getElem? (i := 38) rfl), lw_t4 (List.mem_of_getElem? (i := 39) rfl)⟩
theorem lw_p26 : lw_okq (⟨"FormulaVoice", "rowOf", "(II)Ljava/lang/Object;"⟩, 19) := ⟨⟨by decide +kernel, by decide +kernel⟩, lw_t1 (List.mem_of_getElem? (i := 180) rfl), lw_t4 (List.mem_of_getElem? (i := 176) rfl), lw_t4 (List.mem_of_getElem? (i := 177) rfl)⟩
theorem lw_p27 : lw_okq (⟨"FormulaVoiceModel", "sets", "(IIIII)V"⟩, 35) := ⟨⟨by decide +kernel, by decide +kernel⟩, lw_t5 (List.mem_of_getElem? (i := 162) rfl), lw_t6 (List.mem_of_getElem? (i := 47) rfl), lw_t6 (List.mem_of_getElem? (i := 48) rfl)⟩
theorem lw_p28 : lw_okq (⟨"FormulaVoiceModel", "isNode", "(I)Z"⟩, 35) := ⟨⟨by decide +kernel, by decide +kernel⟩, lw_t5 (List.mem_of_getElem? (i := 162) rfl), lw_t6 (List.mem_of_getElem? (i := 56) rfl), lw_t6 (List.mem_of_getElem? (i := 57) rfl)⟩
theorem lw_p29 : lw_okq (⟨"FormulaVoiceModel", "isRight", "(I)Z"⟩, 35) := ⟨⟨by decide +kernel, by decide +kernel⟩, lw_t5 (List.mem_of_getElem? (i := 162) rfl), lw_t6 (List.mem_of_getElem? (i := 76) rfl), lw_t6 (List.mem_of_getElem? (i := 77) rfl)⟩
theorem lw_p30 : lw_okq (⟨"FormulaVoiceModel", "areAlike", "(II)Z"⟩, 35) := ⟨⟨by decide +kernel, by decide +kernel⟩, lw_t5 (List.mem_of_getElem? (i := 162) rfl), lw_t6 (List.mem_of_getElem? (i := 84) rfl), lw_t6 (List.mem_of_getElem? (i := 85) rfl)⟩
theorem lw_p31 : lw_okq (⟨"FormulaVoiceModel", "has", "(II)I"⟩, 35) := ⟨⟨by decide +kernel, by decide +kernel⟩, lw_t5 (List.mem_of_getElem? (i := 162) rfl), lw_t6 (List.mem_of_getElem? (i := 92) rfl), lw_t6 (List.mem_of_getElem? (i := 93) rfl)⟩
def lw_privs_2 : List (MethodName × Nat) := [(⟨"FormulaVoice", "numberOf", "(II)I"⟩, 19), (⟨"FormulaVoice", "reading", "(IIJLjava/util/ArrayList;)LFormulaVoice$Node;"⟩, 19), (⟨"FormulaVoice", "reading", "(IIIIJLjava/util/ArrayList;)LFormulaVoice$Node;"⟩, 19), (⟨"FormulaVoice", "placeOf", "(LFormulaVoice$Node;II)J"⟩, 19), (⟨"FormulaVoice", "placeOf", "(LFormulaVoice$Node;III)J"⟩, 19), (⟨"FormulaVoice", "isSure", "(LFormulaVoice$Node;I)Z"⟩, 19), (⟨"FormulaVoice", "chooses", "(LFormulaVoice$Node;)V"⟩, 19), (⟨"FormulaVoice", "goesDown", "(Z)Z"⟩, 19), (⟨"java/lang/NullPointerException", "getExtendedNPEMessage", "()Ljava/lang/String;"⟩, 8), (⟨"java/lang/Throwable", "fillInStackTrace", "(I)Ljava/lang/Throwable;"⟩, 6), (⟨"FormulaVoice", "rowOf", "(II)Ljava/lang/Object;"⟩, 19), (⟨"FormulaVoiceModel", "sets", "(IIIII)V"⟩, 35), (⟨"FormulaVoiceModel", "isNode", "(I)Z"⟩, 35), (⟨"FormulaVoiceModel", "isRight", "(I)Z"⟩, 35), (⟨"FormulaVoiceModel", "areAlike", "(II)Z"⟩, 35), (⟨"FormulaVoiceModel", "has", "(II)I"⟩, 35)]
theorem lw_r2 : ∀ q ∈ lw_privs_2, lw_okq q := List.forall_mem_cons.mpr ⟨lw_p16, List.forall_mem_cons.mpr ⟨lw_p17, List.forall_mem_cons.mpr ⟨lw_p18, List.forall_mem_cons.mpr ⟨lw_p19, List.forall_mem_cons.mpr ⟨lw_p20, List.forall_mem_cons.mpr ⟨lw_p21, List.forall_mem_cons.mpr ⟨lw_p22, List.forall_mem_cons.mpr ⟨lw_p23, List.forall_mem_cons.mpr ⟨lw_p24, List.forall_mem_cons.mpr ⟨lw_p25, List.forall_mem_cons.mpr ⟨lw_p26, List.forall_mem_cons.mpr ⟨lw_p27, List.forall_mem_cons.mpr ⟨lw_p28, List.forall_mem_cons.mpr ⟨lw_p29, List.forall_mem_cons.mpr ⟨lw_p30, List.forall_mem_cons.mpr ⟨lw_p31, fun _ h => absurd h List.not_mem_nil⟩⟩⟩⟩⟩⟩⟩⟩⟩⟩⟩⟩⟩⟩⟩⟩
theorem lw_p32 : lw_okq (⟨"FormulaVoiceModel", "length", "(II)I"⟩, 35) := ⟨⟨by decide +kernel, by decide +kernel⟩, lw_t5 (List.mem_of_getElem? (i := 162) rfl), lw_t6 (List.mem_of_getElem? (i := 111) rfl), lw_t6 (List.mem_of_getElem? (i := 112) rfl)⟩
theorem lw_p33 : lw_okq (⟨"FormulaVoiceModel", "own", "(I)I"⟩, 35) := ⟨⟨by decide +kernel, by decide +kernel⟩, lw_t5 (List.mem_of_getElem? (i := 162) rfl), lw_t6 (List.mem_of_getElem? (i := 115) rfl), lw_t6 (List.mem_of_getElem? (i := 116) rfl)⟩
theorem lw_p34 : lw_okq (⟨"FormulaVoiceModel", "sayAll", "(II)V"⟩, 35) := ⟨⟨by decide +kernel, by decide +kernel⟩, lw_t5 (List.mem_of_getElem? (i := 162) rfl), lw_t6 (List.mem_of_getElem? (i := 126) rfl), lw_t6 (List.mem_of_getElem? (i := 127) rfl)⟩
theorem lw_p35 : lw_okq (⟨"FormulaVoiceModel", "say", "(II)V"⟩, 35) := ⟨⟨by decide +kernel, by decide +kernel⟩, lw_t5 (List.mem_of_getElem? (i := 162) rfl), lw_t6 (List.mem_of_getElem? (i := 130) rfl), lw_t6 (List.mem_of_getElem? (i := 131) rfl)⟩
theorem lw_p36 : lw_okq (⟨"FormulaVoiceModel", "keepsIt", "(II)Z"⟩, 35) := ⟨⟨by decide +kernel, by decide +kernel⟩, lw_t5 (List.mem_of_getElem? (i := 162) rfl), lw_t6 (List.mem_of_getElem? (i := 134) rfl), lw_t6 (List.mem_of_getElem? (i := 135) rfl)⟩
theorem lw_p37 : lw_okq (⟨"FormulaVoiceModel", "says", "(I)V"⟩, 35) := ⟨⟨by decide +kernel, by decide +kernel⟩, lw_t5 (List.mem_of_getElem? (i := 162) rfl), lw_t6 (List.mem_of_getElem? (i := 138) rfl), lw_t6 (List.mem_of_getElem? (i := 139) rfl)⟩
theorem lw_p38 : lw_okq (⟨"FormulaVoiceModel", "adds", "(IIII)V"⟩, 35) := ⟨⟨by decide +kernel, by decide +kernel⟩, lw_t5 (List.mem_of_getElem? (i := 162) rfl), lw_t6 (List.mem_of_getElem? (i := 151) rfl), lw_t6 (List.mem_of_getElem? (i := 152) rfl)⟩
theorem lw_p39 : lw_okq (⟨"FormulaVoiceModel", "grows", "(I)V"⟩, 35) := ⟨⟨by decide +kernel, by decide +kernel⟩, lw_t5 (List.mem_of_getElem? (i := 162) rfl), lw_t6 (List.mem_of_getElem? (i := 155) rfl), lw_t6 (List.mem_of_getElem? (i := 156) rfl)⟩
theorem lw_p40 : lw_okq (⟨"FormulaVoiceModel", "isSame", "(II)Z"⟩, 35) := ⟨⟨by decide +kernel, by decide +kernel⟩, lw_t5 (List.mem_of_getElem? (i := 162) rfl), lw_t6 (List.mem_of_getElem? (i := 159) rfl), lw_t6 (List.mem_of_getElem? (i := 160) rfl)⟩
theorem lw_p41 : lw_okq (⟨"FormulaVoiceModel", "hears", "()V"⟩, 35) := ⟨⟨by decide +kernel, by decide +kernel⟩, lw_t5 (List.mem_of_getElem? (i := 162) rfl), lw_t6 (List.mem_of_getElem? (i := 172) rfl), lw_t6 (List.mem_of_getElem? (i := 173) rfl)⟩
theorem lw_p42 : lw_okq (⟨"FormulaVoiceModel", "counted", "(I)J"⟩, 35) := ⟨⟨by decide +kernel, by decide +kernel⟩, lw_t5 (List.mem_of_getElem? (i := 162) rfl), lw_t6 (List.mem_of_getElem? (i := 189) rfl), lw_t6 (List.mem_of_getElem? (i := 190) rfl)⟩
theorem lw_p43 : lw_okq (⟨"FormulaVoiceModel", "reckons", "(I)V"⟩, 35) := ⟨⟨by decide +kernel, by decide +kernel⟩, lw_t5 (List.mem_of_getElem? (i := 162) rfl), lw_t6 (List.mem_of_getElem? (i := 193) rfl), lw_t6 (List.mem_of_getElem? (i := 194) rfl)⟩
theorem lw_p44 : lw_okq (⟨"FormulaVoiceModel", "isLet", "(IZ)Z"⟩, 35) := ⟨⟨by decide +kernel, by decide +kernel⟩, lw_t5 (List.mem_of_getElem? (i := 162) rfl), lw_t6 (List.mem_of_getElem? (i := 197) rfl), lw_t6 (List.mem_of_getElem? (i := 198) rfl)⟩
theorem lw_p45 : lw_okq (⟨"FormulaVoiceModel", "within", "(III)J"⟩, 35) := ⟨⟨by decide +kernel, by decide +kernel⟩, lw_t5 (List.mem_of_getElem? (i := 162) rfl), lw_t6 (List.mem_of_getElem? (i := 201) rfl), lw_t6 (List.mem_of_getElem? (i := 202) rfl)⟩
theorem lw_p46 : lw_okq (⟨"FormulaVoiceModel", "isNumber", "(II)Z"⟩, 35) := ⟨⟨by decide +kernel, by decide +kernel⟩, lw_t5 (List.mem_of_getElem? (i := 162) rfl), lw_t6 (List.mem_of_getElem? (i := 205) rfl), lw_t6 (List.mem_of_getElem? (i := 206) rfl)⟩
theorem lw_p47 : lw_okq (⟨"FormulaVoiceModel", "takes", "(IIJ)I"⟩, 35) := ⟨⟨by decide +kernel, by decide +kernel⟩, lw_t5 (List.mem_of_getElem? (i := 162) rfl), lw_t6 (List.mem_of_getElem? (i := 222) rfl), lw_t6 (List.mem_of_getElem? (i := 223) rfl)⟩
def lw_privs_3 : List (MethodName × Nat) := [(⟨"FormulaVoiceModel", "length", "(II)I"⟩, 35), (⟨"FormulaVoiceModel", "own", "(I)I"⟩, 35), (⟨"FormulaVoiceModel", "sayAll", "(II)V"⟩, 35), (⟨"FormulaVoiceModel", "say", "(II)V"⟩, 35), (⟨"FormulaVoiceModel", "keepsIt", "(II)Z"⟩, 35), (⟨"FormulaVoiceModel", "says", "(I)V"⟩, 35), (⟨"FormulaVoiceModel", "adds", "(IIII)V"⟩, 35), (⟨"FormulaVoiceModel", "grows", "(I)V"⟩, 35), (⟨"FormulaVoiceModel", "isSame", "(II)Z"⟩, 35), (⟨"FormulaVoiceModel", "hears", "()V"⟩, 35), (⟨"FormulaVoiceModel", "counted", "(I)J"⟩, 35), (⟨"FormulaVoiceModel", "reckons", "(I)V"⟩, 35), (⟨"FormulaVoiceModel", "isLet", "(IZ)Z"⟩, 35), (⟨"FormulaVoiceModel", "within", "(III)J"⟩, 35), (⟨"FormulaVoiceModel", "isNumber", "(II)Z"⟩, 35), (⟨"FormulaVoiceModel", "takes", "(IIJ)I"⟩, 35)]
theorem lw_r3 : ∀ q ∈ lw_privs_3, lw_okq q := List.forall_mem_cons.mpr ⟨lw_p32, List.forall_mem_cons.mpr ⟨lw_p33, List.forall_mem_cons.mpr ⟨lw_p34, List.forall_mem_cons.mpr ⟨lw_p35, List.forall_mem_cons.mpr ⟨lw_p36, List.forall_mem_cons.mpr ⟨lw_p37, List.forall_mem_cons.mpr ⟨lw_p38, List.forall_mem_cons.mpr ⟨lw_p39, List.forall_mem_cons.mpr ⟨lw_p40, List.forall_mem_cons.mpr ⟨lw_p41, List.forall_mem_cons.mpr ⟨lw_p42, List.forall_mem_cons.mpr ⟨lw_p43, List.forall_mem_cons.mpr ⟨lw_p44, List.forall_mem_cons.mpr ⟨lw_p45, List.forall_mem_cons.mpr ⟨lw_p46, List.forall_mem_cons.mpr ⟨lw_p47, fun _ h => absurd h List.not_mem_nil⟩⟩⟩⟩⟩⟩⟩⟩⟩⟩⟩⟩⟩⟩⟩⟩
theorem lw_p48 : lw_okq (⟨"FormulaVoiceModel", "makes", "(IIII)I"⟩, 35) := ⟨⟨by decide +kernel, by decide +kernel⟩, lw_t5 (List.mem_of_getElem? (i := 162) rfl), lw_t6 (List.mem_of_getElem? (i := 226) rfl), lw_t6 (List.mem_of_getElem? (i := 227) rfl)⟩
theorem lw_p49 : lw_okq (⟨"FormulaVoiceModel", "takesTwo", "(IIIJ)I"⟩, 35) := ⟨⟨by decide +kernel, by decide +kernel⟩, lw_t5 (List.mem_of_getElem? (i := 162) rfl), lw_t6 (List.mem_of_getElem? (i := 230) rfl), lw_t6 (List.mem_of_getElem? (i := 231) rfl)⟩
theorem lw_p50 : lw_okq (⟨"FormulaVoiceModel", "copies", "(I)I"⟩, 35) := ⟨⟨by decide +kernel, by decide +kernel⟩, lw_t5 (List.mem_of_getElem? (i := 162) rfl), lw_t6 (List.mem_of_getElem? (i := 234) rfl), lw_t6 (List.mem_of_getElem? (i := 235) rfl)⟩
theorem lw_p51 : lw_okq (⟨"FormulaVoiceModel", "rank", "(III)J"⟩, 35) := ⟨⟨by decide +kernel, by decide +kernel⟩, lw_t5 (List.mem_of_getElem? (i := 162) rfl), lw_t7 (List.mem_of_getElem? (i := 4) rfl), lw_t7 (List.mem_of_getElem? (i := 5) rfl)⟩
theorem lw_p52 : lw_okq (⟨"FormulaVoiceModel", "inner", "(III)J"⟩, 35) := ⟨⟨by decide +kernel, by decide +kernel⟩, lw_t5 (List.mem_of_getElem? (i := 162) rfl), lw_t7 (List.mem_of_getElem? (i := 8) rfl), lw_t7 (List.mem_of_getElem? (i := 9) rfl)⟩
theorem lw_p53 : lw_okq (⟨"FormulaVoiceModel", "innerTwo", "(III)J"⟩, 35) := ⟨⟨by decide +kernel, by decide +kernel⟩, lw_t5 (List.mem_of_getElem? (i := 162) rfl), lw_t7 (List.mem_of_getElem? (i := 12) rfl), lw_t7 (List.mem_of_getElem? (i := 13) rfl)⟩
theorem lw_p54 : lw_okq (⟨"FormulaVoiceModel", "keepable", "(I)I"⟩, 35) := ⟨⟨by decide +kernel, by decide +kernel⟩, lw_t5 (List.mem_of_getElem? (i := 162) rfl), lw_t7 (List.mem_of_getElem? (i := 24) rfl), lw_t7 (List.mem_of_getElem? (i := 25) rfl)⟩
theorem lw_p55 : lw_okq (⟨"FormulaVoiceModel", "isOnly", "(III)Z"⟩, 35) := ⟨⟨by decide +kernel, by decide +kernel⟩, lw_t5 (List.mem_of_getElem? (i := 162) rfl), lw_t7 (List.mem_of_getElem? (i := 31) rfl), lw_t7 (List.mem_of_getElem? (i := 32) rfl)⟩
theorem lw_p56 : lw_okq (⟨"FormulaVoiceModel", "down", "(I)Z"⟩, 35) := ⟨⟨by decide +kernel, by decide +kernel⟩, lw_t5 (List.mem_of_getElem? (i := 162) rfl), lw_t7 (List.mem_of_getElem? (i := 44) rfl), lw_t7 (List.mem_of_getElem? (i := 45) rfl)⟩
theorem lw_p57 : lw_okq (⟨"FormulaVoiceModel", "glanced", "(III)I"⟩, 35) := ⟨⟨by decide +kernel, by decide +kernel⟩, lw_t5 (List.mem_of_getElem? (i := 162) rfl), lw_t7 (List.mem_of_getElem? (i := 60) rfl), lw_t7 (List.mem_of_getElem? (i := 61) rfl)⟩
theorem lw_p58 : lw_okq (⟨"FormulaVoiceModel", "difference", "(II)I"⟩, 35) := ⟨⟨by decide +kernel, by decide +kernel⟩, lw_t5 (List.mem_of_getElem? (i := 162) rfl), lw_t7 (List.mem_of_getElem? (i := 68) rfl), lw_t7 (List.mem_of_getElem? (i := 69) rfl)⟩
theorem lw_p59 : lw_okq (⟨"FormulaVoiceModel", "inside", "(II)I"⟩, 35) := ⟨⟨by decide +kernel, by decide +kernel⟩, lw_t5 (List.mem_of_getElem? (i := 162) rfl), lw_t7 (List.mem_of_getElem? (i := 72) rfl), lw_t7 (List.mem_of_getElem? (i := 73) rfl)⟩
theorem lw_p60 : lw_okq (⟨"FormulaVoiceModel", "wholes", "(II)I"⟩, 35) := ⟨⟨by decide +kernel, by decide +kernel⟩, lw_t5 (List.mem_of_getElem? (i := 162) rfl), lw_t7 (List.mem_of_getElem? (i := 80) rfl), lw_t7 (List.mem_of_getElem? (i := 81) rfl)⟩
theorem lw_p61 : lw_okq (⟨"FormulaVoiceModel", "functions", "()I"⟩, 35) := ⟨⟨by decide +kernel, by decide +kernel⟩, lw_t5 (List.mem_of_getElem? (i := 162) rfl), lw_t7 (List.mem_of_getElem? (i := 88) rfl), lw_t7 (List.mem_of_getElem? (i := 89) rfl)⟩
theorem lw_p62 : lw_okq (⟨"FormulaVoiceModel", "kinds", "(II)V"⟩, 35) := ⟨⟨by decide +kernel, by decide +kernel⟩, lw_t5 (List.mem_of_getElem? (i := 162) rfl), lw_t7 (List.mem_of_getElem? (i := 99) rfl), lw_t7 (List.mem_of_getElem? (i := 100) rfl)⟩
theorem lw_p63 : lw_okq (⟨"FormulaVoiceModel", "held", "(I)I"⟩, 35) := ⟨⟨by decide +kernel, by decide +kernel⟩, lw_t5 (List.mem_of_getElem? (i := 162) rfl), lw_t7 (List.mem_of_getElem? (i := 119) rfl), lw_t7 (List.mem_of_getElem? (i := 120) rfl)⟩
def lw_privs_4 : List (MethodName × Nat) := [(⟨"FormulaVoiceModel", "makes", "(IIII)I"⟩, 35), (⟨"FormulaVoiceModel", "takesTwo", "(IIIJ)I"⟩, 35), (⟨"FormulaVoiceModel", "copies", "(I)I"⟩, 35), (⟨"FormulaVoiceModel", "rank", "(III)J"⟩, 35), (⟨"FormulaVoiceModel", "inner", "(III)J"⟩, 35), (⟨"FormulaVoiceModel", "innerTwo", "(III)J"⟩, 35), (⟨"FormulaVoiceModel", "keepable", "(I)I"⟩, 35), (⟨"FormulaVoiceModel", "isOnly", "(III)Z"⟩, 35), (⟨"FormulaVoiceModel", "down", "(I)Z"⟩, 35), (⟨"FormulaVoiceModel", "glanced", "(III)I"⟩, 35), (⟨"FormulaVoiceModel", "difference", "(II)I"⟩, 35), (⟨"FormulaVoiceModel", "inside", "(II)I"⟩, 35), (⟨"FormulaVoiceModel", "wholes", "(II)I"⟩, 35), (⟨"FormulaVoiceModel", "functions", "()I"⟩, 35), (⟨"FormulaVoiceModel", "kinds", "(II)V"⟩, 35), (⟨"FormulaVoiceModel", "held", "(I)I"⟩, 35)]
theorem lw_r4 : ∀ q ∈ lw_privs_4, lw_okq q := List.forall_mem_cons.mpr ⟨lw_p48, List.forall_mem_cons.mpr ⟨lw_p49, List.forall_mem_cons.mpr ⟨lw_p50, List.forall_mem_cons.mpr ⟨lw_p51, List.forall_mem_cons.mpr ⟨lw_p52, List.forall_mem_cons.mpr ⟨lw_p53, List.forall_mem_cons.mpr ⟨lw_p54, List.forall_mem_cons.mpr ⟨lw_p55, List.forall_mem_cons.mpr ⟨lw_p56, List.forall_mem_cons.mpr ⟨lw_p57, List.forall_mem_cons.mpr ⟨lw_p58, List.forall_mem_cons.mpr ⟨lw_p59, List.forall_mem_cons.mpr ⟨lw_p60, List.forall_mem_cons.mpr ⟨lw_p61, List.forall_mem_cons.mpr ⟨lw_p62, List.forall_mem_cons.mpr ⟨lw_p63, fun _ h => absurd h List.not_mem_nil⟩⟩⟩⟩⟩⟩⟩⟩⟩⟩⟩⟩⟩⟩⟩⟩
def lw_privs : List (MethodName × Nat) := lw_privs_1 ++ (lw_privs_2 ++ (lw_privs_3 ++ (lw_privs_4)))
def lw_tbl : List Cond := k2_sels lw_privs ++ tables_1
theorem lw_privs_ok : ∀ q ∈ lw_privs, lw_okq q := by
  show ∀ q ∈ lw_privs_1 ++ (lw_privs_2 ++ (lw_privs_3 ++ (lw_privs_4))), lw_okq q
  exact List.forall_mem_append.mpr ⟨lw_r1, List.forall_mem_append.mpr ⟨lw_r2, List.forall_mem_append.mpr ⟨lw_r3, lw_r4⟩⟩⟩
-- ===== ONE list of words for every method: the tables' words that hold all through a run =====
def lw_all : List Cond := lw_tbl.filter goodWord
/-- a word of the tables by its place: claim/WORDS.tsv -/
theorem lw_w {w : Cond} (i : Nat) (h : lw_tbl[i]? = some w) (g : goodWord w = true) : w ∈ lw_all := List.mem_filter.mpr ⟨List.mem_of_getElem? h, g⟩
theorem lw_all_tbl {w : Cond} (h : w ∈ lw_all) : w ∈ lw_tbl := (List.mem_filter.mp h).1
theorem lw_self : GoodIn lw_all lw_all := fun w h => ⟨h, good_of_word (List.mem_filter.mp h).2⟩
/-- a class's field words, by their places -/
theorem lw_in (ws : List Cond) (ps : List Nat) (hp : ws = ps.filterMap (fun i => lw_tbl[i]?)) (hg : ws.all goodWord = true) : ∀ w ∈ ws, w ∈ lw_all := by
  intro w h
  have h1 := List.all_eq_true.mp hg w h
  rw [hp] at h
  obtain ⟨i, -, hi⟩ := List.mem_filterMap.mp h
  exact lw_w i hi h1
/-- the words of a contract for the method y with code b, L locals, answer r -/
abbrev ws_ (y : MethodName) (b : ByteArray) (L : Nat) (r : Option FieldType) : List Cond := Cond.code y b L r :: lw_all
theorem lw_meth {y : MethodName} {b : ByteArray} {L : Nat} {r : Option FieldType} (h : Cond.code y b L r ∈ lw_all) : GoodIn lw_all (ws_ y b L r) := by
  intro w hw
  rcases List.mem_cons.mp hw with e | e
  · rw [e]
    exact lw_self _ h
  · exact lw_self _ e
theorem lw_app {a c : List Cond} (ha : ∀ w ∈ a, w ∈ lw_all) (hc : GoodIn lw_all c) : GoodIn lw_all (a ++ c) := by
  intro w hw
  rcases List.mem_append.mp hw with e | e
  · exact lw_self w (ha w e)
  · exact hc w e
/-- what a call through an object asks: cwV n hts (lw_V ..) -/
theorem lw_V {own : String} {idx : Nat} {C : String} {y : MethodName} {b : ByteArray} {L : Nat} {r : Option FieldType} (h1 : Cond.methodLink own idx y ∈ lw_all) (h2 : Cond.instanceMethod y ∈ lw_all) (h3 : Cond.selects C y y ∈ lw_all) (h4 : Cond.initialized C ∈ lw_all) (h5 : Cond.code y b L r ∈ lw_all) : GoodIn lw_all (wsV own idx C y (ws_ y b L r)) := by
  refine lw_app ?_ (lw_meth h5)
  intro w hw
  simp only [List.mem_cons, List.not_mem_nil, or_false] at hw
  rcases hw with e | e | e | e
  · rw [e]; exact h1
  · rw [e]; exact h2
  · rw [e]; exact h3
  · rw [e]; exact h4
/-- what a static call asks: va_cwS n hts (lw_S ..) -/
theorem lw_S {own : String} {idx : Nat} {y : MethodName} {b : ByteArray} {L : Nat} {r : Option FieldType} (h1 : Cond.methodLink own idx y ∈ lw_all) (h2 : Cond.static y ∈ lw_all) (h3 : Cond.initialized y.cls ∈ lw_all) (h4 : Cond.code y b L r ∈ lw_all) : GoodIn lw_all (va_wsS own idx y (ws_ y b L r)) := by
  refine lw_app ?_ (lw_meth h4)
  intro w hw
  simp only [List.mem_cons, List.not_mem_nil, or_false] at hw
  rcases hw with e | e | e
  · rw [e]; exact h1
  · rw [e]; exact h2
  · rw [e]; exact h3
/-- the words of a contract for a method WITH HANDLERS (hh: its table) -/
abbrev wsW_ (y : MethodName) (b : ByteArray) (L : Nat) (r : Option FieldType) (hh : List (Nat × Nat × Nat × Nat)) : List Cond := Cond.codeWith y b L r hh :: lw_all
theorem lw_methW {y : MethodName} {b : ByteArray} {L : Nat} {r : Option FieldType} {hh : List (Nat × Nat × Nat × Nat)} (h : Cond.codeWith y b L r hh ∈ lw_all) : GoodIn lw_all (wsW_ y b L r hh) := by
  intro w hw
  rcases List.mem_cons.mp hw with e | e
  · rw [e]
    exact lw_self _ h
  · exact lw_self _ e
/-- any list of words by their places (lw_in), good -/
theorem lw_good {ws : List Cond} (h : ∀ w ∈ ws, w ∈ lw_all) : GoodIn lw_all ws := fun w hw => lw_self w (h w hw)
/-- what a call of a method with handlers asks: vx_cwVW n hts (lw_VW ..), vx_cwSW n hts (lw_SW ..) -/
theorem lw_VW {own : String} {idx : Nat} {C : String} {y : MethodName} {b : ByteArray} {L : Nat} {r : Option FieldType} {hh : List (Nat × Nat × Nat × Nat)} (h1 : Cond.methodLink own idx y ∈ lw_all) (h2 : Cond.instanceMethod y ∈ lw_all) (h3 : Cond.selects C y y ∈ lw_all) (h4 : Cond.initialized C ∈ lw_all) (h5 : Cond.codeWith y b L r hh ∈ lw_all) : GoodIn lw_all (wsV own idx C y (wsW_ y b L r hh)) := by
  refine lw_app ?_ (lw_methW h5)
  intro w hw
  simp only [List.mem_cons, List.not_mem_nil, or_false] at hw
  rcases hw with e | e | e | e
  · rw [e]; exact h1
  · rw [e]; exact h2
  · rw [e]; exact h3
  · rw [e]; exact h4
theorem lw_SW {own : String} {idx : Nat} {y : MethodName} {b : ByteArray} {L : Nat} {r : Option FieldType} {hh : List (Nat × Nat × Nat × Nat)} (h1 : Cond.methodLink own idx y ∈ lw_all) (h2 : Cond.static y ∈ lw_all) (h3 : Cond.initialized y.cls ∈ lw_all) (h4 : Cond.codeWith y b L r hh ∈ lw_all) : GoodIn lw_all (va_wsS own idx y (wsW_ y b L r hh)) := by
  refine lw_app ?_ (lw_methW h4)
  intro w hw
  simp only [List.mem_cons, List.not_mem_nil, or_false] at hw
  rcases hw with e | e | e
  · rw [e]; exact h1
  · rw [e]; exact h2
  · rw [e]; exact h3
/-- a word by its place in its run of the tables -/
theorem lw_at {r : List Cond} (hr : ∀ w ∈ r, w ∈ lw_tbl) {w : Cond} (i : Nat) (h : r[i]? = some w) : w ∈ lw_tbl := hr w (List.mem_of_getElem? h)
theorem lw_g {w : Cond} (h : w ∈ lw_tbl) (g : goodWord w = true) : w ∈ lw_all := List.mem_filter.mpr ⟨h, g⟩
theorem lw_ms : ∀ w ∈ k2_sels lw_privs, w ∈ lw_tbl := fun w h => show w ∈ k2_sels lw_privs ++ tables_1 from List.mem_append_left _ h
theorem lw_m1 : ∀ w ∈ tables_1_1, w ∈ lw_tbl := fun w h => show w ∈ k2_sels lw_privs ++ tables_1 from List.mem_append_right (k2_sels lw_privs) (show w ∈ tables_1 from List.mem_append_left _ h)
theorem lw_m2 : ∀ w ∈ tables_1_2, w ∈ lw_tbl := fun w h => show w ∈ k2_sels lw_privs ++ tables_1 from List.mem_append_right (k2_sels lw_privs) (show w ∈ tables_1 from List.mem_append_right _ (List.mem_append_left _ h))
theorem lw_m3 : ∀ w ∈ tables_1_3, w ∈ lw_tbl := fun w h => show w ∈ k2_sels lw_privs ++ tables_1 from List.mem_append_right (k2_sels lw_privs) (show w ∈ tables_1 from List.mem_append_right _ (List.mem_append_right _ (List.mem_append_left _ h)))
theorem lw_m4 : ∀ w ∈ tables_1_4, w ∈ lw_tbl := fun w h => show w ∈ k2_sels lw_privs ++ tables_1 from List.mem_append_right (k2_sels lw_privs) (show w ∈ tables_1 from List.mem_append_right _ (List.mem_append_right _ (List.mem_append_right _ (List.mem_append_left _ h))))
theorem lw_m5 : ∀ w ∈ tables_1_5, w ∈ lw_tbl := fun w h => show w ∈ k2_sels lw_privs ++ tables_1 from List.mem_append_right (k2_sels lw_privs) (show w ∈ tables_1 from List.mem_append_right _ (List.mem_append_right _ (List.mem_append_right _ (List.mem_append_right _ (List.mem_append_left _ h)))))
theorem lw_m6 : ∀ w ∈ tables_1_6, w ∈ lw_tbl := fun w h => show w ∈ k2_sels lw_privs ++ tables_1 from List.mem_append_right (k2_sels lw_privs) (show w ∈ tables_1 from List.mem_append_right _ (List.mem_append_right _ (List.mem_append_right _ (List.mem_append_right _ (List.mem_append_right _ (List.mem_append_left _ h))))))
theorem lw_m7 : ∀ w ∈ tables_1_7, w ∈ lw_tbl := fun w h => show w ∈ k2_sels lw_privs ++ tables_1 from List.mem_append_right (k2_sels lw_privs) (show w ∈ tables_1 from List.mem_append_right _ (List.mem_append_right _ (List.mem_append_right _ (List.mem_append_right _ (List.mem_append_right _ (List.mem_append_right _ h))))))
theorem qs0 : (Cond.selects "FormulaVoice" ⟨"FormulaVoice", "adds", "(LFormulaVoice$Node;)I"⟩ ⟨"FormulaVoice", "adds", "(LFormulaVoice$Node;)I"⟩) ∈ lw_all := lw_g (lw_at lw_ms 0 rfl) rfl
theorem qs1 : (Cond.selects "java/util/ArrayList" ⟨"java/util/ArrayList", "add", "(Ljava/lang/Object;[Ljava/lang/Object;I)V"⟩ ⟨"java/util/ArrayList", "add", "(Ljava/lang/Object;[Ljava/lang/Object;I)V"⟩) ∈ lw_all := lw_g (lw_at lw_ms 1 rfl) rfl
theorem qs2 : (Cond.selects "java/util/ArrayList" ⟨"java/util/ArrayList", "grow", "()[Ljava/lang/Object;"⟩ ⟨"java/util/ArrayList", "grow", "()[Ljava/lang/Object;"⟩) ∈ lw_all := lw_g (lw_at lw_ms 2 rfl) rfl
theorem qs3 : (Cond.selects "java/util/ArrayList" ⟨"java/util/ArrayList", "grow", "(I)[Ljava/lang/Object;"⟩ ⟨"java/util/ArrayList", "grow", "(I)[Ljava/lang/Object;"⟩) ∈ lw_all := lw_g (lw_at lw_ms 3 rfl) rfl
theorem qs4 : (Cond.selects "FormulaVoice" ⟨"FormulaVoice", "isNode", "(I)Z"⟩ ⟨"FormulaVoice", "isNode", "(I)Z"⟩) ∈ lw_all := lw_g (lw_at lw_ms 4 rfl) rfl
theorem qs5 : (Cond.selects "java/util/ArrayList" ⟨"java/util/ArrayList", "fastRemove", "([Ljava/lang/Object;I)V"⟩ ⟨"java/util/ArrayList", "fastRemove", "([Ljava/lang/Object;I)V"⟩) ∈ lw_all := lw_g (lw_at lw_ms 5 rfl) rfl
theorem qs6 : (Cond.selects "FormulaVoice" ⟨"FormulaVoice", "says", "(LFormulaVoice$Words;LFormulaVoice$Node;II)Z"⟩ ⟨"FormulaVoice", "says", "(LFormulaVoice$Words;LFormulaVoice$Node;II)Z"⟩) ∈ lw_all := lw_g (lw_at lw_ms 6 rfl) rfl
theorem qs7 : (Cond.selects "FormulaVoice" ⟨"FormulaVoice", "saysSo", "(LFormulaVoice$Words;LFormulaVoice$Node;)Z"⟩ ⟨"FormulaVoice", "saysSo", "(LFormulaVoice$Words;LFormulaVoice$Node;)Z"⟩) ∈ lw_all := lw_g (lw_at lw_ms 7 rfl) rfl
theorem qs8 : (Cond.selects "FormulaVoice" ⟨"FormulaVoice", "grows", "()V"⟩ ⟨"FormulaVoice", "grows", "()V"⟩) ∈ lw_all := lw_g (lw_at lw_ms 8 rfl) rfl
theorem qs9 : (Cond.selects "FormulaVoice" ⟨"FormulaVoice", "takes", "(LFormulaVoice$Words;)V"⟩ ⟨"FormulaVoice", "takes", "(LFormulaVoice$Words;)V"⟩) ∈ lw_all := lw_g (lw_at lw_ms 9 rfl) rfl
theorem qs10 : (Cond.selects "FormulaVoice" ⟨"FormulaVoice", "listens", "(I)J"⟩ ⟨"FormulaVoice", "listens", "(I)J"⟩) ∈ lw_all := lw_g (lw_at lw_ms 10 rfl) rfl
theorem qs11 : (Cond.selects "FormulaVoice" ⟨"FormulaVoice", "span", "(II)J"⟩ ⟨"FormulaVoice", "span", "(II)J"⟩) ∈ lw_all := lw_g (lw_at lw_ms 11 rfl) rfl
theorem qs12 : (Cond.selects "FormulaVoice" ⟨"FormulaVoice", "ofKind", "(IZIII)J"⟩ ⟨"FormulaVoice", "ofKind", "(IZIII)J"⟩) ∈ lw_all := lw_g (lw_at lw_ms 12 rfl) rfl
theorem qs13 : (Cond.selects "FormulaVoice" ⟨"FormulaVoice", "mayBe", "(IZ)Z"⟩ ⟨"FormulaVoice", "mayBe", "(IZ)Z"⟩) ∈ lw_all := lw_g (lw_at lw_ms 13 rfl) rfl
theorem qs14 : (Cond.selects "FormulaVoice" ⟨"FormulaVoice", "plain", "(IIII)J"⟩ ⟨"FormulaVoice", "plain", "(IIII)J"⟩) ∈ lw_all := lw_g (lw_at lw_ms 14 rfl) rfl
theorem qs15 : (Cond.selects "FormulaVoice" ⟨"FormulaVoice", "isLetter", "(IZ)Z"⟩ ⟨"FormulaVoice", "isLetter", "(IZ)Z"⟩) ∈ lw_all := lw_g (lw_at lw_ms 15 rfl) rfl
theorem qs16 : (Cond.selects "FormulaVoice" ⟨"FormulaVoice", "numberOf", "(II)I"⟩ ⟨"FormulaVoice", "numberOf", "(II)I"⟩) ∈ lw_all := lw_g (lw_at lw_ms 16 rfl) rfl
theorem qs17 : (Cond.selects "FormulaVoice" ⟨"FormulaVoice", "reading", "(IIJLjava/util/ArrayList;)LFormulaVoice$Node;"⟩ ⟨"FormulaVoice", "reading", "(IIJLjava/util/ArrayList;)LFormulaVoice$Node;"⟩) ∈ lw_all := lw_g (lw_at lw_ms 17 rfl) rfl
theorem qs18 : (Cond.selects "FormulaVoice" ⟨"FormulaVoice", "reading", "(IIIIJLjava/util/ArrayList;)LFormulaVoice$Node;"⟩ ⟨"FormulaVoice", "reading", "(IIIIJLjava/util/ArrayList;)LFormulaVoice$Node;"⟩) ∈ lw_all := lw_g (lw_at lw_ms 18 rfl) rfl
theorem qs19 : (Cond.selects "FormulaVoice" ⟨"FormulaVoice", "placeOf", "(LFormulaVoice$Node;II)J"⟩ ⟨"FormulaVoice", "placeOf", "(LFormulaVoice$Node;II)J"⟩) ∈ lw_all := lw_g (lw_at lw_ms 19 rfl) rfl
theorem qs20 : (Cond.selects "FormulaVoice" ⟨"FormulaVoice", "placeOf", "(LFormulaVoice$Node;III)J"⟩ ⟨"FormulaVoice", "placeOf", "(LFormulaVoice$Node;III)J"⟩) ∈ lw_all := lw_g (lw_at lw_ms 20 rfl) rfl
theorem qs21 : (Cond.selects "FormulaVoice" ⟨"FormulaVoice", "isSure", "(LFormulaVoice$Node;I)Z"⟩ ⟨"FormulaVoice", "isSure", "(LFormulaVoice$Node;I)Z"⟩) ∈ lw_all := lw_g (lw_at lw_ms 21 rfl) rfl
theorem qs22 : (Cond.selects "FormulaVoice" ⟨"FormulaVoice", "chooses", "(LFormulaVoice$Node;)V"⟩ ⟨"FormulaVoice", "chooses", "(LFormulaVoice$Node;)V"⟩) ∈ lw_all := lw_g (lw_at lw_ms 22 rfl) rfl
theorem qs23 : (Cond.selects "FormulaVoice" ⟨"FormulaVoice", "goesDown", "(Z)Z"⟩ ⟨"FormulaVoice", "goesDown", "(Z)Z"⟩) ∈ lw_all := lw_g (lw_at lw_ms 23 rfl) rfl
theorem qs24 : (Cond.selects "java/lang/NullPointerException" ⟨"java/lang/NullPointerException", "getExtendedNPEMessage", "()Ljava/lang/String;"⟩ ⟨"java/lang/NullPointerException", "getExtendedNPEMessage", "()Ljava/lang/String;"⟩) ∈ lw_all := lw_g (lw_at lw_ms 24 rfl) rfl
theorem qs25 : (Cond.selects "java/lang/Throwable" ⟨"java/lang/Throwable", "fillInStackTrace", "(I)Ljava/lang/Throwable;"⟩ ⟨"java/lang/Throwable", "fillInStackTrace", "(I)Ljava/lang/Throwable;"⟩) ∈ lw_all := lw_g (lw_at lw_ms 25 rfl) rfl
theorem qs26 : (Cond.selects "FormulaVoice" ⟨"FormulaVoice", "rowOf", "(II)Ljava/lang/Object;"⟩ ⟨"FormulaVoice", "rowOf", "(II)Ljava/lang/Object;"⟩) ∈ lw_all := lw_g (lw_at lw_ms 26 rfl) rfl
theorem qs27 : (Cond.selects "FormulaVoiceModel" ⟨"FormulaVoiceModel", "sets", "(IIIII)V"⟩ ⟨"FormulaVoiceModel", "sets", "(IIIII)V"⟩) ∈ lw_all := lw_g (lw_at lw_ms 27 rfl) rfl
theorem qs28 : (Cond.selects "FormulaVoiceModel" ⟨"FormulaVoiceModel", "isNode", "(I)Z"⟩ ⟨"FormulaVoiceModel", "isNode", "(I)Z"⟩) ∈ lw_all := lw_g (lw_at lw_ms 28 rfl) rfl
theorem qs29 : (Cond.selects "FormulaVoiceModel" ⟨"FormulaVoiceModel", "isRight", "(I)Z"⟩ ⟨"FormulaVoiceModel", "isRight", "(I)Z"⟩) ∈ lw_all := lw_g (lw_at lw_ms 29 rfl) rfl
theorem qs30 : (Cond.selects "FormulaVoiceModel" ⟨"FormulaVoiceModel", "areAlike", "(II)Z"⟩ ⟨"FormulaVoiceModel", "areAlike", "(II)Z"⟩) ∈ lw_all := lw_g (lw_at lw_ms 30 rfl) rfl
theorem qs31 : (Cond.selects "FormulaVoiceModel" ⟨"FormulaVoiceModel", "has", "(II)I"⟩ ⟨"FormulaVoiceModel", "has", "(II)I"⟩) ∈ lw_all := lw_g (lw_at lw_ms 31 rfl) rfl
theorem qs32 : (Cond.selects "FormulaVoiceModel" ⟨"FormulaVoiceModel", "length", "(II)I"⟩ ⟨"FormulaVoiceModel", "length", "(II)I"⟩) ∈ lw_all := lw_g (lw_at lw_ms 32 rfl) rfl
theorem qs33 : (Cond.selects "FormulaVoiceModel" ⟨"FormulaVoiceModel", "own", "(I)I"⟩ ⟨"FormulaVoiceModel", "own", "(I)I"⟩) ∈ lw_all := lw_g (lw_at lw_ms 33 rfl) rfl
theorem qs34 : (Cond.selects "FormulaVoiceModel" ⟨"FormulaVoiceModel", "sayAll", "(II)V"⟩ ⟨"FormulaVoiceModel", "sayAll", "(II)V"⟩) ∈ lw_all := lw_g (lw_at lw_ms 34 rfl) rfl
theorem qs35 : (Cond.selects "FormulaVoiceModel" ⟨"FormulaVoiceModel", "say", "(II)V"⟩ ⟨"FormulaVoiceModel", "say", "(II)V"⟩) ∈ lw_all := lw_g (lw_at lw_ms 35 rfl) rfl
theorem qs36 : (Cond.selects "FormulaVoiceModel" ⟨"FormulaVoiceModel", "keepsIt", "(II)Z"⟩ ⟨"FormulaVoiceModel", "keepsIt", "(II)Z"⟩) ∈ lw_all := lw_g (lw_at lw_ms 36 rfl) rfl
theorem qs37 : (Cond.selects "FormulaVoiceModel" ⟨"FormulaVoiceModel", "says", "(I)V"⟩ ⟨"FormulaVoiceModel", "says", "(I)V"⟩) ∈ lw_all := lw_g (lw_at lw_ms 37 rfl) rfl
theorem qs38 : (Cond.selects "FormulaVoiceModel" ⟨"FormulaVoiceModel", "adds", "(IIII)V"⟩ ⟨"FormulaVoiceModel", "adds", "(IIII)V"⟩) ∈ lw_all := lw_g (lw_at lw_ms 38 rfl) rfl
theorem qs39 : (Cond.selects "FormulaVoiceModel" ⟨"FormulaVoiceModel", "grows", "(I)V"⟩ ⟨"FormulaVoiceModel", "grows", "(I)V"⟩) ∈ lw_all := lw_g (lw_at lw_ms 39 rfl) rfl
theorem qs40 : (Cond.selects "FormulaVoiceModel" ⟨"FormulaVoiceModel", "isSame", "(II)Z"⟩ ⟨"FormulaVoiceModel", "isSame", "(II)Z"⟩) ∈ lw_all := lw_g (lw_at lw_ms 40 rfl) rfl
theorem qs41 : (Cond.selects "FormulaVoiceModel" ⟨"FormulaVoiceModel", "hears", "()V"⟩ ⟨"FormulaVoiceModel", "hears", "()V"⟩) ∈ lw_all := lw_g (lw_at lw_ms 41 rfl) rfl
theorem qs42 : (Cond.selects "FormulaVoiceModel" ⟨"FormulaVoiceModel", "counted", "(I)J"⟩ ⟨"FormulaVoiceModel", "counted", "(I)J"⟩) ∈ lw_all := lw_g (lw_at lw_ms 42 rfl) rfl
theorem qs43 : (Cond.selects "FormulaVoiceModel" ⟨"FormulaVoiceModel", "reckons", "(I)V"⟩ ⟨"FormulaVoiceModel", "reckons", "(I)V"⟩) ∈ lw_all := lw_g (lw_at lw_ms 43 rfl) rfl
theorem qs44 : (Cond.selects "FormulaVoiceModel" ⟨"FormulaVoiceModel", "isLet", "(IZ)Z"⟩ ⟨"FormulaVoiceModel", "isLet", "(IZ)Z"⟩) ∈ lw_all := lw_g (lw_at lw_ms 44 rfl) rfl
theorem qs45 : (Cond.selects "FormulaVoiceModel" ⟨"FormulaVoiceModel", "within", "(III)J"⟩ ⟨"FormulaVoiceModel", "within", "(III)J"⟩) ∈ lw_all := lw_g (lw_at lw_ms 45 rfl) rfl
theorem qs46 : (Cond.selects "FormulaVoiceModel" ⟨"FormulaVoiceModel", "isNumber", "(II)Z"⟩ ⟨"FormulaVoiceModel", "isNumber", "(II)Z"⟩) ∈ lw_all := lw_g (lw_at lw_ms 46 rfl) rfl
theorem qs47 : (Cond.selects "FormulaVoiceModel" ⟨"FormulaVoiceModel", "takes", "(IIJ)I"⟩ ⟨"FormulaVoiceModel", "takes", "(IIJ)I"⟩) ∈ lw_all := lw_g (lw_at lw_ms 47 rfl) rfl
theorem qs48 : (Cond.selects "FormulaVoiceModel" ⟨"FormulaVoiceModel", "makes", "(IIII)I"⟩ ⟨"FormulaVoiceModel", "makes", "(IIII)I"⟩) ∈ lw_all := lw_g (lw_at lw_ms 48 rfl) rfl
theorem qs49 : (Cond.selects "FormulaVoiceModel" ⟨"FormulaVoiceModel", "takesTwo", "(IIIJ)I"⟩ ⟨"FormulaVoiceModel", "takesTwo", "(IIIJ)I"⟩) ∈ lw_all := lw_g (lw_at lw_ms 49 rfl) rfl
theorem qs50 : (Cond.selects "FormulaVoiceModel" ⟨"FormulaVoiceModel", "copies", "(I)I"⟩ ⟨"FormulaVoiceModel", "copies", "(I)I"⟩) ∈ lw_all := lw_g (lw_at lw_ms 50 rfl) rfl
theorem qs51 : (Cond.selects "FormulaVoiceModel" ⟨"FormulaVoiceModel", "rank", "(III)J"⟩ ⟨"FormulaVoiceModel", "rank", "(III)J"⟩) ∈ lw_all := lw_g (lw_at lw_ms 51 rfl) rfl
theorem qs52 : (Cond.selects "FormulaVoiceModel" ⟨"FormulaVoiceModel", "inner", "(III)J"⟩ ⟨"FormulaVoiceModel", "inner", "(III)J"⟩) ∈ lw_all := lw_g (lw_at lw_ms 52 rfl) rfl
theorem qs53 : (Cond.selects "FormulaVoiceModel" ⟨"FormulaVoiceModel", "innerTwo", "(III)J"⟩ ⟨"FormulaVoiceModel", "innerTwo", "(III)J"⟩) ∈ lw_all := lw_g (lw_at lw_ms 53 rfl) rfl
theorem qs54 : (Cond.selects "FormulaVoiceModel" ⟨"FormulaVoiceModel", "keepable", "(I)I"⟩ ⟨"FormulaVoiceModel", "keepable", "(I)I"⟩) ∈ lw_all := lw_g (lw_at lw_ms 54 rfl) rfl
theorem qs55 : (Cond.selects "FormulaVoiceModel" ⟨"FormulaVoiceModel", "isOnly", "(III)Z"⟩ ⟨"FormulaVoiceModel", "isOnly", "(III)Z"⟩) ∈ lw_all := lw_g (lw_at lw_ms 55 rfl) rfl
theorem qs56 : (Cond.selects "FormulaVoiceModel" ⟨"FormulaVoiceModel", "down", "(I)Z"⟩ ⟨"FormulaVoiceModel", "down", "(I)Z"⟩) ∈ lw_all := lw_g (lw_at lw_ms 56 rfl) rfl
theorem qs57 : (Cond.selects "FormulaVoiceModel" ⟨"FormulaVoiceModel", "glanced", "(III)I"⟩ ⟨"FormulaVoiceModel", "glanced", "(III)I"⟩) ∈ lw_all := lw_g (lw_at lw_ms 57 rfl) rfl
theorem qs58 : (Cond.selects "FormulaVoiceModel" ⟨"FormulaVoiceModel", "difference", "(II)I"⟩ ⟨"FormulaVoiceModel", "difference", "(II)I"⟩) ∈ lw_all := lw_g (lw_at lw_ms 58 rfl) rfl
theorem qs59 : (Cond.selects "FormulaVoiceModel" ⟨"FormulaVoiceModel", "inside", "(II)I"⟩ ⟨"FormulaVoiceModel", "inside", "(II)I"⟩) ∈ lw_all := lw_g (lw_at lw_ms 59 rfl) rfl
theorem qs60 : (Cond.selects "FormulaVoiceModel" ⟨"FormulaVoiceModel", "wholes", "(II)I"⟩ ⟨"FormulaVoiceModel", "wholes", "(II)I"⟩) ∈ lw_all := lw_g (lw_at lw_ms 60 rfl) rfl
theorem qs61 : (Cond.selects "FormulaVoiceModel" ⟨"FormulaVoiceModel", "functions", "()I"⟩ ⟨"FormulaVoiceModel", "functions", "()I"⟩) ∈ lw_all := lw_g (lw_at lw_ms 61 rfl) rfl
theorem qs62 : (Cond.selects "FormulaVoiceModel" ⟨"FormulaVoiceModel", "kinds", "(II)V"⟩ ⟨"FormulaVoiceModel", "kinds", "(II)V"⟩) ∈ lw_all := lw_g (lw_at lw_ms 62 rfl) rfl
theorem qs63 : (Cond.selects "FormulaVoiceModel" ⟨"FormulaVoiceModel", "held", "(I)I"⟩ ⟨"FormulaVoiceModel", "held", "(I)I"⟩) ∈ lw_all := lw_g (lw_at lw_ms 63 rfl) rfl
-- ===== end of PART A; then your names; then what follows =====
