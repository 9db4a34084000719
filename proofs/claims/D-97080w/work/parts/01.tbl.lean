-- ===== PART A: goes FIRST, ahead of the names: the tables' words, and 'selects' of the private methods out of them =====
/-- a private method of a class that the tables say can be made, by its rows of tables_1 -/
def lw_okq (q : MethodName × Nat) : Prop := (q.1.cls ≠ "java/lang/invoke/MethodHandle" ∧ q.1.cls ≠ "java/lang/invoke/VarHandle") ∧ Cond.instantiable q.1.cls q.2 ∈ tables_1 ∧ Cond.privateMethod q.1 ∈ tables_1 ∧ Cond.instanceMethod q.1 ∈ tables_1
set_option maxRecDepth 100000
theorem lw_t1 {w : Cond} (h : w ∈ tables_1_1) : w ∈ tables_1 := List.mem_append_left _ h
theorem lw_t2 {w : Cond} (h : w ∈ tables_1_2) : w ∈ tables_1 := List.mem_append_right _ (List.mem_append_left _ h)
theorem lw_t3 {w : Cond} (h : w ∈ tables_1_3) : w ∈ tables_1 := List.mem_append_right _ (List.mem_append_right _ (List.mem_append_left _ h))
theorem lw_t4 {w : Cond} (h : w ∈ tables_1_4) : w ∈ tables_1 := List.mem_append_right _ (List.mem_append_right _ (List.mem_append_right _ (List.mem_append_left _ h)))
theorem lw_t5 {w : Cond} (h : w ∈ tables_1_5) : w ∈ tables_1 := List.mem_append_right _ (List.mem_append_right _ (List.mem_append_right _ (List.mem_append_right _ (List.mem_append_left _ h))))
theorem lw_t6 {w : Cond} (h : w ∈ tables_1_6) : w ∈ tables_1 := List.mem_append_right _ (List.mem_append_right _ (List.mem_append_right _ (List.mem_append_right _ (List.mem_append_right _ (List.mem_append_left _ h)))))
theorem lw_t7 {w : Cond} (h : w ∈ tables_1_7) : w ∈ tables_1 := List.mem_append_right _ (List.mem_append_right _ (List.mem_append_right _ (List.mem_append_right _ (List.mem_append_right _ (List.mem_append_right _ h)))))
theorem lw_p0 : lw_okq (⟨"java/lang/Throwable", "fillInStackTrace", "(I)Ljava/lang/Throwable;"⟩, 6) := ⟨⟨by decide +kernel, by decide +kernel⟩, lw_t1 (List.mem_of_getElem? (i := 118) rfl), lw_t1 (List.mem_of_getElem? (i := 116) rfl), lw_t1 (List.mem_of_getElem? (i := 117) rfl)⟩
theorem lw_p1 : lw_okq (⟨"LeaningStreet", "four", "(I)V"⟩, 25) := ⟨⟨by decide +kernel, by decide +kernel⟩, lw_t1 (List.mem_of_getElem? (i := 29) rfl), lw_t2 (List.mem_of_getElem? (i := 15) rfl), lw_t2 (List.mem_of_getElem? (i := 16) rfl)⟩
theorem lw_p2 : lw_okq (⟨"LeaningStreet", "textRead", "()LLeaningStreet$Text;"⟩, 25) := ⟨⟨by decide +kernel, by decide +kernel⟩, lw_t1 (List.mem_of_getElem? (i := 29) rfl), lw_t2 (List.mem_of_getElem? (i := 31) rfl), lw_t2 (List.mem_of_getElem? (i := 32) rfl)⟩
theorem lw_p3 : lw_okq (⟨"LeaningStreet", "goes", "()V"⟩, 25) := ⟨⟨by decide +kernel, by decide +kernel⟩, lw_t1 (List.mem_of_getElem? (i := 29) rfl), lw_t2 (List.mem_of_getElem? (i := 35) rfl), lw_t2 (List.mem_of_getElem? (i := 36) rfl)⟩
theorem lw_p4 : lw_okq (⟨"LeaningStreet", "wrong", "()V"⟩, 25) := ⟨⟨by decide +kernel, by decide +kernel⟩, lw_t1 (List.mem_of_getElem? (i := 29) rfl), lw_t2 (List.mem_of_getElem? (i := 45) rfl), lw_t2 (List.mem_of_getElem? (i := 46) rfl)⟩
theorem lw_p5 : lw_okq (⟨"LeaningStreet", "key", "()I"⟩, 25) := ⟨⟨by decide +kernel, by decide +kernel⟩, lw_t1 (List.mem_of_getElem? (i := 29) rfl), lw_t2 (List.mem_of_getElem? (i := 49) rfl), lw_t2 (List.mem_of_getElem? (i := 50) rfl)⟩
theorem lw_p6 : lw_okq (⟨"LeaningStreet", "isWord", "(Ljava/lang/String;)Z"⟩, 25) := ⟨⟨by decide +kernel, by decide +kernel⟩, lw_t1 (List.mem_of_getElem? (i := 29) rfl), lw_t2 (List.mem_of_getElem? (i := 54) rfl), lw_t2 (List.mem_of_getElem? (i := 55) rfl)⟩
theorem lw_p7 : lw_okq (⟨"LeaningStreet", "expression", "()LLeaningStreet$Words;"⟩, 25) := ⟨⟨by decide +kernel, by decide +kernel⟩, lw_t1 (List.mem_of_getElem? (i := 29) rfl), lw_t2 (List.mem_of_getElem? (i := 108) rfl), lw_t2 (List.mem_of_getElem? (i := 109) rfl)⟩
theorem lw_p8 : lw_okq (⟨"LeaningStreet", "or", "(LLeaningStreet$Words;)V"⟩, 25) := ⟨⟨by decide +kernel, by decide +kernel⟩, lw_t1 (List.mem_of_getElem? (i := 29) rfl), lw_t2 (List.mem_of_getElem? (i := 131) rfl), lw_t2 (List.mem_of_getElem? (i := 132) rfl)⟩
theorem lw_p9 : lw_okq (⟨"LeaningStreet", "and", "(LLeaningStreet$Words;)V"⟩, 25) := ⟨⟨by decide +kernel, by decide +kernel⟩, lw_t1 (List.mem_of_getElem? (i := 29) rfl), lw_t2 (List.mem_of_getElem? (i := 135) rfl), lw_t2 (List.mem_of_getElem? (i := 136) rfl)⟩
theorem lw_p10 : lw_okq (⟨"LeaningStreet", "test", "(LLeaningStreet$Words;)V"⟩, 25) := ⟨⟨by decide +kernel, by decide +kernel⟩, lw_t1 (List.mem_of_getElem? (i := 29) rfl), lw_t2 (List.mem_of_getElem? (i := 139) rfl), lw_t2 (List.mem_of_getElem? (i := 140) rfl)⟩
theorem lw_p11 : lw_okq (⟨"LeaningStreet", "sum", "(LLeaningStreet$Words;)V"⟩, 25) := ⟨⟨by decide +kernel, by decide +kernel⟩, lw_t1 (List.mem_of_getElem? (i := 29) rfl), lw_t2 (List.mem_of_getElem? (i := 143) rfl), lw_t2 (List.mem_of_getElem? (i := 144) rfl)⟩
theorem lw_p12 : lw_okq (⟨"LeaningStreet", "term", "(LLeaningStreet$Words;)V"⟩, 25) := ⟨⟨by decide +kernel, by decide +kernel⟩, lw_t1 (List.mem_of_getElem? (i := 29) rfl), lw_t2 (List.mem_of_getElem? (i := 147) rfl), lw_t2 (List.mem_of_getElem? (i := 148) rfl)⟩
theorem lw_p13 : lw_okq (⟨"LeaningStreet", "piece", "(LLeaningStreet$Words;)V"⟩, 25) := ⟨⟨by decide +kernel, by decide +kernel⟩, lw_t1 (List.mem_of_getElem? (i := 29) rfl), lw_t2 (List.mem_of_getElem? (i := 151) rfl), lw_t2 (List.mem_of_getElem? (i := 152) rfl)⟩
theorem lw_p14 : lw_okq (⟨"LeaningStreet", "isSign", "(I)Z"⟩, 25) := ⟨⟨by decide +kernel, by decide +kernel⟩, lw_t1 (List.mem_of_getElem? (i := 29) rfl), lw_t2 (List.mem_of_getElem? (i := 155) rfl), lw_t2 (List.mem_of_getElem? (i := 156) rfl)⟩
theorem lw_p15 : lw_okq (⟨"LeaningStreet", "number", "()I"⟩, 25) := ⟨⟨by decide +kernel, by decide +kernel⟩, lw_t1 (List.mem_of_getElem? (i := 29) rfl), lw_t2 (List.mem_of_getElem? (i := 163) rfl), lw_t2 (List.mem_of_getElem? (i := 164) rfl)⟩
def lw_privs_1 : List (MethodName × Nat) := [(⟨"java/lang/Throwable", "fillInStackTrace", "(I)Ljava/lang/Throwable;"⟩, 6), (⟨"LeaningStreet", "four", "(I)V"⟩, 25), (⟨"LeaningStreet", "textRead", "()LLeaningStreet$Text;"⟩, 25), (⟨"LeaningStreet", "goes", "()V"⟩, 25), (⟨"LeaningStreet", "wrong", "()V"⟩, 25), (⟨"LeaningStreet", "key", "()I"⟩, 25), (⟨"LeaningStreet", "isWord", "(Ljava/lang/String;)Z"⟩, 25), (⟨"LeaningStreet", "expression", "()LLeaningStreet$Words;"⟩, 25), (⟨"LeaningStreet", "or", "(LLeaningStreet$Words;)V"⟩, 25), (⟨"LeaningStreet", "and", "(LLeaningStreet$Words;)V"⟩, 25), (⟨"LeaningStreet", "test", "(LLeaningStreet$Words;)V"⟩, 25), (⟨"LeaningStreet", "sum", "(LLeaningStreet$Words;)V"⟩, 25), (⟨"LeaningStreet", "term", "(LLeaningStreet$Words;)V"⟩, 25), (⟨"LeaningStreet", "piece", "(LLeaningStreet$Words;)V"⟩, 25), (⟨"LeaningStreet", "isSign", "(I)Z"⟩, 25), (⟨"LeaningStreet", "number", "()I"⟩, 25)]
theorem lw_r1 : ∀ q ∈ lw_privs_1, lw_okq q := List.forall_mem_cons.mpr ⟨lw_p0, List.forall_mem_cons.mpr ⟨lw_p1, List.forall_mem_cons.mpr ⟨lw_p2, List.forall_mem_cons.mpr ⟨lw_p3, List.forall_mem_cons.mpr ⟨lw_p4, List.forall_mem_cons.mpr ⟨lw_p5, List.forall_mem_cons.mpr ⟨lw_p6, List.forall_mem_cons.mpr ⟨lw_p7, List.forall_mem_cons.mpr ⟨lw_p8, List.forall_mem_cons.mpr ⟨lw_p9, List.forall_mem_cons.mpr ⟨lw_p10, List.forall_mem_cons.mpr ⟨lw_p11, List.forall_mem_cons.mpr ⟨lw_p12, List.forall_mem_cons.mpr ⟨lw_p13, List.forall_mem_cons.mpr ⟨lw_p14, List.forall_mem_cons.mpr ⟨lw_p15, fun _ h => absurd h List.not_mem_nil⟩⟩⟩⟩⟩⟩⟩⟩⟩⟩⟩⟩⟩⟩⟩⟩
theorem lw_p16 : lw_okq (⟨"LeaningStreet", "isName", "(I)Z"⟩, 25) := ⟨⟨by decide +kernel, by decide +kernel⟩, lw_t1 (List.mem_of_getElem? (i := 29) rfl), lw_t2 (List.mem_of_getElem? (i := 167) rfl), lw_t2 (List.mem_of_getElem? (i := 168) rfl)⟩
theorem lw_p17 : lw_okq (⟨"LeaningStreet", "counts", "(I)I"⟩, 25) := ⟨⟨by decide +kernel, by decide +kernel⟩, lw_t1 (List.mem_of_getElem? (i := 29) rfl), lw_t2 (List.mem_of_getElem? (i := 198) rfl), lw_t2 (List.mem_of_getElem? (i := 199) rfl)⟩
theorem lw_p18 : lw_okq (⟨"LeaningStreet", "comes", "(IIII)I"⟩, 25) := ⟨⟨by decide +kernel, by decide +kernel⟩, lw_t1 (List.mem_of_getElem? (i := 29) rfl), lw_t2 (List.mem_of_getElem? (i := 213) rfl), lw_t2 (List.mem_of_getElem? (i := 214) rfl)⟩
theorem lw_p19 : lw_okq (⟨"LeaningStreet", "isHouse", "(I)Z"⟩, 25) := ⟨⟨by decide +kernel, by decide +kernel⟩, lw_t1 (List.mem_of_getElem? (i := 29) rfl), lw_t3 (List.mem_of_getElem? (i := 83) rfl), lw_t3 (List.mem_of_getElem? (i := 84) rfl)⟩
theorem lw_p20 : lw_okq (⟨"LeaningStreet", "pushOf", "(LLeaningStreet$House;)I"⟩, 25) := ⟨⟨by decide +kernel, by decide +kernel⟩, lw_t1 (List.mem_of_getElem? (i := 29) rfl), lw_t3 (List.mem_of_getElem? (i := 109) rfl), lw_t3 (List.mem_of_getElem? (i := 110) rfl)⟩
theorem lw_p21 : lw_okq (⟨"LeaningStreet", "reckon", "(LLeaningStreet$Words;)I"⟩, 25) := ⟨⟨by decide +kernel, by decide +kernel⟩, lw_t1 (List.mem_of_getElem? (i := 29) rfl), lw_t3 (List.mem_of_getElem? (i := 148) rfl), lw_t3 (List.mem_of_getElem? (i := 149) rfl)⟩
theorem lw_p22 : lw_okq (⟨"LeaningStreet", "thrustOn", "(I)I"⟩, 25) := ⟨⟨by decide +kernel, by decide +kernel⟩, lw_t1 (List.mem_of_getElem? (i := 29) rfl), lw_t3 (List.mem_of_getElem? (i := 173) rfl), lw_t3 (List.mem_of_getElem? (i := 174) rfl)⟩
theorem lw_p23 : lw_okq (⟨"LeaningStreet", "nextOf", "(III)I"⟩, 25) := ⟨⟨by decide +kernel, by decide +kernel⟩, lw_t1 (List.mem_of_getElem? (i := 29) rfl), lw_t3 (List.mem_of_getElem? (i := 181) rfl), lw_t3 (List.mem_of_getElem? (i := 182) rfl)⟩
theorem lw_p24 : lw_okq (⟨"LeaningStreet", "goesOn", "(I)V"⟩, 25) := ⟨⟨by decide +kernel, by decide +kernel⟩, lw_t1 (List.mem_of_getElem? (i := 29) rfl), lw_t4 (List.mem_of_getElem? (i := 71) rfl), lw_t4 (List.mem_of_getElem? (i := 72) rfl)⟩
theorem lw_p25 : lw_okq (⟨"LeaningStreet", "aDay", "()V"⟩, 25) := ⟨⟨by decide +kernel, by decide +kernel⟩, lw_t1 (List.mem_of_getElem? (i := 29) rfl), lw_t4 (List.mem_of_getElem? (i := 75) rfl), lw_t4 (List.mem_of_getElem? (i := 76) rfl)⟩
theorem lw_p26 : lw_okq (⟨"LeaningStreet", "findThrusts", "()V"⟩, 25) := ⟨⟨by decide +kernel, by decide +kernel⟩, lw_t1 (List.mem_of_getElem? (i := 29) rfl), lw_t4 (List.mem_of_getElem? (i := 79) rfl), lw_t4 (List.mem_of_getElem? (i := 80) rfl)⟩
theorem lw_p27 : lw_okq (⟨"LeaningStreet", "cracks", "()V"⟩, 25) := ⟨⟨by decide +kernel, by decide +kernel⟩, lw_t1 (List.mem_of_getElem? (i := 29) rfl), lw_t4 (List.mem_of_getElem? (i := 83) rfl), lw_t4 (List.mem_of_getElem? (i := 84) rfl)⟩
theorem lw_p28 : lw_okq (⟨"LeaningStreet", "fall", "()V"⟩, 25) := ⟨⟨by decide +kernel, by decide +kernel⟩, lw_t1 (List.mem_of_getElem? (i := 29) rfl), lw_t4 (List.mem_of_getElem? (i := 87) rfl), lw_t4 (List.mem_of_getElem? (i := 88) rfl)⟩
theorem lw_p29 : lw_okq (⟨"LeaningStreet", "isDown", "(I)Z"⟩, 25) := ⟨⟨by decide +kernel, by decide +kernel⟩, lw_t1 (List.mem_of_getElem? (i := 29) rfl), lw_t4 (List.mem_of_getElem? (i := 91) rfl), lw_t4 (List.mem_of_getElem? (i := 92) rfl)⟩
theorem lw_p30 : lw_okq (⟨"LeaningStreet", "thinks", "()V"⟩, 25) := ⟨⟨by decide +kernel, by decide +kernel⟩, lw_t1 (List.mem_of_getElem? (i := 29) rfl), lw_t4 (List.mem_of_getElem? (i := 111) rfl), lw_t4 (List.mem_of_getElem? (i := 112) rfl)⟩
theorem lw_p31 : lw_okq (⟨"LeaningStreet", "putsBack", "()V"⟩, 25) := ⟨⟨by decide +kernel, by decide +kernel⟩, lw_t1 (List.mem_of_getElem? (i := 29) rfl), lw_t4 (List.mem_of_getElem? (i := 156) rfl), lw_t4 (List.mem_of_getElem? (i := 157) rfl)⟩
def lw_privs_2 : List (MethodName × Nat) := [(⟨"LeaningStreet", "isName", "(I)Z"⟩, 25), (⟨"LeaningStreet", "counts", "(I)I"⟩, 25), (⟨"LeaningStreet", "comes", "(IIII)I"⟩, 25), (⟨"LeaningStreet", "isHouse", "(I)Z"⟩, 25), (⟨"LeaningStreet", "pushOf", "(LLeaningStreet$House;)I"⟩, 25), (⟨"LeaningStreet", "reckon", "(LLeaningStreet$Words;)I"⟩, 25), (⟨"LeaningStreet", "thrustOn", "(I)I"⟩, 25), (⟨"LeaningStreet", "nextOf", "(III)I"⟩, 25), (⟨"LeaningStreet", "goesOn", "(I)V"⟩, 25), (⟨"LeaningStreet", "aDay", "()V"⟩, 25), (⟨"LeaningStreet", "findThrusts", "()V"⟩, 25), (⟨"LeaningStreet", "cracks", "()V"⟩, 25), (⟨"LeaningStreet", "fall", "()V"⟩, 25), (⟨"LeaningStreet", "isDown", "(I)Z"⟩, 25), (⟨"LeaningStreet", "thinks", "()V"⟩, 25), (⟨"LeaningStreet", "putsBack", "()V"⟩, 25)]
theorem lw_r2 : ∀ q ∈ lw_privs_2, lw_okq q := List.forall_mem_cons.mpr ⟨lw_p16, List.forall_mem_cons.mpr ⟨lw_p17, List.forall_mem_cons.mpr ⟨lw_p18, List.forall_mem_cons.mpr ⟨lw_p19, List.forall_mem_cons.mpr ⟨lw_p20, List.forall_mem_cons.mpr ⟨lw_p21, List.forall_mem_cons.mpr ⟨lw_p22, List.forall_mem_cons.mpr ⟨lw_p23, List.forall_mem_cons.mpr ⟨lw_p24, List.forall_mem_cons.mpr ⟨lw_p25, List.forall_mem_cons.mpr ⟨lw_p26, List.forall_mem_cons.mpr ⟨lw_p27, List.forall_mem_cons.mpr ⟨lw_p28, List.forall_mem_cons.mpr ⟨lw_p29, List.forall_mem_cons.mpr ⟨lw_p30, List.forall_mem_cons.mpr ⟨lw_p31, fun _ h => absurd h List.not_mem_nil⟩⟩⟩⟩⟩⟩⟩⟩⟩⟩⟩⟩⟩⟩⟩⟩
theorem lw_p32 : lw_okq (⟨"LeaningStreet", "standingBehind", "(I)I"⟩, 25) := ⟨⟨by decide +kernel, by decide +kernel⟩, lw_t1 (List.mem_of_getElem? (i := 29) rfl), lw_t4 (List.mem_of_getElem? (i := 168) rfl), lw_t4 (List.mem_of_getElem? (i := 169) rfl)⟩
theorem lw_p33 : lw_okq (⟨"LeaningStreet", "offBy", "(LLeaningStreet$Sheet;II)J"⟩, 25) := ⟨⟨by decide +kernel, by decide +kernel⟩, lw_t1 (List.mem_of_getElem? (i := 29) rfl), lw_t5 (List.mem_of_getElem? (i := 30) rfl), lw_t5 (List.mem_of_getElem? (i := 31) rfl)⟩
theorem lw_p34 : lw_okq (⟨"LeaningStreet", "carries", "(LLeaningStreet$Sheet;ILLeaningStreet$Sheet;II)V"⟩, 25) := ⟨⟨by decide +kernel, by decide +kernel⟩, lw_t1 (List.mem_of_getElem? (i := 29) rfl), lw_t5 (List.mem_of_getElem? (i := 41) rfl), lw_t5 (List.mem_of_getElem? (i := 42) rfl)⟩
theorem lw_p35 : lw_okq (⟨"LeaningStreet", "own", "(LLeaningStreet$Sheet;)LLeaningStreet$Sheet;"⟩, 25) := ⟨⟨by decide +kernel, by decide +kernel⟩, lw_t1 (List.mem_of_getElem? (i := 29) rfl), lw_t5 (List.mem_of_getElem? (i := 72) rfl), lw_t5 (List.mem_of_getElem? (i := 73) rfl)⟩
theorem lw_p36 : lw_okq (⟨"LeaningStreet", "rowsOfDays", "(I)I"⟩, 25) := ⟨⟨by decide +kernel, by decide +kernel⟩, lw_t1 (List.mem_of_getElem? (i := 29) rfl), lw_t5 (List.mem_of_getElem? (i := 135) rfl), lw_t5 (List.mem_of_getElem? (i := 136) rfl)⟩
theorem lw_p37 : lw_okq (⟨"LeaningStreetModel", "comes", "(IIII)V"⟩, 33) := ⟨⟨by decide +kernel, by decide +kernel⟩, lw_t5 (List.mem_of_getElem? (i := 151) rfl), lw_t6 (List.mem_of_getElem? (i := 35) rfl), lw_t6 (List.mem_of_getElem? (i := 36) rfl)⟩
theorem lw_p38 : lw_okq (⟨"LeaningStreetModel", "sets", "(III)V"⟩, 33) := ⟨⟨by decide +kernel, by decide +kernel⟩, lw_t5 (List.mem_of_getElem? (i := 151) rfl), lw_t6 (List.mem_of_getElem? (i := 39) rfl), lw_t6 (List.mem_of_getElem? (i := 40) rfl)⟩
theorem lw_p39 : lw_okq (⟨"LeaningStreetModel", "isHouse", "(I)Z"⟩, 33) := ⟨⟨by decide +kernel, by decide +kernel⟩, lw_t5 (List.mem_of_getElem? (i := 151) rfl), lw_t6 (List.mem_of_getElem? (i := 47) rfl), lw_t6 (List.mem_of_getElem? (i := 48) rfl)⟩
theorem lw_p40 : lw_okq (⟨"LeaningStreetModel", "of", "(II)I"⟩, 33) := ⟨⟨by decide +kernel, by decide +kernel⟩, lw_t5 (List.mem_of_getElem? (i := 151) rfl), lw_t6 (List.mem_of_getElem? (i := 51) rfl), lw_t6 (List.mem_of_getElem? (i := 52) rfl)⟩
theorem lw_p41 : lw_okq (⟨"LeaningStreetModel", "pushes", "(I)I"⟩, 33) := ⟨⟨by decide +kernel, by decide +kernel⟩, lw_t5 (List.mem_of_getElem? (i := 151) rfl), lw_t6 (List.mem_of_getElem? (i := 55) rfl), lw_t6 (List.mem_of_getElem? (i := 56) rfl)⟩
theorem lw_p42 : lw_okq (⟨"LeaningStreetModel", "counts", "(I)I"⟩, 33) := ⟨⟨by decide +kernel, by decide +kernel⟩, lw_t5 (List.mem_of_getElem? (i := 151) rfl), lw_t6 (List.mem_of_getElem? (i := 62) rfl), lw_t6 (List.mem_of_getElem? (i := 63) rfl)⟩
theorem lw_p43 : lw_okq (⟨"LeaningStreetModel", "textAt", "(I)I"⟩, 33) := ⟨⟨by decide +kernel, by decide +kernel⟩, lw_t5 (List.mem_of_getElem? (i := 151) rfl), lw_t6 (List.mem_of_getElem? (i := 66) rfl), lw_t6 (List.mem_of_getElem? (i := 67) rfl)⟩
theorem lw_p44 : lw_okq (⟨"LeaningStreetModel", "worked", "(I)I"⟩, 33) := ⟨⟨by decide +kernel, by decide +kernel⟩, lw_t5 (List.mem_of_getElem? (i := 151) rfl), lw_t6 (List.mem_of_getElem? (i := 70) rfl), lw_t6 (List.mem_of_getElem? (i := 71) rfl)⟩
theorem lw_p45 : lw_okq (⟨"LeaningStreetModel", "bears", "(I)I"⟩, 33) := ⟨⟨by decide +kernel, by decide +kernel⟩, lw_t5 (List.mem_of_getElem? (i := 151) rfl), lw_t6 (List.mem_of_getElem? (i := 80) rfl), lw_t6 (List.mem_of_getElem? (i := 81) rfl)⟩
theorem lw_p46 : lw_okq (⟨"LeaningStreetModel", "thrust", "(I)I"⟩, 33) := ⟨⟨by decide +kernel, by decide +kernel⟩, lw_t5 (List.mem_of_getElem? (i := 151) rfl), lw_t6 (List.mem_of_getElem? (i := 84) rfl), lw_t6 (List.mem_of_getElem? (i := 85) rfl)⟩
theorem lw_p47 : lw_okq (⟨"LeaningStreetModel", "stands", "(I)Z"⟩, 33) := ⟨⟨by decide +kernel, by decide +kernel⟩, lw_t5 (List.mem_of_getElem? (i := 151) rfl), lw_t6 (List.mem_of_getElem? (i := 88) rfl), lw_t6 (List.mem_of_getElem? (i := 89) rfl)⟩
def lw_privs_3 : List (MethodName × Nat) := [(⟨"LeaningStreet", "standingBehind", "(I)I"⟩, 25), (⟨"LeaningStreet", "offBy", "(LLeaningStreet$Sheet;II)J"⟩, 25), (⟨"LeaningStreet", "carries", "(LLeaningStreet$Sheet;ILLeaningStreet$Sheet;II)V"⟩, 25), (⟨"LeaningStreet", "own", "(LLeaningStreet$Sheet;)LLeaningStreet$Sheet;"⟩, 25), (⟨"LeaningStreet", "rowsOfDays", "(I)I"⟩, 25), (⟨"LeaningStreetModel", "comes", "(IIII)V"⟩, 33), (⟨"LeaningStreetModel", "sets", "(III)V"⟩, 33), (⟨"LeaningStreetModel", "isHouse", "(I)Z"⟩, 33), (⟨"LeaningStreetModel", "of", "(II)I"⟩, 33), (⟨"LeaningStreetModel", "pushes", "(I)I"⟩, 33), (⟨"LeaningStreetModel", "counts", "(I)I"⟩, 33), (⟨"LeaningStreetModel", "textAt", "(I)I"⟩, 33), (⟨"LeaningStreetModel", "worked", "(I)I"⟩, 33), (⟨"LeaningStreetModel", "bears", "(I)I"⟩, 33), (⟨"LeaningStreetModel", "thrust", "(I)I"⟩, 33), (⟨"LeaningStreetModel", "stands", "(I)Z"⟩, 33)]
theorem lw_r3 : ∀ q ∈ lw_privs_3, lw_okq q := List.forall_mem_cons.mpr ⟨lw_p32, List.forall_mem_cons.mpr ⟨lw_p33, List.forall_mem_cons.mpr ⟨lw_p34, List.forall_mem_cons.mpr ⟨lw_p35, List.forall_mem_cons.mpr ⟨lw_p36, List.forall_mem_cons.mpr ⟨lw_p37, List.forall_mem_cons.mpr ⟨lw_p38, List.forall_mem_cons.mpr ⟨lw_p39, List.forall_mem_cons.mpr ⟨lw_p40, List.forall_mem_cons.mpr ⟨lw_p41, List.forall_mem_cons.mpr ⟨lw_p42, List.forall_mem_cons.mpr ⟨lw_p43, List.forall_mem_cons.mpr ⟨lw_p44, List.forall_mem_cons.mpr ⟨lw_p45, List.forall_mem_cons.mpr ⟨lw_p46, List.forall_mem_cons.mpr ⟨lw_p47, fun _ h => absurd h List.not_mem_nil⟩⟩⟩⟩⟩⟩⟩⟩⟩⟩⟩⟩⟩⟩⟩⟩
theorem lw_p48 : lw_okq (⟨"LeaningStreetModel", "allStanding", "()I"⟩, 33) := ⟨⟨by decide +kernel, by decide +kernel⟩, lw_t5 (List.mem_of_getElem? (i := 151) rfl), lw_t6 (List.mem_of_getElem? (i := 92) rfl), lw_t6 (List.mem_of_getElem? (i := 93) rfl)⟩
theorem lw_p49 : lw_okq (⟨"LeaningStreetModel", "nextOf", "(III)I"⟩, 33) := ⟨⟨by decide +kernel, by decide +kernel⟩, lw_t5 (List.mem_of_getElem? (i := 151) rfl), lw_t6 (List.mem_of_getElem? (i := 96) rfl), lw_t6 (List.mem_of_getElem? (i := 97) rfl)⟩
theorem lw_p50 : lw_okq (⟨"LeaningStreetModel", "worth", "(I)I"⟩, 33) := ⟨⟨by decide +kernel, by decide +kernel⟩, lw_t5 (List.mem_of_getElem? (i := 151) rfl), lw_t6 (List.mem_of_getElem? (i := 100) rfl), lw_t6 (List.mem_of_getElem? (i := 101) rfl)⟩
theorem lw_p51 : lw_okq (⟨"LeaningStreetModel", "becomes", "(II)I"⟩, 33) := ⟨⟨by decide +kernel, by decide +kernel⟩, lw_t5 (List.mem_of_getElem? (i := 151) rfl), lw_t6 (List.mem_of_getElem? (i := 116) rfl), lw_t6 (List.mem_of_getElem? (i := 117) rfl)⟩
theorem lw_p52 : lw_okq (⟨"LeaningStreetModel", "falls", "(I)V"⟩, 33) := ⟨⟨by decide +kernel, by decide +kernel⟩, lw_t5 (List.mem_of_getElem? (i := 151) rfl), lw_t6 (List.mem_of_getElem? (i := 129) rfl), lw_t6 (List.mem_of_getElem? (i := 130) rfl)⟩
theorem lw_p53 : lw_okq (⟨"LeaningStreetModel", "drawn", "()I"⟩, 33) := ⟨⟨by decide +kernel, by decide +kernel⟩, lw_t5 (List.mem_of_getElem? (i := 151) rfl), lw_t6 (List.mem_of_getElem? (i := 150) rfl), lw_t6 (List.mem_of_getElem? (i := 151) rfl)⟩
theorem lw_p54 : lw_okq (⟨"LeaningStreetModel", "goesOn", "()V"⟩, 33) := ⟨⟨by decide +kernel, by decide +kernel⟩, lw_t5 (List.mem_of_getElem? (i := 151) rfl), lw_t6 (List.mem_of_getElem? (i := 164) rfl), lw_t6 (List.mem_of_getElem? (i := 165) rfl)⟩
theorem lw_p55 : lw_okq (⟨"LeaningStreetModel", "fallsWith", "(II)Z"⟩, 33) := ⟨⟨by decide +kernel, by decide +kernel⟩, lw_t5 (List.mem_of_getElem? (i := 151) rfl), lw_t6 (List.mem_of_getElem? (i := 168) rfl), lw_t6 (List.mem_of_getElem? (i := 169) rfl)⟩
theorem lw_p56 : lw_okq (⟨"LeaningStreetModel", "allOf", "(I)I"⟩, 33) := ⟨⟨by decide +kernel, by decide +kernel⟩, lw_t5 (List.mem_of_getElem? (i := 151) rfl), lw_t6 (List.mem_of_getElem? (i := 176) rfl), lw_t6 (List.mem_of_getElem? (i := 177) rfl)⟩
theorem lw_p57 : lw_okq (⟨"LeaningStreetModel", "looseOnes", "()I"⟩, 33) := ⟨⟨by decide +kernel, by decide +kernel⟩, lw_t5 (List.mem_of_getElem? (i := 151) rfl), lw_t6 (List.mem_of_getElem? (i := 180) rfl), lw_t6 (List.mem_of_getElem? (i := 181) rfl)⟩
theorem lw_p58 : lw_okq (⟨"LeaningStreetModel", "laysBy", "()V"⟩, 33) := ⟨⟨by decide +kernel, by decide +kernel⟩, lw_t5 (List.mem_of_getElem? (i := 151) rfl), lw_t6 (List.mem_of_getElem? (i := 188) rfl), lw_t6 (List.mem_of_getElem? (i := 189) rfl)⟩
theorem lw_p59 : lw_okq (⟨"LeaningStreetModel", "goesOnMany", "(I)V"⟩, 33) := ⟨⟨by decide +kernel, by decide +kernel⟩, lw_t5 (List.mem_of_getElem? (i := 151) rfl), lw_t6 (List.mem_of_getElem? (i := 192) rfl), lw_t6 (List.mem_of_getElem? (i := 193) rfl)⟩
theorem lw_p60 : lw_okq (⟨"LeaningStreetModel", "laysBack", "()V"⟩, 33) := ⟨⟨by decide +kernel, by decide +kernel⟩, lw_t5 (List.mem_of_getElem? (i := 151) rfl), lw_t6 (List.mem_of_getElem? (i := 196) rfl), lw_t6 (List.mem_of_getElem? (i := 197) rfl)⟩
theorem lw_p61 : lw_okq (⟨"LeaningStreetModel", "keeps", "(I)Z"⟩, 33) := ⟨⟨by decide +kernel, by decide +kernel⟩, lw_t5 (List.mem_of_getElem? (i := 151) rfl), lw_t6 (List.mem_of_getElem? (i := 218) rfl), lw_t6 (List.mem_of_getElem? (i := 219) rfl)⟩
theorem lw_p62 : lw_okq (⟨"LeaningStreetModel", "parse", "()I"⟩, 33) := ⟨⟨by decide +kernel, by decide +kernel⟩, lw_t5 (List.mem_of_getElem? (i := 151) rfl), lw_t7 (List.mem_of_getElem? (i := 10) rfl), lw_t7 (List.mem_of_getElem? (i := 11) rfl)⟩
theorem lw_p63 : lw_okq (⟨"LeaningStreetModel", "nextToken", "()V"⟩, 33) := ⟨⟨by decide +kernel, by decide +kernel⟩, lw_t5 (List.mem_of_getElem? (i := 151) rfl), lw_t7 (List.mem_of_getElem? (i := 14) rfl), lw_t7 (List.mem_of_getElem? (i := 15) rfl)⟩
def lw_privs_4 : List (MethodName × Nat) := [(⟨"LeaningStreetModel", "allStanding", "()I"⟩, 33), (⟨"LeaningStreetModel", "nextOf", "(III)I"⟩, 33), (⟨"LeaningStreetModel", "worth", "(I)I"⟩, 33), (⟨"LeaningStreetModel", "becomes", "(II)I"⟩, 33), (⟨"LeaningStreetModel", "falls", "(I)V"⟩, 33), (⟨"LeaningStreetModel", "drawn", "()I"⟩, 33), (⟨"LeaningStreetModel", "goesOn", "()V"⟩, 33), (⟨"LeaningStreetModel", "fallsWith", "(II)Z"⟩, 33), (⟨"LeaningStreetModel", "allOf", "(I)I"⟩, 33), (⟨"LeaningStreetModel", "looseOnes", "()I"⟩, 33), (⟨"LeaningStreetModel", "laysBy", "()V"⟩, 33), (⟨"LeaningStreetModel", "goesOnMany", "(I)V"⟩, 33), (⟨"LeaningStreetModel", "laysBack", "()V"⟩, 33), (⟨"LeaningStreetModel", "keeps", "(I)Z"⟩, 33), (⟨"LeaningStreetModel", "parse", "()I"⟩, 33), (⟨"LeaningStreetModel", "nextToken", "()V"⟩, 33)]
theorem lw_r4 : ∀ q ∈ lw_privs_4, lw_okq q := List.forall_mem_cons.mpr ⟨lw_p48, List.forall_mem_cons.mpr ⟨lw_p49, List.forall_mem_cons.mpr ⟨lw_p50, List.forall_mem_cons.mpr ⟨lw_p51, List.forall_mem_cons.mpr ⟨lw_p52, List.forall_mem_cons.mpr ⟨lw_p53, List.forall_mem_cons.mpr ⟨lw_p54, List.forall_mem_cons.mpr ⟨lw_p55, List.forall_mem_cons.mpr ⟨lw_p56, List.forall_mem_cons.mpr ⟨lw_p57, List.forall_mem_cons.mpr ⟨lw_p58, List.forall_mem_cons.mpr ⟨lw_p59, List.forall_mem_cons.mpr ⟨lw_p60, List.forall_mem_cons.mpr ⟨lw_p61, List.forall_mem_cons.mpr ⟨lw_p62, List.forall_mem_cons.mpr ⟨lw_p63, fun _ h => absurd h List.not_mem_nil⟩⟩⟩⟩⟩⟩⟩⟩⟩⟩⟩⟩⟩⟩⟩⟩
theorem lw_p64 : lw_okq (⟨"LeaningStreetModel", "isLetter", "(I)Z"⟩, 33) := ⟨⟨by decide +kernel, by decide +kernel⟩, lw_t5 (List.mem_of_getElem? (i := 151) rfl), lw_t7 (List.mem_of_getElem? (i := 18) rfl), lw_t7 (List.mem_of_getElem? (i := 19) rfl)⟩
theorem lw_p65 : lw_okq (⟨"LeaningStreetModel", "isDigit", "(I)Z"⟩, 33) := ⟨⟨by decide +kernel, by decide +kernel⟩, lw_t5 (List.mem_of_getElem? (i := 151) rfl), lw_t7 (List.mem_of_getElem? (i := 24) rfl), lw_t7 (List.mem_of_getElem? (i := 25) rfl)⟩
theorem lw_p66 : lw_okq (⟨"LeaningStreetModel", "key", "()I"⟩, 33) := ⟨⟨by decide +kernel, by decide +kernel⟩, lw_t5 (List.mem_of_getElem? (i := 151) rfl), lw_t7 (List.mem_of_getElem? (i := 30) rfl), lw_t7 (List.mem_of_getElem? (i := 31) rfl)⟩
theorem lw_p67 : lw_okq (⟨"LeaningStreetModel", "isWordAt", "(IIII)Z"⟩, 33) := ⟨⟨by decide +kernel, by decide +kernel⟩, lw_t5 (List.mem_of_getElem? (i := 151) rfl), lw_t7 (List.mem_of_getElem? (i := 34) rfl), lw_t7 (List.mem_of_getElem? (i := 35) rfl)⟩
theorem lw_p68 : lw_okq (⟨"LeaningStreetModel", "either", "(I)Z"⟩, 33) := ⟨⟨by decide +kernel, by decide +kernel⟩, lw_t5 (List.mem_of_getElem? (i := 151) rfl), lw_t7 (List.mem_of_getElem? (i := 38) rfl), lw_t7 (List.mem_of_getElem? (i := 39) rfl)⟩
theorem lw_p69 : lw_okq (⟨"LeaningStreetModel", "both", "(I)Z"⟩, 33) := ⟨⟨by decide +kernel, by decide +kernel⟩, lw_t5 (List.mem_of_getElem? (i := 151) rfl), lw_t7 (List.mem_of_getElem? (i := 42) rfl), lw_t7 (List.mem_of_getElem? (i := 43) rfl)⟩
theorem lw_p70 : lw_okq (⟨"LeaningStreetModel", "test", "(I)Z"⟩, 33) := ⟨⟨by decide +kernel, by decide +kernel⟩, lw_t5 (List.mem_of_getElem? (i := 151) rfl), lw_t7 (List.mem_of_getElem? (i := 46) rfl), lw_t7 (List.mem_of_getElem? (i := 47) rfl)⟩
theorem lw_p71 : lw_okq (⟨"LeaningStreetModel", "sum", "(I)Z"⟩, 33) := ⟨⟨by decide +kernel, by decide +kernel⟩, lw_t5 (List.mem_of_getElem? (i := 151) rfl), lw_t7 (List.mem_of_getElem? (i := 50) rfl), lw_t7 (List.mem_of_getElem? (i := 51) rfl)⟩
theorem lw_p72 : lw_okq (⟨"LeaningStreetModel", "term", "(I)Z"⟩, 33) := ⟨⟨by decide +kernel, by decide +kernel⟩, lw_t5 (List.mem_of_getElem? (i := 151) rfl), lw_t7 (List.mem_of_getElem? (i := 54) rfl), lw_t7 (List.mem_of_getElem? (i := 55) rfl)⟩
theorem lw_p73 : lw_okq (⟨"LeaningStreetModel", "part0", "(I)Z"⟩, 33) := ⟨⟨by decide +kernel, by decide +kernel⟩, lw_t5 (List.mem_of_getElem? (i := 151) rfl), lw_t7 (List.mem_of_getElem? (i := 58) rfl), lw_t7 (List.mem_of_getElem? (i := 59) rfl)⟩
theorem lw_p74 : lw_okq (⟨"LeaningStreetModel", "step", "(II)V"⟩, 33) := ⟨⟨by decide +kernel, by decide +kernel⟩, lw_t5 (List.mem_of_getElem? (i := 151) rfl), lw_t7 (List.mem_of_getElem? (i := 62) rfl), lw_t7 (List.mem_of_getElem? (i := 63) rfl)⟩
theorem lw_p75 : lw_okq (⟨"LeaningStreetModel", "isSign", "(I)Z"⟩, 33) := ⟨⟨by decide +kernel, by decide +kernel⟩, lw_t5 (List.mem_of_getElem? (i := 151) rfl), lw_t7 (List.mem_of_getElem? (i := 69) rfl), lw_t7 (List.mem_of_getElem? (i := 70) rfl)⟩
theorem lw_p76 : lw_okq (⟨"LeaningStreetModel", "isText", "(I)Z"⟩, 33) := ⟨⟨by decide +kernel, by decide +kernel⟩, lw_t5 (List.mem_of_getElem? (i := 151) rfl), lw_t7 (List.mem_of_getElem? (i := 77) rfl), lw_t7 (List.mem_of_getElem? (i := 78) rfl)⟩
theorem lw_p77 : lw_okq (⟨"LeaningStreetModel", "setAside", "([I[I)V"⟩, 33) := ⟨⟨by decide +kernel, by decide +kernel⟩, lw_t5 (List.mem_of_getElem? (i := 151) rfl), lw_t7 (List.mem_of_getElem? (i := 149) rfl), lw_t7 (List.mem_of_getElem? (i := 150) rfl)⟩
def lw_privs_5 : List (MethodName × Nat) := [(⟨"LeaningStreetModel", "isLetter", "(I)Z"⟩, 33), (⟨"LeaningStreetModel", "isDigit", "(I)Z"⟩, 33), (⟨"LeaningStreetModel", "key", "()I"⟩, 33), (⟨"LeaningStreetModel", "isWordAt", "(IIII)Z"⟩, 33), (⟨"LeaningStreetModel", "either", "(I)Z"⟩, 33), (⟨"LeaningStreetModel", "both", "(I)Z"⟩, 33), (⟨"LeaningStreetModel", "test", "(I)Z"⟩, 33), (⟨"LeaningStreetModel", "sum", "(I)Z"⟩, 33), (⟨"LeaningStreetModel", "term", "(I)Z"⟩, 33), (⟨"LeaningStreetModel", "part0", "(I)Z"⟩, 33), (⟨"LeaningStreetModel", "step", "(II)V"⟩, 33), (⟨"LeaningStreetModel", "isSign", "(I)Z"⟩, 33), (⟨"LeaningStreetModel", "isText", "(I)Z"⟩, 33), (⟨"LeaningStreetModel", "setAside", "([I[I)V"⟩, 33)]
theorem lw_r5 : ∀ q ∈ lw_privs_5, lw_okq q := List.forall_mem_cons.mpr ⟨lw_p64, List.forall_mem_cons.mpr ⟨lw_p65, List.forall_mem_cons.mpr ⟨lw_p66, List.forall_mem_cons.mpr ⟨lw_p67, List.forall_mem_cons.mpr ⟨lw_p68, List.forall_mem_cons.mpr ⟨lw_p69, List.forall_mem_cons.mpr ⟨lw_p70, List.forall_mem_cons.mpr ⟨lw_p71, List.forall_mem_cons.mpr ⟨lw_p72, List.forall_mem_cons.mpr ⟨lw_p73, List.forall_mem_cons.mpr ⟨lw_p74, List.forall_mem_cons.mpr ⟨lw_p75, List.forall_mem_cons.mpr ⟨lw_p76, List.forall_mem_cons.mpr ⟨lw_p77, fun _ h => absurd h List.not_mem_nil⟩⟩⟩⟩⟩⟩⟩⟩⟩⟩⟩⟩⟩⟩
def lw_privs : List (MethodName × Nat) := lw_privs_1 ++ (lw_privs_2 ++ (lw_privs_3 ++ (lw_privs_4 ++ (lw_privs_5))))
def lw_tbl : List Cond := k2_sels lw_privs ++ tables_1
theorem lw_privs_ok : ∀ q ∈ lw_privs, lw_okq q := by
  show ∀ q ∈ lw_privs_1 ++ (lw_privs_2 ++ (lw_privs_3 ++ (lw_privs_4 ++ (lw_privs_5)))), lw_okq q
  exact List.forall_mem_append.mpr ⟨lw_r1, List.forall_mem_append.mpr ⟨lw_r2, List.forall_mem_append.mpr ⟨lw_r3, List.forall_mem_append.mpr ⟨lw_r4, lw_r5⟩⟩⟩⟩
-- ===== ONE list of words for every method: the tables' words that hold all through a run =====
def lw_all : List Cond := lw_tbl.filter goodWord
/-- a word of the tables by its place: claim/WORDS.tsv -/
theorem lw_w {w : Cond} (i : Nat) (h : lw_tbl[i]? = some w) (g : goodWord w = true) : w ∈ lw_all := List.mem_filter.mpr ⟨List.mem_of_getElem? h, g⟩
theorem lw_all_tbl {w : Cond} (h : w ∈ lw_all) : w ∈ lw_tbl := (List.mem_filter.mp h).1
theorem lw_self : GoodIn lw_all lw_all := fun w h => ⟨h, good_of_word (List.mem_filter.mp h).2⟩
/-- a class's field words, by their places -/
theorem lw_in (ws : List Cond) (ps : List Nat) (hp : ws = ps.filterMap (fun i => lw_tbl[i]?)) (hg : ws.all goodWord = true) : ∀ w ∈ ws, w ∈ lw_all := by
  intro w h
  have h1 := List.all_eq_true.mp hg w h
  rw [hp] at h
  obtain ⟨i, -, hi⟩ := List.mem_filterMap.mp h
  exact lw_w i hi h1
/-- the words of a contract for the method y with code b, L locals, answer r -/
abbrev ws_ (y : MethodName) (b : ByteArray) (L : Nat) (r : Option FieldType) : List Cond := Cond.code y b L r :: lw_all
theorem lw_meth {y : MethodName} {b : ByteArray} {L : Nat} {r : Option FieldType} (h : Cond.code y b L r ∈ lw_all) : GoodIn lw_all (ws_ y b L r) := by
  intro w hw
  rcases List.mem_cons.mp hw with e | e
  · rw [e]
    exact lw_self _ h
  · exact lw_self _ e
theorem lw_app {a c : List Cond} (ha : ∀ w ∈ a, w ∈ lw_all) (hc : GoodIn lw_all c) : GoodIn lw_all (a ++ c) := by
  intro w hw
  rcases List.mem_append.mp hw with e | e
  · exact lw_self w (ha w e)
  · exact hc w e
/-- what a call through an object asks: cwV n hts (lw_V ..) -/
theorem lw_V {own : String} {idx : Nat} {C : String} {y : MethodName} {b : ByteArray} {L : Nat} {r : Option FieldType} (h1 : Cond.methodLink own idx y ∈ lw_all) (h2 : Cond.instanceMethod y ∈ lw_all) (h3 : Cond.selects C y y ∈ lw_all) (h4 : Cond.initialized C ∈ lw_all) (h5 : Cond.code y b L r ∈ lw_all) : GoodIn lw_all (wsV own idx C y (ws_ y b L r)) := by
  refine lw_app ?_ (lw_meth h5)
  intro w hw
  simp only [List.mem_cons, List.not_mem_nil, or_false] at hw
  rcases hw with e | e | e | e
  · rw [e]; exact h1
  · rw [e]; exact h2
  · rw [e]; exact h3
  · rw [e]; exact h4
/-- what a static call asks: va_cwS n hts (lw_S ..) -/
theorem lw_S {own : String} {idx : Nat} {y : MethodName} {b : ByteArray} {L : Nat} {r : Option FieldType} (h1 : Cond.methodLink own idx y ∈ lw_all) (h2 : Cond.static y ∈ lw_all) (h3 : Cond.initialized y.cls ∈ lw_all) (h4 : Cond.code y b L r ∈ lw_all) : GoodIn lw_all (va_wsS own idx y (ws_ y b L r)) := by
  refine lw_app ?_ (lw_meth h4)
  intro w hw
  simp only [List.mem_cons, List.not_mem_nil, or_false] at hw
  rcases hw with e | e | e
  · rw [e]; exact h1
  · rw [e]; exact h2
  · rw [e]; exact h3
/-- the words of a contract for a method WITH HANDLERS (hh: its table) -/
abbrev wsW_ (y : MethodName) (b : ByteArray) (L : Nat) (r : Option FieldType) (hh : List (Nat × Nat × Nat × Nat)) : List Cond := Cond.codeWith y b L r hh :: lw_all
theorem lw_methW {y : MethodName} {b : ByteArray} {L : Nat} {r : Option FieldType} {hh : List (Nat × Nat × Nat × Nat)} (h : Cond.codeWith y b L r hh ∈ lw_all) : GoodIn lw_all (wsW_ y b L r hh) := by
  intro w hw
  rcases List.mem_cons.mp hw with e | e
  · rw [e]
    exact lw_self _ h
  · exact lw_self _ e
/-- any list of words by their places (lw_in), good -/
theorem lw_good {ws : List Cond} (h : ∀ w ∈ ws, w ∈ lw_all) : GoodIn lw_all ws := fun w hw => lw_self w (h w hw)
/-- what a call of a method with handlers asks: vx_cwVW n hts (lw_VW ..), vx_cwSW n hts (lw_SW ..) -/
theorem lw_VW {own : String} {idx : Nat} {C : String} {y : MethodName} {b : ByteArray} {L : Nat} {r : Option FieldType} {hh : List (Nat × Nat × Nat × Nat)} (h1 : Cond.methodLink own idx y ∈ lw_all) (h2 : Cond.instanceMethod y ∈ lw_all) (h3 : Cond.selects C y y ∈ lw_all) (h4 : Cond.initialized C ∈ lw_all) (h5 : Cond.codeWith y b L r hh ∈ lw_all) : GoodIn lw_all (wsV own idx C y (wsW_ y b L r hh)) := by
  refine lw_app ?_ (lw_methW h5)
  intro w hw
  simp only [List.mem_cons, List.not_mem_nil, or_false] at hw
  rcases hw with e | e | e | e
  · rw [e]; exact h1
  · rw [e]; exact h2
  · rw [e]; exact h3
  · rw [e]; exact h4
theorem lw_SW {own : String} {idx : Nat} {y : MethodName} {b : ByteArray} {L : Nat} {r : Option FieldType} {hh : List (Nat × Nat × Nat × Nat)} (h1 : Cond.methodLink own idx y ∈ lw_all) (h2 : Cond.static y ∈ lw_all) (h3 : Cond.initialized y.cls ∈ lw_all) (h4 : Cond.codeWith y b L r hh ∈ lw_all) : GoodIn lw_all (va_wsS own idx y (wsW_ y b L r hh)) := by
  refine lw_app ?_ (lw_methW h4)
  intro w hw
  simp only [List.mem_cons, List.not_mem_nil, or_false] at hw
  rcases hw with e | e | e
  · rw [e]; exact h1
  · rw [e]; exact h2
  · rw [e]; exact h3
/-- a word by its place in its run of the tables -/
theorem lw_at {r : List Cond} (hr : ∀ w ∈ r, w ∈ lw_tbl) {w : Cond} (i : Nat) (h : r[i]? = some w) : w ∈ lw_tbl := hr w (List.mem_of_getElem? h)
theorem lw_g {w : Cond} (h : w ∈ lw_tbl) (g : goodWord w = true) : w ∈ lw_all := List.mem_filter.mpr ⟨h, g⟩
theorem lw_ms : ∀ w ∈ k2_sels lw_privs, w ∈ lw_tbl := fun w h => show w ∈ k2_sels lw_privs ++ tables_1 from List.mem_append_left _ h
theorem lw_m1 : ∀ w ∈ tables_1_1, w ∈ lw_tbl := fun w h => show w ∈ k2_sels lw_privs ++ tables_1 from List.mem_append_right (k2_sels lw_privs) (show w ∈ tables_1 from List.mem_append_left _ h)
theorem lw_m2 : ∀ w ∈ tables_1_2, w ∈ lw_tbl := fun w h => show w ∈ k2_sels lw_privs ++ tables_1 from List.mem_append_right (k2_sels lw_privs) (show w ∈ tables_1 from List.mem_append_right _ (List.mem_append_left _ h))
theorem lw_m3 : ∀ w ∈ tables_1_3, w ∈ lw_tbl := fun w h => show w ∈ k2_sels lw_privs ++ tables_1 from List.mem_append_right (k2_sels lw_privs) (show w ∈ tables_1 from List.mem_append_right _ (List.mem_append_right _ (List.mem_append_left _ h)))
theorem lw_m4 : ∀ w ∈ tables_1_4, w ∈ lw_tbl := fun w h => show w ∈ k2_sels lw_privs ++ tables_1 from List.mem_append_right (k2_sels lw_privs) (show w ∈ tables_1 from List.mem_append_right _ (List.mem_append_right _ (List.mem_append_right _ (List.mem_append_left _ h))))
theorem lw_m5 : ∀ w ∈ tables_1_5, w ∈ lw_tbl := fun w h => show w ∈ k2_sels lw_privs ++ tables_1 from List.mem_append_right (k2_sels lw_privs) (show w ∈ tables_1 from List.mem_append_right _ (List.mem_append_right _ (List.mem_append_right _ (List.mem_append_right _ (List.mem_append_left _ h)))))
theorem lw_m6 : ∀ w ∈ tables_1_6, w ∈ lw_tbl := fun w h => show w ∈ k2_sels lw_privs ++ tables_1 from List.mem_append_right (k2_sels lw_privs) (show w ∈ tables_1 from List.mem_append_right _ (List.mem_append_right _ (List.mem_append_right _ (List.mem_append_right _ (List.mem_append_right _ (List.mem_append_left _ h))))))
theorem lw_m7 : ∀ w ∈ tables_1_7, w ∈ lw_tbl := fun w h => show w ∈ k2_sels lw_privs ++ tables_1 from List.mem_append_right (k2_sels lw_privs) (show w ∈ tables_1 from List.mem_append_right _ (List.mem_append_right _ (List.mem_append_right _ (List.mem_append_right _ (List.mem_append_right _ (List.mem_append_right _ h))))))
theorem qs0 : (Cond.selects "java/lang/Throwable" ⟨"java/lang/Throwable", "fillInStackTrace", "(I)Ljava/lang/Throwable;"⟩ ⟨"java/lang/Throwable", "fillInStackTrace", "(I)Ljava/lang/Throwable;"⟩) ∈ lw_all := lw_g (lw_at lw_ms 0 rfl) rfl
theorem qs1 : (Cond.selects "LeaningStreet" ⟨"LeaningStreet", "four", "(I)V"⟩ ⟨"LeaningStreet", "four", "(I)V"⟩) ∈ lw_all := lw_g (lw_at lw_ms 1 rfl) rfl
theorem qs2 : (Cond.selects "LeaningStreet" ⟨"LeaningStreet", "textRead", "()LLeaningStreet$Text;"⟩ ⟨"LeaningStreet", "textRead", "()LLeaningStreet$Text;"⟩) ∈ lw_all := lw_g (lw_at lw_ms 2 rfl) rfl
theorem qs3 : (Cond.selects "LeaningStreet" ⟨"LeaningStreet", "goes", "()V"⟩ ⟨"LeaningStreet", "goes", "()V"⟩) ∈ lw_all := lw_g (lw_at lw_ms 3 rfl) rfl
theorem qs4 : (Cond.selects "LeaningStreet" ⟨"LeaningStreet", "wrong", "()V"⟩ ⟨"LeaningStreet", "wrong", "()V"⟩) ∈ lw_all := lw_g (lw_at lw_ms 4 rfl) rfl
theorem qs5 : (Cond.selects "LeaningStreet" ⟨"LeaningStreet", "key", "()I"⟩ ⟨"LeaningStreet", "key", "()I"⟩) ∈ lw_all := lw_g (lw_at lw_ms 5 rfl) rfl
theorem qs6 : (Cond.selects "LeaningStreet" ⟨"LeaningStreet", "isWord", "(Ljava/lang/String;)Z"⟩ ⟨"LeaningStreet", "isWord", "(Ljava/lang/String;)Z"⟩) ∈ lw_all := lw_g (lw_at lw_ms 6 rfl) rfl
theorem qs7 : (Cond.selects "LeaningStreet" ⟨"LeaningStreet", "expression", "()LLeaningStreet$Words;"⟩ ⟨"LeaningStreet", "expression", "()LLeaningStreet$Words;"⟩) ∈ lw_all := lw_g (lw_at lw_ms 7 rfl) rfl
theorem qs8 : (Cond.selects "LeaningStreet" ⟨"LeaningStreet", "or", "(LLeaningStreet$Words;)V"⟩ ⟨"LeaningStreet", "or", "(LLeaningStreet$Words;)V"⟩) ∈ lw_all := lw_g (lw_at lw_ms 8 rfl) rfl
theorem qs9 : (Cond.selects "LeaningStreet" ⟨"LeaningStreet", "and", "(LLeaningStreet$Words;)V"⟩ ⟨"LeaningStreet", "and", "(LLeaningStreet$Words;)V"⟩) ∈ lw_all := lw_g (lw_at lw_ms 9 rfl) rfl
theorem qs10 : (Cond.selects "LeaningStreet" ⟨"LeaningStreet", "test", "(LLeaningStreet$Words;)V"⟩ ⟨"LeaningStreet", "test", "(LLeaningStreet$Words;)V"⟩) ∈ lw_all := lw_g (lw_at lw_ms 10 rfl) rfl
theorem qs11 : (Cond.selects "LeaningStreet" ⟨"LeaningStreet", "sum", "(LLeaningStreet$Words;)V"⟩ ⟨"LeaningStreet", "sum", "(LLeaningStreet$Words;)V"⟩) ∈ lw_all := lw_g (lw_at lw_ms 11 rfl) rfl
theorem qs12 : (Cond.selects "LeaningStreet" ⟨"LeaningStreet", "term", "(LLeaningStreet$Words;)V"⟩ ⟨"LeaningStreet", "term", "(LLeaningStreet$Words;)V"⟩) ∈ lw_all := lw_g (lw_at lw_ms 12 rfl) rfl
theorem qs13 : (Cond.selects "LeaningStreet" ⟨"LeaningStreet", "piece", "(LLeaningStreet$Words;)V"⟩ ⟨"LeaningStreet", "piece", "(LLeaningStreet$Words;)V"⟩) ∈ lw_all := lw_g (lw_at lw_ms 13 rfl) rfl
theorem qs14 : (Cond.selects "LeaningStreet" ⟨"LeaningStreet", "isSign", "(I)Z"⟩ ⟨"LeaningStreet", "isSign", "(I)Z"⟩) ∈ lw_all := lw_g (lw_at lw_ms 14 rfl) rfl
theorem qs15 : (Cond.selects "LeaningStreet" ⟨"LeaningStreet", "number", "()I"⟩ ⟨"LeaningStreet", "number", "()I"⟩) ∈ lw_all := lw_g (lw_at lw_ms 15 rfl) rfl
theorem qs16 : (Cond.selects "LeaningStreet" ⟨"LeaningStreet", "isName", "(I)Z"⟩ ⟨"LeaningStreet", "isName", "(I)Z"⟩) ∈ lw_all := lw_g (lw_at lw_ms 16 rfl) rfl
theorem qs17 : (Cond.selects "LeaningStreet" ⟨"LeaningStreet", "counts", "(I)I"⟩ ⟨"LeaningStreet", "counts", "(I)I"⟩) ∈ lw_all := lw_g (lw_at lw_ms 17 rfl) rfl
theorem qs18 : (Cond.selects "LeaningStreet" ⟨"LeaningStreet", "comes", "(IIII)I"⟩ ⟨"LeaningStreet", "comes", "(IIII)I"⟩) ∈ lw_all := lw_g (lw_at lw_ms 18 rfl) rfl
theorem qs19 : (Cond.selects "LeaningStreet" ⟨"LeaningStreet", "isHouse", "(I)Z"⟩ ⟨"LeaningStreet", "isHouse", "(I)Z"⟩) ∈ lw_all := lw_g (lw_at lw_ms 19 rfl) rfl
theorem qs20 : (Cond.selects "LeaningStreet" ⟨"LeaningStreet", "pushOf", "(LLeaningStreet$House;)I"⟩ ⟨"LeaningStreet", "pushOf", "(LLeaningStreet$House;)I"⟩) ∈ lw_all := lw_g (lw_at lw_ms 20 rfl) rfl
theorem qs21 : (Cond.selects "LeaningStreet" ⟨"LeaningStreet", "reckon", "(LLeaningStreet$Words;)I"⟩ ⟨"LeaningStreet", "reckon", "(LLeaningStreet$Words;)I"⟩) ∈ lw_all := lw_g (lw_at lw_ms 21 rfl) rfl
theorem qs22 : (Cond.selects "LeaningStreet" ⟨"LeaningStreet", "thrustOn", "(I)I"⟩ ⟨"LeaningStreet", "thrustOn", "(I)I"⟩) ∈ lw_all := lw_g (lw_at lw_ms 22 rfl) rfl
theorem qs23 : (Cond.selects "LeaningStreet" ⟨"LeaningStreet", "nextOf", "(III)I"⟩ ⟨"LeaningStreet", "nextOf", "(III)I"⟩) ∈ lw_all := lw_g (lw_at lw_ms 23 rfl) rfl
theorem qs24 : (Cond.selects "LeaningStreet" ⟨"LeaningStreet", "goesOn", "(I)V"⟩ ⟨"LeaningStreet", "goesOn", "(I)V"⟩) ∈ lw_all := lw_g (lw_at lw_ms 24 rfl) rfl
theorem qs25 : (Cond.selects "LeaningStreet" ⟨"LeaningStreet", "aDay", "()V"⟩ ⟨"LeaningStreet", "aDay", "()V"⟩) ∈ lw_all := lw_g (lw_at lw_ms 25 rfl) rfl
theorem qs26 : (Cond.selects "LeaningStreet" ⟨"LeaningStreet", "findThrusts", "()V"⟩ ⟨"LeaningStreet", "findThrusts", "()V"⟩) ∈ lw_all := lw_g (lw_at lw_ms 26 rfl) rfl
theorem qs27 : (Cond.selects "LeaningStreet" ⟨"LeaningStreet", "cracks", "()V"⟩ ⟨"LeaningStreet", "cracks", "()V"⟩) ∈ lw_all := lw_g (lw_at lw_ms 27 rfl) rfl
theorem qs28 : (Cond.selects "LeaningStreet" ⟨"LeaningStreet", "fall", "()V"⟩ ⟨"LeaningStreet", "fall", "()V"⟩) ∈ lw_all := lw_g (lw_at lw_ms 28 rfl) rfl
theorem qs29 : (Cond.selects "LeaningStreet" ⟨"LeaningStreet", "isDown", "(I)Z"⟩ ⟨"LeaningStreet", "isDown", "(I)Z"⟩) ∈ lw_all := lw_g (lw_at lw_ms 29 rfl) rfl
theorem qs30 : (Cond.selects "LeaningStreet" ⟨"LeaningStreet", "thinks", "()V"⟩ ⟨"LeaningStreet", "thinks", "()V"⟩) ∈ lw_all := lw_g (lw_at lw_ms 30 rfl) rfl
theorem qs31 : (Cond.selects "LeaningStreet" ⟨"LeaningStreet", "putsBack", "()V"⟩ ⟨"LeaningStreet", "putsBack", "()V"⟩) ∈ lw_all := lw_g (lw_at lw_ms 31 rfl) rfl
theorem qs32 : (Cond.selects "LeaningStreet" ⟨"LeaningStreet", "standingBehind", "(I)I"⟩ ⟨"LeaningStreet", "standingBehind", "(I)I"⟩) ∈ lw_all := lw_g (lw_at lw_ms 32 rfl) rfl
theorem qs33 : (Cond.selects "LeaningStreet" ⟨"LeaningStreet", "offBy", "(LLeaningStreet$Sheet;II)J"⟩ ⟨"LeaningStreet", "offBy", "(LLeaningStreet$Sheet;II)J"⟩) ∈ lw_all := lw_g (lw_at lw_ms 33 rfl) rfl
theorem qs34 : (Cond.selects "LeaningStreet" ⟨"LeaningStreet", "carries", "(LLeaningStreet$Sheet;ILLeaningStreet$Sheet;II)V"⟩ ⟨"LeaningStreet", "carries", "(LLeaningStreet$Sheet;ILLeaningStreet$Sheet;II)V"⟩) ∈ lw_all := lw_g (lw_at lw_ms 34 rfl) rfl
theorem qs35 : (Cond.selects "LeaningStreet" ⟨"LeaningStreet", "own", "(LLeaningStreet$Sheet;)LLeaningStreet$Sheet;"⟩ ⟨"LeaningStreet", "own", "(LLeaningStreet$Sheet;)LLeaningStreet$Sheet;"⟩) ∈ lw_all := lw_g (lw_at lw_ms 35 rfl) rfl
theorem qs36 : (Cond.selects "LeaningStreet" ⟨"LeaningStreet", "rowsOfDays", "(I)I"⟩ ⟨"LeaningStreet", "rowsOfDays", "(I)I"⟩) ∈ lw_all := lw_g (lw_at lw_ms 36 rfl) rfl
theorem qs37 : (Cond.selects "LeaningStreetModel" ⟨"LeaningStreetModel", "comes", "(IIII)V"⟩ ⟨"LeaningStreetModel", "comes", "(IIII)V"⟩) ∈ lw_all := lw_g (lw_at lw_ms 37 rfl) rfl
theorem qs38 : (Cond.selects "LeaningStreetModel" ⟨"LeaningStreetModel", "sets", "(III)V"⟩ ⟨"LeaningStreetModel", "sets", "(III)V"⟩) ∈ lw_all := lw_g (lw_at lw_ms 38 rfl) rfl
theorem qs39 : (Cond.selects "LeaningStreetModel" ⟨"LeaningStreetModel", "isHouse", "(I)Z"⟩ ⟨"LeaningStreetModel", "isHouse", "(I)Z"⟩) ∈ lw_all := lw_g (lw_at lw_ms 39 rfl) rfl
theorem qs40 : (Cond.selects "LeaningStreetModel" ⟨"LeaningStreetModel", "of", "(II)I"⟩ ⟨"LeaningStreetModel", "of", "(II)I"⟩) ∈ lw_all := lw_g (lw_at lw_ms 40 rfl) rfl
theorem qs41 : (Cond.selects "LeaningStreetModel" ⟨"LeaningStreetModel", "pushes", "(I)I"⟩ ⟨"LeaningStreetModel", "pushes", "(I)I"⟩) ∈ lw_all := lw_g (lw_at lw_ms 41 rfl) rfl
theorem qs42 : (Cond.selects "LeaningStreetModel" ⟨"LeaningStreetModel", "counts", "(I)I"⟩ ⟨"LeaningStreetModel", "counts", "(I)I"⟩) ∈ lw_all := lw_g (lw_at lw_ms 42 rfl) rfl
theorem qs43 : (Cond.selects "LeaningStreetModel" ⟨"LeaningStreetModel", "textAt", "(I)I"⟩ ⟨"LeaningStreetModel", "textAt", "(I)I"⟩) ∈ lw_all := lw_g (lw_at lw_ms 43 rfl) rfl
theorem qs44 : (Cond.selects "LeaningStreetModel" ⟨"LeaningStreetModel", "worked", "(I)I"⟩ ⟨"LeaningStreetModel", "worked", "(I)I"⟩) ∈ lw_all := lw_g (lw_at lw_ms 44 rfl) rfl
theorem qs45 : (Cond.selects "LeaningStreetModel" ⟨"LeaningStreetModel", "bears", "(I)I"⟩ ⟨"LeaningStreetModel", "bears", "(I)I"⟩) ∈ lw_all := lw_g (lw_at lw_ms 45 rfl) rfl
theorem qs46 : (Cond.selects "LeaningStreetModel" ⟨"LeaningStreetModel", "thrust", "(I)I"⟩ ⟨"LeaningStreetModel", "thrust", "(I)I"⟩) ∈ lw_all := lw_g (lw_at lw_ms 46 rfl) rfl
theorem qs47 : (Cond.selects "LeaningStreetModel" ⟨"LeaningStreetModel", "stands", "(I)Z"⟩ ⟨"LeaningStreetModel", "stands", "(I)Z"⟩) ∈ lw_all := lw_g (lw_at lw_ms 47 rfl) rfl
theorem qs48 : (Cond.selects "LeaningStreetModel" ⟨"LeaningStreetModel", "allStanding", "()I"⟩ ⟨"LeaningStreetModel", "allStanding", "()I"⟩) ∈ lw_all := lw_g (lw_at lw_ms 48 rfl) rfl
theorem qs49 : (Cond.selects "LeaningStreetModel" ⟨"LeaningStreetModel", "nextOf", "(III)I"⟩ ⟨"LeaningStreetModel", "nextOf", "(III)I"⟩) ∈ lw_all := lw_g (lw_at lw_ms 49 rfl) rfl
theorem qs50 : (Cond.selects "LeaningStreetModel" ⟨"LeaningStreetModel", "worth", "(I)I"⟩ ⟨"LeaningStreetModel", "worth", "(I)I"⟩) ∈ lw_all := lw_g (lw_at lw_ms 50 rfl) rfl
theorem qs51 : (Cond.selects "LeaningStreetModel" ⟨"LeaningStreetModel", "becomes", "(II)I"⟩ ⟨"LeaningStreetModel", "becomes", "(II)I"⟩) ∈ lw_all := lw_g (lw_at lw_ms 51 rfl) rfl
theorem qs52 : (Cond.selects "LeaningStreetModel" ⟨"LeaningStreetModel", "falls", "(I)V"⟩ ⟨"LeaningStreetModel", "falls", "(I)V"⟩) ∈ lw_all := lw_g (lw_at lw_ms 52 rfl) rfl
theorem qs53 : (Cond.selects "LeaningStreetModel" ⟨"LeaningStreetModel", "drawn", "()I"⟩ ⟨"LeaningStreetModel", "drawn", "()I"⟩) ∈ lw_all := lw_g (lw_at lw_ms 53 rfl) rfl
theorem qs54 : (Cond.selects "LeaningStreetModel" ⟨"LeaningStreetModel", "goesOn", "()V"⟩ ⟨"LeaningStreetModel", "goesOn", "()V"⟩) ∈ lw_all := lw_g (lw_at lw_ms 54 rfl) rfl
theorem qs55 : (Cond.selects "LeaningStreetModel" ⟨"LeaningStreetModel", "fallsWith", "(II)Z"⟩ ⟨"LeaningStreetModel", "fallsWith", "(II)Z"⟩) ∈ lw_all := lw_g (lw_at lw_ms 55 rfl) rfl
theorem qs56 : (Cond.selects "LeaningStreetModel" ⟨"LeaningStreetModel", "allOf", "(I)I"⟩ ⟨"LeaningStreetModel", "allOf", "(I)I"⟩) ∈ lw_all := lw_g (lw_at lw_ms 56 rfl) rfl
theorem qs57 : (Cond.selects "LeaningStreetModel" ⟨"LeaningStreetModel", "looseOnes", "()I"⟩ ⟨"LeaningStreetModel", "looseOnes", "()I"⟩) ∈ lw_all := lw_g (lw_at lw_ms 57 rfl) rfl
theorem qs58 : (Cond.selects "LeaningStreetModel" ⟨"LeaningStreetModel", "laysBy", "()V"⟩ ⟨"LeaningStreetModel", "laysBy", "()V"⟩) ∈ lw_all := lw_g (lw_at lw_ms 58 rfl) rfl
theorem qs59 : (Cond.selects "LeaningStreetModel" ⟨"LeaningStreetModel", "goesOnMany", "(I)V"⟩ ⟨"LeaningStreetModel", "goesOnMany", "(I)V"⟩) ∈ lw_all := lw_g (lw_at lw_ms 59 rfl) rfl
theorem qs60 : (Cond.selects "LeaningStreetModel" ⟨"LeaningStreetModel", "laysBack", "()V"⟩ ⟨"LeaningStreetModel", "laysBack", "()V"⟩) ∈ lw_all := lw_g (lw_at lw_ms 60 rfl) rfl
theorem qs61 : (Cond.selects "LeaningStreetModel" ⟨"LeaningStreetModel", "keeps", "(I)Z"⟩ ⟨"LeaningStreetModel", "keeps", "(I)Z"⟩) ∈ lw_all := lw_g (lw_at lw_ms 61 rfl) rfl
theorem qs62 : (Cond.selects "LeaningStreetModel" ⟨"LeaningStreetModel", "parse", "()I"⟩ ⟨"LeaningStreetModel", "parse", "()I"⟩) ∈ lw_all := lw_g (lw_at lw_ms 62 rfl) rfl
theorem qs63 : (Cond.selects "LeaningStreetModel" ⟨"LeaningStreetModel", "nextToken", "()V"⟩ ⟨"LeaningStreetModel", "nextToken", "()V"⟩) ∈ lw_all := lw_g (lw_at lw_ms 63 rfl) rfl
theorem qs64 : (Cond.selects "LeaningStreetModel" ⟨"LeaningStreetModel", "isLetter", "(I)Z"⟩ ⟨"LeaningStreetModel", "isLetter", "(I)Z"⟩) ∈ lw_all := lw_g (lw_at lw_ms 64 rfl) rfl
theorem qs65 : (Cond.selects "LeaningStreetModel" ⟨"LeaningStreetModel", "isDigit", "(I)Z"⟩ ⟨"LeaningStreetModel", "isDigit", "(I)Z"⟩) ∈ lw_all := lw_g (lw_at lw_ms 65 rfl) rfl
theorem qs66 : (Cond.selects "LeaningStreetModel" ⟨"LeaningStreetModel", "key", "()I"⟩ ⟨"LeaningStreetModel", "key", "()I"⟩) ∈ lw_all := lw_g (lw_at lw_ms 66 rfl) rfl
theorem qs67 : (Cond.selects "LeaningStreetModel" ⟨"LeaningStreetModel", "isWordAt", "(IIII)Z"⟩ ⟨"LeaningStreetModel", "isWordAt", "(IIII)Z"⟩) ∈ lw_all := lw_g (lw_at lw_ms 67 rfl) rfl
theorem qs68 : (Cond.selects "LeaningStreetModel" ⟨"LeaningStreetModel", "either", "(I)Z"⟩ ⟨"LeaningStreetModel", "either", "(I)Z"⟩) ∈ lw_all := lw_g (lw_at lw_ms 68 rfl) rfl
theorem qs69 : (Cond.selects "LeaningStreetModel" ⟨"LeaningStreetModel", "both", "(I)Z"⟩ ⟨"LeaningStreetModel", "both", "(I)Z"⟩) ∈ lw_all := lw_g (lw_at lw_ms 69 rfl) rfl
theorem qs70 : (Cond.selects "LeaningStreetModel" ⟨"LeaningStreetModel", "test", "(I)Z"⟩ ⟨"LeaningStreetModel", "test", "(I)Z"⟩) ∈ lw_all := lw_g (lw_at lw_ms 70 rfl) rfl
theorem qs71 : (Cond.selects "LeaningStreetModel" ⟨"LeaningStreetModel", "sum", "(I)Z"⟩ ⟨"LeaningStreetModel", "sum", "(I)Z"⟩) ∈ lw_all := lw_g (lw_at lw_ms 71 rfl) rfl
theorem qs72 : (Cond.selects "LeaningStreetModel" ⟨"LeaningStreetModel", "term", "(I)Z"⟩ ⟨"LeaningStreetModel", "term", "(I)Z"⟩) ∈ lw_all := lw_g (lw_at lw_ms 72 rfl) rfl
theorem qs73 : (Cond.selects "LeaningStreetModel" ⟨"LeaningStreetModel", "part0", "(I)Z"⟩ ⟨"LeaningStreetModel", "part0", "(I)Z"⟩) ∈ lw_all := lw_g (lw_at lw_ms 73 rfl) rfl
theorem qs74 : (Cond.selects "LeaningStreetModel" ⟨"LeaningStreetModel", "step", "(II)V"⟩ ⟨"LeaningStreetModel", "step", "(II)V"⟩) ∈ lw_all := lw_g (lw_at lw_ms 74 rfl) rfl
theorem qs75 : (Cond.selects "LeaningStreetModel" ⟨"LeaningStreetModel", "isSign", "(I)Z"⟩ ⟨"LeaningStreetModel", "isSign", "(I)Z"⟩) ∈ lw_all := lw_g (lw_at lw_ms 75 rfl) rfl
theorem qs76 : (Cond.selects "LeaningStreetModel" ⟨"LeaningStreetModel", "isText", "(I)Z"⟩ ⟨"LeaningStreetModel", "isText", "(I)Z"⟩) ∈ lw_all := lw_g (lw_at lw_ms 76 rfl) rfl
theorem qs77 : (Cond.selects "LeaningStreetModel" ⟨"LeaningStreetModel", "setAside", "([I[I)V"⟩ ⟨"LeaningStreetModel", "setAside", "([I[I)V"⟩) ∈ lw_all := lw_g (lw_at lw_ms 77 rfl) rfl
