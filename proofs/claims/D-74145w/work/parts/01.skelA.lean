-- ===== PART A: goes FIRST, ahead of the names: the tables' words, and 'selects' of the private methods out of them =====
/-- a private method of a class that the tables say can be made, by its rows of tables_1 -/
def lw_okq (q : MethodName × Nat) : Prop := (q.1.cls ≠ "java/lang/invoke/MethodHandle" ∧ q.1.cls ≠ "java/lang/invoke/VarHandle") ∧ Cond.instantiable q.1.cls q.2 ∈ tables_1 ∧ Cond.privateMethod q.1 ∈ tables_1 ∧ Cond.instanceMethod q.1 ∈ tables_1
set_option maxRecDepth 100000
theorem lw_t1 {w : Cond} (h : w ∈ tables_1_1) : w ∈ tables_1 := List.mem_append_left _ h
theorem lw_t2 {w : Cond} (h : w ∈ tables_1_2) : w ∈ tables_1 := List.mem_append_right _ (List.mem_append_left _ h)
theorem lw_t3 {w : Cond} (h : w ∈ tables_1_3) : w ∈ tables_1 := List.mem_append_right _ (List.mem_append_right _ (List.mem_append_left _ h))
theorem lw_t4 {w : Cond} (h : w ∈ tables_1_4) : w ∈ tables_1 := List.mem_append_right _ (List.mem_append_right _ (List.mem_append_right _ (List.mem_append_left _ h)))
theorem lw_t5 {w : Cond} (h : w ∈ tables_1_5) : w ∈ tables_1 := List.mem_append_right _ (List.mem_append_right _ (List.mem_append_right _ (List.mem_append_right _ (List.mem_append_left _ h))))
theorem lw_t6 {w : Cond} (h : w ∈ tables_1_6) : w ∈ tables_1 := List.mem_append_right _ (List.mem_append_right _ (List.mem_append_right _ (List.mem_append_right _ (List.mem_append_right _ (List.mem_append_left _ h)))))
theorem lw_t7 {w : Cond} (h : w ∈ tables_1_7) : w ∈ tables_1 := List.mem_append_right _ (List.mem_append_right _ (List.mem_append_right _ (List.mem_append_right _ (List.mem_append_right _ (List.mem_append_right _ h)))))
theorem lw_p0 : lw_okq (⟨"DistinctMarks", "markOf", "(I)I"⟩, 13) := ⟨⟨by decide +kernel, by decide +kernel⟩, lw_t1 (List.mem_of_getElem? (i := 33) rfl), lw_t1 (List.mem_of_getElem? (i := 31) rfl), lw_t1 (List.mem_of_getElem? (i := 32) rfl)⟩
theorem lw_p1 : lw_okq (⟨"DistinctMarks", "notesRow", "([J)V"⟩, 13) := ⟨⟨by decide +kernel, by decide +kernel⟩, lw_t1 (List.mem_of_getElem? (i := 33) rfl), lw_t1 (List.mem_of_getElem? (i := 58) rfl), lw_t1 (List.mem_of_getElem? (i := 59) rfl)⟩
theorem lw_p2 : lw_okq (⟨"DistinctMarks", "notes", "(J)V"⟩, 13) := ⟨⟨by decide +kernel, by decide +kernel⟩, lw_t1 (List.mem_of_getElem? (i := 33) rfl), lw_t1 (List.mem_of_getElem? (i := 62) rfl), lw_t1 (List.mem_of_getElem? (i := 63) rfl)⟩
theorem lw_p3 : lw_okq (⟨"DistinctMarks", "lays", "(I)V"⟩, 13) := ⟨⟨by decide +kernel, by decide +kernel⟩, lw_t1 (List.mem_of_getElem? (i := 33) rfl), lw_t1 (List.mem_of_getElem? (i := 82) rfl), lw_t1 (List.mem_of_getElem? (i := 83) rfl)⟩
theorem lw_p4 : lw_okq (⟨"DistinctMarks$Counter", "raises", "(I)Z"⟩, 7) := ⟨⟨by decide +kernel, by decide +kernel⟩, lw_t1 (List.mem_of_getElem? (i := 87) rfl), lw_t1 (List.mem_of_getElem? (i := 186) rfl), lw_t1 (List.mem_of_getElem? (i := 187) rfl)⟩
theorem lw_p5 : lw_okq (⟨"DistinctMarks$Counter", "raises", "(II)Z"⟩, 7) := ⟨⟨by decide +kernel, by decide +kernel⟩, lw_t1 (List.mem_of_getElem? (i := 87) rfl), lw_t1 (List.mem_of_getElem? (i := 192) rfl), lw_t1 (List.mem_of_getElem? (i := 193) rfl)⟩
theorem lw_p6 : lw_okq (⟨"DistinctMarks", "begins", "()V"⟩, 13) := ⟨⟨by decide +kernel, by decide +kernel⟩, lw_t1 (List.mem_of_getElem? (i := 33) rfl), lw_t1 (List.mem_of_getElem? (i := 228) rfl), lw_t1 (List.mem_of_getElem? (i := 229) rfl)⟩
theorem lw_p7 : lw_okq (⟨"DistinctMarks", "thingsTold", "()V"⟩, 13) := ⟨⟨by decide +kernel, by decide +kernel⟩, lw_t1 (List.mem_of_getElem? (i := 33) rfl), lw_t1 (List.mem_of_getElem? (i := 232) rfl), lw_t1 (List.mem_of_getElem? (i := 233) rfl)⟩
theorem lw_p8 : lw_okq (⟨"DistinctMarks", "numberTold", "()I"⟩, 13) := ⟨⟨by decide +kernel, by decide +kernel⟩, lw_t1 (List.mem_of_getElem? (i := 33) rfl), lw_t1 (List.mem_of_getElem? (i := 236) rfl), lw_t1 (List.mem_of_getElem? (i := 237) rfl)⟩
theorem lw_p9 : lw_okq (⟨"DistinctMarks", "takes", "(C)Z"⟩, 13) := ⟨⟨by decide +kernel, by decide +kernel⟩, lw_t1 (List.mem_of_getElem? (i := 33) rfl), lw_t2 (List.mem_of_getElem? (i := 0) rfl), lw_t2 (List.mem_of_getElem? (i := 1) rfl)⟩
theorem lw_p10 : lw_okq (⟨"DistinctMarks", "isDigit", "()Z"⟩, 13) := ⟨⟨by decide +kernel, by decide +kernel⟩, lw_t1 (List.mem_of_getElem? (i := 33) rfl), lw_t2 (List.mem_of_getElem? (i := 4) rfl), lw_t2 (List.mem_of_getElem? (i := 5) rfl)⟩
theorem lw_p11 : lw_okq (⟨"DistinctMarks", "must", "(Z)V"⟩, 13) := ⟨⟨by decide +kernel, by decide +kernel⟩, lw_t1 (List.mem_of_getElem? (i := 33) rfl), lw_t2 (List.mem_of_getElem? (i := 9) rfl), lw_t2 (List.mem_of_getElem? (i := 10) rfl)⟩
theorem lw_p12 : lw_okq (⟨"java/lang/Throwable", "fillInStackTrace", "(I)Ljava/lang/Throwable;"⟩, 6) := ⟨⟨by decide +kernel, by decide +kernel⟩, lw_t2 (List.mem_of_getElem? (i := 47) rfl), lw_t2 (List.mem_of_getElem? (i := 45) rfl), lw_t2 (List.mem_of_getElem? (i := 46) rfl)⟩
theorem lw_p13 : lw_okq (⟨"DistinctMarks", "wrong", "()I"⟩, 13) := ⟨⟨by decide +kernel, by decide +kernel⟩, lw_t1 (List.mem_of_getElem? (i := 33) rfl), lw_t2 (List.mem_of_getElem? (i := 72) rfl), lw_t2 (List.mem_of_getElem? (i := 73) rfl)⟩
theorem lw_p14 : lw_okq (⟨"DistinctMarks$Counter", "lambda$takes$0", "(LDistinctMarks$Counter;II)V"⟩, 7) := ⟨⟨by decide +kernel, by decide +kernel⟩, lw_t1 (List.mem_of_getElem? (i := 87) rfl), lw_t2 (List.mem_of_getElem? (i := 116) rfl), lw_t2 (List.mem_of_getElem? (i := 117) rfl)⟩
theorem lw_p15 : lw_okq (⟨"DistinctMarks$Counter", "folded", "(III)I"⟩, 7) := ⟨⟨by decide +kernel, by decide +kernel⟩, lw_t1 (List.mem_of_getElem? (i := 87) rfl), lw_t2 (List.mem_of_getElem? (i := 120) rfl), lw_t2 (List.mem_of_getElem? (i := 121) rfl)⟩
def lw_privs_1 : List (MethodName × Nat) := [(⟨"DistinctMarks", "markOf", "(I)I"⟩, 13), (⟨"DistinctMarks", "notesRow", "([J)V"⟩, 13), (⟨"DistinctMarks", "notes", "(J)V"⟩, 13), (⟨"DistinctMarks", "lays", "(I)V"⟩, 13), (⟨"DistinctMarks$Counter", "raises", "(I)Z"⟩, 7), (⟨"DistinctMarks$Counter", "raises", "(II)Z"⟩, 7), (⟨"DistinctMarks", "begins", "()V"⟩, 13), (⟨"DistinctMarks", "thingsTold", "()V"⟩, 13), (⟨"DistinctMarks", "numberTold", "()I"⟩, 13), (⟨"DistinctMarks", "takes", "(C)Z"⟩, 13), (⟨"DistinctMarks", "isDigit", "()Z"⟩, 13), (⟨"DistinctMarks", "must", "(Z)V"⟩, 13), (⟨"java/lang/Throwable", "fillInStackTrace", "(I)Ljava/lang/Throwable;"⟩, 6), (⟨"DistinctMarks", "wrong", "()I"⟩, 13), (⟨"DistinctMarks$Counter", "lambda$takes$0", "(LDistinctMarks$Counter;II)V"⟩, 7), (⟨"DistinctMarks$Counter", "folded", "(III)I"⟩, 7)]
theorem lw_r1 : ∀ q ∈ lw_privs_1, lw_okq q := List.forall_mem_cons.mpr ⟨lw_p0, List.forall_mem_cons.mpr ⟨lw_p1, List.forall_mem_cons.mpr ⟨lw_p2, List.forall_mem_cons.mpr ⟨lw_p3, List.forall_mem_cons.mpr ⟨lw_p4, List.forall_mem_cons.mpr ⟨lw_p5, List.forall_mem_cons.mpr ⟨lw_p6, List.forall_mem_cons.mpr ⟨lw_p7, List.forall_mem_cons.mpr ⟨lw_p8, List.forall_mem_cons.mpr ⟨lw_p9, List.forall_mem_cons.mpr ⟨lw_p10, List.forall_mem_cons.mpr ⟨lw_p11, List.forall_mem_cons.mpr ⟨lw_p12, List.forall_mem_cons.mpr ⟨lw_p13, List.forall_mem_cons.mpr ⟨lw_p14, List.forall_mem_cons.mpr ⟨lw_p15, fun _ h => absurd h List.not_mem_nil⟩⟩⟩⟩⟩⟩⟩⟩⟩⟩⟩⟩⟩⟩⟩⟩
theorem lw_p16 : lw_okq (⟨"DistinctMarks", "joined", "([LDistinctMarks$Counter;)LDistinctMarks$Counter;"⟩, 13) := ⟨⟨by decide +kernel, by decide +kernel⟩, lw_t1 (List.mem_of_getElem? (i := 33) rfl), lw_t2 (List.mem_of_getElem? (i := 137) rfl), lw_t2 (List.mem_of_getElem? (i := 138) rfl)⟩
theorem lw_p17 : lw_okq (⟨"DistinctMarks", "becomes", "(ILDistinctMarks$Counter;)I"⟩, 13) := ⟨⟨by decide +kernel, by decide +kernel⟩, lw_t1 (List.mem_of_getElem? (i := 33) rfl), lw_t2 (List.mem_of_getElem? (i := 142) rfl), lw_t2 (List.mem_of_getElem? (i := 143) rfl)⟩
theorem lw_p18 : lw_okq (⟨"DistinctMarks", "those", "(I)[LDistinctMarks$Counter;"⟩, 13) := ⟨⟨by decide +kernel, by decide +kernel⟩, lw_t1 (List.mem_of_getElem? (i := 33) rfl), lw_t2 (List.mem_of_getElem? (i := 184) rfl), lw_t2 (List.mem_of_getElem? (i := 185) rfl)⟩
theorem lw_p19 : lw_okq (⟨"DistinctMarks", "picked", "(LDistinctMarks$Counter;IILDistinctMarks$Wanted;)LDistinctMarks$Counter;"⟩, 13) := ⟨⟨by decide +kernel, by decide +kernel⟩, lw_t1 (List.mem_of_getElem? (i := 33) rfl), lw_t2 (List.mem_of_getElem? (i := 213) rfl), lw_t2 (List.mem_of_getElem? (i := 214) rfl)⟩
theorem lw_p20 : lw_okq (⟨"DistinctMarks", "isPlace", "(II)Z"⟩, 13) := ⟨⟨by decide +kernel, by decide +kernel⟩, lw_t1 (List.mem_of_getElem? (i := 33) rfl), lw_t3 (List.mem_of_getElem? (i := 23) rfl), lw_t3 (List.mem_of_getElem? (i := 24) rfl)⟩
theorem lw_p21 : lw_okq (⟨"DistinctMarks", "guessOf", "([LDistinctMarks$Counter;)I"⟩, 13) := ⟨⟨by decide +kernel, by decide +kernel⟩, lw_t1 (List.mem_of_getElem? (i := 33) rfl), lw_t3 (List.mem_of_getElem? (i := 87) rfl), lw_t3 (List.mem_of_getElem? (i := 88) rfl)⟩
theorem lw_p22 : lw_okq (⟨"DistinctMarks", "commonOf", "(II)J"⟩, 13) := ⟨⟨by decide +kernel, by decide +kernel⟩, lw_t1 (List.mem_of_getElem? (i := 33) rfl), lw_t3 (List.mem_of_getElem? (i := 91) rfl), lw_t3 (List.mem_of_getElem? (i := 92) rfl)⟩
theorem lw_p23 : lw_okq (⟨"DistinctMarks", "alikeOf", "(II)I"⟩, 13) := ⟨⟨by decide +kernel, by decide +kernel⟩, lw_t1 (List.mem_of_getElem? (i := 33) rfl), lw_t3 (List.mem_of_getElem? (i := 106) rfl), lw_t3 (List.mem_of_getElem? (i := 107) rfl)⟩
theorem lw_p24 : lw_okq (⟨"DistinctMarks", "lambda$meet$5", "([JI)V"⟩, 13) := ⟨⟨by decide +kernel, by decide +kernel⟩, lw_t1 (List.mem_of_getElem? (i := 33) rfl), lw_t3 (List.mem_of_getElem? (i := 118) rfl), lw_t3 (List.mem_of_getElem? (i := 119) rfl)⟩
theorem lw_p25 : lw_okq (⟨"DistinctMarks", "foldedTo", "(LDistinctMarks$Counter;I)LDistinctMarks$Counter;"⟩, 13) := ⟨⟨by decide +kernel, by decide +kernel⟩, lw_t1 (List.mem_of_getElem? (i := 33) rfl), lw_t3 (List.mem_of_getElem? (i := 133) rfl), lw_t3 (List.mem_of_getElem? (i := 134) rfl)⟩
theorem lw_p26 : lw_okq (⟨"DistinctMarks", "lambda$cover$6", "([III)V"⟩, 13) := ⟨⟨by decide +kernel, by decide +kernel⟩, lw_t1 (List.mem_of_getElem? (i := 33) rfl), lw_t3 (List.mem_of_getElem? (i := 155) rfl), lw_t3 (List.mem_of_getElem? (i := 156) rfl)⟩
theorem lw_p27 : lw_okq (⟨"DistinctMarks", "empty", "(I)LDistinctMarks$Counter;"⟩, 13) := ⟨⟨by decide +kernel, by decide +kernel⟩, lw_t1 (List.mem_of_getElem? (i := 33) rfl), lw_t3 (List.mem_of_getElem? (i := 166) rfl), lw_t3 (List.mem_of_getElem? (i := 167) rfl)⟩
theorem lw_p28 : lw_okq (⟨"DistinctMarks", "offBy", "(IIII)I"⟩, 13) := ⟨⟨by decide +kernel, by decide +kernel⟩, lw_t1 (List.mem_of_getElem? (i := 33) rfl), lw_t3 (List.mem_of_getElem? (i := 174) rfl), lw_t3 (List.mem_of_getElem? (i := 175) rfl)⟩
theorem lw_p29 : lw_okq (⟨"DistinctMarks", "write", "(LDistinctMarks$Counter;)Ljava/lang/String;"⟩, 13) := ⟨⟨by decide +kernel, by decide +kernel⟩, lw_t1 (List.mem_of_getElem? (i := 33) rfl), lw_t3 (List.mem_of_getElem? (i := 219) rfl), lw_t3 (List.mem_of_getElem? (i := 220) rfl)⟩
theorem lw_p30 : lw_okq (⟨"DistinctMarks", "signTold", "(I)I"⟩, 13) := ⟨⟨by decide +kernel, by decide +kernel⟩, lw_t1 (List.mem_of_getElem? (i := 33) rfl), lw_t4 (List.mem_of_getElem? (i := 226) rfl), lw_t4 (List.mem_of_getElem? (i := 227) rfl)⟩
theorem lw_p31 : lw_okq (⟨"DistinctMarks", "limitTold", "()I"⟩, 13) := ⟨⟨by decide +kernel, by decide +kernel⟩, lw_t1 (List.mem_of_getElem? (i := 33) rfl), lw_t5 (List.mem_of_getElem? (i := 36) rfl), lw_t5 (List.mem_of_getElem? (i := 37) rfl)⟩
def lw_privs_2 : List (MethodName × Nat) := [(⟨"DistinctMarks", "joined", "([LDistinctMarks$Counter;)LDistinctMarks$Counter;"⟩, 13), (⟨"DistinctMarks", "becomes", "(ILDistinctMarks$Counter;)I"⟩, 13), (⟨"DistinctMarks", "those", "(I)[LDistinctMarks$Counter;"⟩, 13), (⟨"DistinctMarks", "picked", "(LDistinctMarks$Counter;IILDistinctMarks$Wanted;)LDistinctMarks$Counter;"⟩, 13), (⟨"DistinctMarks", "isPlace", "(II)Z"⟩, 13), (⟨"DistinctMarks", "guessOf", "([LDistinctMarks$Counter;)I"⟩, 13), (⟨"DistinctMarks", "commonOf", "(II)J"⟩, 13), (⟨"DistinctMarks", "alikeOf", "(II)I"⟩, 13), (⟨"DistinctMarks", "lambda$meet$5", "([JI)V"⟩, 13), (⟨"DistinctMarks", "foldedTo", "(LDistinctMarks$Counter;I)LDistinctMarks$Counter;"⟩, 13), (⟨"DistinctMarks", "lambda$cover$6", "([III)V"⟩, 13), (⟨"DistinctMarks", "empty", "(I)LDistinctMarks$Counter;"⟩, 13), (⟨"DistinctMarks", "offBy", "(IIII)I"⟩, 13), (⟨"DistinctMarks", "write", "(LDistinctMarks$Counter;)Ljava/lang/String;"⟩, 13), (⟨"DistinctMarks", "signTold", "(I)I"⟩, 13), (⟨"DistinctMarks", "limitTold", "()I"⟩, 13)]
theorem lw_r2 : ∀ q ∈ lw_privs_2, lw_okq q := List.forall_mem_cons.mpr ⟨lw_p16, List.forall_mem_cons.mpr ⟨lw_p17, List.forall_mem_cons.mpr ⟨lw_p18, List.forall_mem_cons.mpr ⟨lw_p19, List.forall_mem_cons.mpr ⟨lw_p20, List.forall_mem_cons.mpr ⟨lw_p21, List.forall_mem_cons.mpr ⟨lw_p22, List.forall_mem_cons.mpr ⟨lw_p23, List.forall_mem_cons.mpr ⟨lw_p24, List.forall_mem_cons.mpr ⟨lw_p25, List.forall_mem_cons.mpr ⟨lw_p26, List.forall_mem_cons.mpr ⟨lw_p27, List.forall_mem_cons.mpr ⟨lw_p28, List.forall_mem_cons.mpr ⟨lw_p29, List.forall_mem_cons.mpr ⟨lw_p30, List.forall_mem_cons.mpr ⟨lw_p31, fun _ h => absurd h List.not_mem_nil⟩⟩⟩⟩⟩⟩⟩⟩⟩⟩⟩⟩⟩⟩⟩⟩
theorem lw_p32 : lw_okq (⟨"DistinctMarks", "marksTold", "(LDistinctMarks$Counter;)V"⟩, 13) := ⟨⟨by decide +kernel, by decide +kernel⟩, lw_t1 (List.mem_of_getElem? (i := 33) rfl), lw_t5 (List.mem_of_getElem? (i := 40) rfl), lw_t5 (List.mem_of_getElem? (i := 41) rfl)⟩
theorem lw_p33 : lw_okq (⟨"DistinctMarks", "setOf", "(LDistinctMarks$Held;)I"⟩, 13) := ⟨⟨by decide +kernel, by decide +kernel⟩, lw_t1 (List.mem_of_getElem? (i := 33) rfl), lw_t5 (List.mem_of_getElem? (i := 51) rfl), lw_t5 (List.mem_of_getElem? (i := 52) rfl)⟩
theorem lw_p34 : lw_okq (⟨"DistinctMarks", "sumOf", "(LDistinctMarks$Summed;)I"⟩, 13) := ⟨⟨by decide +kernel, by decide +kernel⟩, lw_t1 (List.mem_of_getElem? (i := 33) rfl), lw_t5 (List.mem_of_getElem? (i := 63) rfl), lw_t5 (List.mem_of_getElem? (i := 64) rfl)⟩
theorem lw_p35 : lw_okq (⟨"DistinctMarksModel", "opensSlot", "(III)V"⟩, 19) := ⟨⟨by decide +kernel, by decide +kernel⟩, lw_t5 (List.mem_of_getElem? (i := 104) rfl), lw_t5 (List.mem_of_getElem? (i := 110) rfl), lw_t5 (List.mem_of_getElem? (i := 111) rfl)⟩
theorem lw_p36 : lw_okq (⟨"DistinctMarksModel", "markOf", "(I)J"⟩, 19) := ⟨⟨by decide +kernel, by decide +kernel⟩, lw_t5 (List.mem_of_getElem? (i := 104) rfl), lw_t5 (List.mem_of_getElem? (i := 199) rfl), lw_t5 (List.mem_of_getElem? (i := 200) rfl)⟩
theorem lw_p37 : lw_okq (⟨"DistinctMarksModel", "tell", "(J)V"⟩, 19) := ⟨⟨by decide +kernel, by decide +kernel⟩, lw_t5 (List.mem_of_getElem? (i := 104) rfl), lw_t5 (List.mem_of_getElem? (i := 213) rfl), lw_t5 (List.mem_of_getElem? (i := 214) rfl)⟩
theorem lw_p38 : lw_okq (⟨"DistinctMarksModel", "places", "(I)I"⟩, 19) := ⟨⟨by decide +kernel, by decide +kernel⟩, lw_t5 (List.mem_of_getElem? (i := 104) rfl), lw_t5 (List.mem_of_getElem? (i := 229) rfl), lw_t5 (List.mem_of_getElem? (i := 230) rfl)⟩
theorem lw_p39 : lw_okq (⟨"DistinctMarksModel", "comes", "(IJ)Z"⟩, 19) := ⟨⟨by decide +kernel, by decide +kernel⟩, lw_t5 (List.mem_of_getElem? (i := 104) rfl), lw_t5 (List.mem_of_getElem? (i := 237) rfl), lw_t5 (List.mem_of_getElem? (i := 238) rfl)⟩
theorem lw_p40 : lw_okq (⟨"DistinctMarksModel", "raises", "(IJ)Z"⟩, 19) := ⟨⟨by decide +kernel, by decide +kernel⟩, lw_t5 (List.mem_of_getElem? (i := 104) rfl), lw_t6 (List.mem_of_getElem? (i := 1) rfl), lw_t6 (List.mem_of_getElem? (i := 2) rfl)⟩
theorem lw_p41 : lw_okq (⟨"DistinctMarksModel", "hasMark", "(IJ)Z"⟩, 19) := ⟨⟨by decide +kernel, by decide +kernel⟩, lw_t5 (List.mem_of_getElem? (i := 104) rfl), lw_t6 (List.mem_of_getElem? (i := 5) rfl), lw_t6 (List.mem_of_getElem? (i := 6) rfl)⟩
theorem lw_p42 : lw_okq (⟨"DistinctMarksModel", "insert", "(IJ)V"⟩, 19) := ⟨⟨by decide +kernel, by decide +kernel⟩, lw_t5 (List.mem_of_getElem? (i := 104) rfl), lw_t6 (List.mem_of_getElem? (i := 9) rfl), lw_t6 (List.mem_of_getElem? (i := 10) rfl)⟩
theorem lw_p43 : lw_okq (⟨"DistinctMarksModel", "becomesDense", "(I)V"⟩, 19) := ⟨⟨by decide +kernel, by decide +kernel⟩, lw_t5 (List.mem_of_getElem? (i := 104) rfl), lw_t6 (List.mem_of_getElem? (i := 13) rfl), lw_t6 (List.mem_of_getElem? (i := 14) rfl)⟩
theorem lw_p44 : lw_okq (⟨"DistinctMarksModel", "runsInto", "(IIII)I"⟩, 19) := ⟨⟨by decide +kernel, by decide +kernel⟩, lw_t5 (List.mem_of_getElem? (i := 104) rfl), lw_t6 (List.mem_of_getElem? (i := 22) rfl), lw_t6 (List.mem_of_getElem? (i := 23) rfl)⟩
theorem lw_p45 : lw_okq (⟨"DistinctMarksModel", "begin", "()V"⟩, 19) := ⟨⟨by decide +kernel, by decide +kernel⟩, lw_t5 (List.mem_of_getElem? (i := 104) rfl), lw_t6 (List.mem_of_getElem? (i := 30) rfl), lw_t6 (List.mem_of_getElem? (i := 31) rfl)⟩
theorem lw_p46 : lw_okq (⟨"DistinctMarksModel", "readsThings", "()Z"⟩, 19) := ⟨⟨by decide +kernel, by decide +kernel⟩, lw_t5 (List.mem_of_getElem? (i := 104) rfl), lw_t6 (List.mem_of_getElem? (i := 34) rfl), lw_t6 (List.mem_of_getElem? (i := 35) rfl)⟩
theorem lw_p47 : lw_okq (⟨"DistinctMarksModel", "readsNumber", "()Z"⟩, 19) := ⟨⟨by decide +kernel, by decide +kernel⟩, lw_t5 (List.mem_of_getElem? (i := 104) rfl), lw_t6 (List.mem_of_getElem? (i := 38) rfl), lw_t6 (List.mem_of_getElem? (i := 39) rfl)⟩
def lw_privs_3 : List (MethodName × Nat) := [(⟨"DistinctMarks", "marksTold", "(LDistinctMarks$Counter;)V"⟩, 13), (⟨"DistinctMarks", "setOf", "(LDistinctMarks$Held;)I"⟩, 13), (⟨"DistinctMarks", "sumOf", "(LDistinctMarks$Summed;)I"⟩, 13), (⟨"DistinctMarksModel", "opensSlot", "(III)V"⟩, 19), (⟨"DistinctMarksModel", "markOf", "(I)J"⟩, 19), (⟨"DistinctMarksModel", "tell", "(J)V"⟩, 19), (⟨"DistinctMarksModel", "places", "(I)I"⟩, 19), (⟨"DistinctMarksModel", "comes", "(IJ)Z"⟩, 19), (⟨"DistinctMarksModel", "raises", "(IJ)Z"⟩, 19), (⟨"DistinctMarksModel", "hasMark", "(IJ)Z"⟩, 19), (⟨"DistinctMarksModel", "insert", "(IJ)V"⟩, 19), (⟨"DistinctMarksModel", "becomesDense", "(I)V"⟩, 19), (⟨"DistinctMarksModel", "runsInto", "(IIII)I"⟩, 19), (⟨"DistinctMarksModel", "begin", "()V"⟩, 19), (⟨"DistinctMarksModel", "readsThings", "()Z"⟩, 19), (⟨"DistinctMarksModel", "readsNumber", "()Z"⟩, 19)]
theorem lw_r3 : ∀ q ∈ lw_privs_3, lw_okq q := List.forall_mem_cons.mpr ⟨lw_p32, List.forall_mem_cons.mpr ⟨lw_p33, List.forall_mem_cons.mpr ⟨lw_p34, List.forall_mem_cons.mpr ⟨lw_p35, List.forall_mem_cons.mpr ⟨lw_p36, List.forall_mem_cons.mpr ⟨lw_p37, List.forall_mem_cons.mpr ⟨lw_p38, List.forall_mem_cons.mpr ⟨lw_p39, List.forall_mem_cons.mpr ⟨lw_p40, List.forall_mem_cons.mpr ⟨lw_p41, List.forall_mem_cons.mpr ⟨lw_p42, List.forall_mem_cons.mpr ⟨lw_p43, List.forall_mem_cons.mpr ⟨lw_p44, List.forall_mem_cons.mpr ⟨lw_p45, List.forall_mem_cons.mpr ⟨lw_p46, List.forall_mem_cons.mpr ⟨lw_p47, fun _ h => absurd h List.not_mem_nil⟩⟩⟩⟩⟩⟩⟩⟩⟩⟩⟩⟩⟩⟩⟩⟩
theorem lw_p48 : lw_okq (⟨"DistinctMarksModel", "sees", "()I"⟩, 19) := ⟨⟨by decide +kernel, by decide +kernel⟩, lw_t5 (List.mem_of_getElem? (i := 104) rfl), lw_t6 (List.mem_of_getElem? (i := 42) rfl), lw_t6 (List.mem_of_getElem? (i := 43) rfl)⟩
theorem lw_p49 : lw_okq (⟨"DistinctMarksModel", "laysRanks", "(I)V"⟩, 19) := ⟨⟨by decide +kernel, by decide +kernel⟩, lw_t5 (List.mem_of_getElem? (i := 104) rfl), lw_t6 (List.mem_of_getElem? (i := 51) rfl), lw_t6 (List.mem_of_getElem? (i := 52) rfl)⟩
theorem lw_p50 : lw_okq (⟨"DistinctMarksModel", "ranked", "(I)I"⟩, 19) := ⟨⟨by decide +kernel, by decide +kernel⟩, lw_t5 (List.mem_of_getElem? (i := 104) rfl), lw_t6 (List.mem_of_getElem? (i := 59) rfl), lw_t6 (List.mem_of_getElem? (i := 60) rfl)⟩
theorem lw_p51 : lw_okq (⟨"DistinctMarksModel", "foldsSlot", "(II)V"⟩, 19) := ⟨⟨by decide +kernel, by decide +kernel⟩, lw_t5 (List.mem_of_getElem? (i := 104) rfl), lw_t6 (List.mem_of_getElem? (i := 67) rfl), lw_t6 (List.mem_of_getElem? (i := 68) rfl)⟩
theorem lw_p52 : lw_okq (⟨"DistinctMarksModel", "copiesSlot", "(II)V"⟩, 19) := ⟨⟨by decide +kernel, by decide +kernel⟩, lw_t5 (List.mem_of_getElem? (i := 104) rfl), lw_t6 (List.mem_of_getElem? (i := 76) rfl), lw_t6 (List.mem_of_getElem? (i := 77) rfl)⟩
theorem lw_p53 : lw_okq (⟨"DistinctMarksModel", "guessOf", "(I)I"⟩, 19) := ⟨⟨by decide +kernel, by decide +kernel⟩, lw_t5 (List.mem_of_getElem? (i := 104) rfl), lw_t6 (List.mem_of_getElem? (i := 80) rfl), lw_t6 (List.mem_of_getElem? (i := 81) rfl)⟩
theorem lw_p54 : lw_okq (⟨"DistinctMarksModel", "denseGuess", "(I)I"⟩, 19) := ⟨⟨by decide +kernel, by decide +kernel⟩, lw_t5 (List.mem_of_getElem? (i := 104) rfl), lw_t6 (List.mem_of_getElem? (i := 84) rfl), lw_t6 (List.mem_of_getElem? (i := 85) rfl)⟩
theorem lw_p55 : lw_okq (⟨"DistinctMarksModel", "zeros", "(I)I"⟩, 19) := ⟨⟨by decide +kernel, by decide +kernel⟩, lw_t5 (List.mem_of_getElem? (i := 104) rfl), lw_t6 (List.mem_of_getElem? (i := 88) rfl), lw_t6 (List.mem_of_getElem? (i := 89) rfl)⟩
theorem lw_p56 : lw_okq (⟨"DistinctMarksModel", "allOf", "(I)J"⟩, 19) := ⟨⟨by decide +kernel, by decide +kernel⟩, lw_t5 (List.mem_of_getElem? (i := 104) rfl), lw_t6 (List.mem_of_getElem? (i := 92) rfl), lw_t6 (List.mem_of_getElem? (i := 93) rfl)⟩
theorem lw_p57 : lw_okq (⟨"DistinctMarksModel", "guessBy", "(IIJ)I"⟩, 19) := ⟨⟨by decide +kernel, by decide +kernel⟩, lw_t5 (List.mem_of_getElem? (i := 104) rfl), lw_t6 (List.mem_of_getElem? (i := 96) rfl), lw_t6 (List.mem_of_getElem? (i := 97) rfl)⟩
theorem lw_p58 : lw_okq (⟨"DistinctMarksModel", "joinsTwo", "(II)V"⟩, 19) := ⟨⟨by decide +kernel, by decide +kernel⟩, lw_t5 (List.mem_of_getElem? (i := 104) rfl), lw_t6 (List.mem_of_getElem? (i := 113) rfl), lw_t6 (List.mem_of_getElem? (i := 114) rfl)⟩
theorem lw_p59 : lw_okq (⟨"DistinctMarksModel", "joinsInto", "(II)V"⟩, 19) := ⟨⟨by decide +kernel, by decide +kernel⟩, lw_t5 (List.mem_of_getElem? (i := 104) rfl), lw_t6 (List.mem_of_getElem? (i := 117) rfl), lw_t6 (List.mem_of_getElem? (i := 118) rfl)⟩
theorem lw_p60 : lw_okq (⟨"DistinctMarksModel", "joinsSet", "(I)V"⟩, 19) := ⟨⟨by decide +kernel, by decide +kernel⟩, lw_t5 (List.mem_of_getElem? (i := 104) rfl), lw_t6 (List.mem_of_getElem? (i := 130) rfl), lw_t6 (List.mem_of_getElem? (i := 131) rfl)⟩
theorem lw_p61 : lw_okq (⟨"DistinctMarksModel", "isRow", "(II)Z"⟩, 19) := ⟨⟨by decide +kernel, by decide +kernel⟩, lw_t5 (List.mem_of_getElem? (i := 104) rfl), lw_t6 (List.mem_of_getElem? (i := 138) rfl), lw_t6 (List.mem_of_getElem? (i := 139) rfl)⟩
theorem lw_p62 : lw_okq (⟨"DistinctMarksModel", "sieves", "(IIZII)I"⟩, 19) := ⟨⟨by decide +kernel, by decide +kernel⟩, lw_t5 (List.mem_of_getElem? (i := 104) rfl), lw_t6 (List.mem_of_getElem? (i := 151) rfl), lw_t6 (List.mem_of_getElem? (i := 152) rfl)⟩
theorem lw_p63 : lw_okq (⟨"DistinctMarksModel", "greatest", "(I)I"⟩, 19) := ⟨⟨by decide +kernel, by decide +kernel⟩, lw_t5 (List.mem_of_getElem? (i := 104) rfl), lw_t6 (List.mem_of_getElem? (i := 176) rfl), lw_t6 (List.mem_of_getElem? (i := 177) rfl)⟩
def lw_privs_4 : List (MethodName × Nat) := [(⟨"DistinctMarksModel", "sees", "()I"⟩, 19), (⟨"DistinctMarksModel", "laysRanks", "(I)V"⟩, 19), (⟨"DistinctMarksModel", "ranked", "(I)I"⟩, 19), (⟨"DistinctMarksModel", "foldsSlot", "(II)V"⟩, 19), (⟨"DistinctMarksModel", "copiesSlot", "(II)V"⟩, 19), (⟨"DistinctMarksModel", "guessOf", "(I)I"⟩, 19), (⟨"DistinctMarksModel", "denseGuess", "(I)I"⟩, 19), (⟨"DistinctMarksModel", "zeros", "(I)I"⟩, 19), (⟨"DistinctMarksModel", "allOf", "(I)J"⟩, 19), (⟨"DistinctMarksModel", "guessBy", "(IIJ)I"⟩, 19), (⟨"DistinctMarksModel", "joinsTwo", "(II)V"⟩, 19), (⟨"DistinctMarksModel", "joinsInto", "(II)V"⟩, 19), (⟨"DistinctMarksModel", "joinsSet", "(I)V"⟩, 19), (⟨"DistinctMarksModel", "isRow", "(II)Z"⟩, 19), (⟨"DistinctMarksModel", "sieves", "(IIZII)I"⟩, 19), (⟨"DistinctMarksModel", "greatest", "(I)I"⟩, 19)]
theorem lw_r4 : ∀ q ∈ lw_privs_4, lw_okq q := List.forall_mem_cons.mpr ⟨lw_p48, List.forall_mem_cons.mpr ⟨lw_p49, List.forall_mem_cons.mpr ⟨lw_p50, List.forall_mem_cons.mpr ⟨lw_p51, List.forall_mem_cons.mpr ⟨lw_p52, List.forall_mem_cons.mpr ⟨lw_p53, List.forall_mem_cons.mpr ⟨lw_p54, List.forall_mem_cons.mpr ⟨lw_p55, List.forall_mem_cons.mpr ⟨lw_p56, List.forall_mem_cons.mpr ⟨lw_p57, List.forall_mem_cons.mpr ⟨lw_p58, List.forall_mem_cons.mpr ⟨lw_p59, List.forall_mem_cons.mpr ⟨lw_p60, List.forall_mem_cons.mpr ⟨lw_p61, List.forall_mem_cons.mpr ⟨lw_p62, List.forall_mem_cons.mpr ⟨lw_p63, fun _ h => absurd h List.not_mem_nil⟩⟩⟩⟩⟩⟩⟩⟩⟩⟩⟩⟩⟩⟩⟩⟩
theorem lw_p64 : lw_okq (⟨"DistinctMarksModel", "wouldChange", "(IJ)Z"⟩, 19) := ⟨⟨by decide +kernel, by decide +kernel⟩, lw_t5 (List.mem_of_getElem? (i := 104) rfl), lw_t6 (List.mem_of_getElem? (i := 199) rfl), lw_t6 (List.mem_of_getElem? (i := 200) rfl)⟩
theorem lw_p65 : lw_okq (⟨"DistinctMarksModel", "jointGuess", "(I)I"⟩, 19) := ⟨⟨by decide +kernel, by decide +kernel⟩, lw_t5 (List.mem_of_getElem? (i := 104) rfl), lw_t6 (List.mem_of_getElem? (i := 232) rfl), lw_t6 (List.mem_of_getElem? (i := 233) rfl)⟩
theorem lw_p66 : lw_okq (⟨"DistinctMarksModel", "foldsBoth", "(II)I"⟩, 19) := ⟨⟨by decide +kernel, by decide +kernel⟩, lw_t5 (List.mem_of_getElem? (i := 104) rfl), lw_t7 (List.mem_of_getElem? (i := 0) rfl), lw_t7 (List.mem_of_getElem? (i := 1) rfl)⟩
theorem lw_p67 : lw_okq (⟨"DistinctMarksModel", "commonOf", "(II)J"⟩, 19) := ⟨⟨by decide +kernel, by decide +kernel⟩, lw_t5 (List.mem_of_getElem? (i := 104) rfl), lw_t7 (List.mem_of_getElem? (i := 21) rfl), lw_t7 (List.mem_of_getElem? (i := 22) rfl)⟩
theorem lw_p68 : lw_okq (⟨"DistinctMarksModel", "bothGuess", "(II)I"⟩, 19) := ⟨⟨by decide +kernel, by decide +kernel⟩, lw_t5 (List.mem_of_getElem? (i := 104) rfl), lw_t7 (List.mem_of_getElem? (i := 25) rfl), lw_t7 (List.mem_of_getElem? (i := 26) rfl)⟩
theorem lw_p69 : lw_okq (⟨"DistinctMarksModel", "alikeOf", "(II)I"⟩, 19) := ⟨⟨by decide +kernel, by decide +kernel⟩, lw_t5 (List.mem_of_getElem? (i := 104) rfl), lw_t7 (List.mem_of_getElem? (i := 38) rfl), lw_t7 (List.mem_of_getElem? (i := 39) rfl)⟩
theorem lw_p70 : lw_okq (⟨"DistinctMarksModel", "opensTrial", "(I)V"⟩, 19) := ⟨⟨by decide +kernel, by decide +kernel⟩, lw_t5 (List.mem_of_getElem? (i := 104) rfl), lw_t7 (List.mem_of_getElem? (i := 81) rfl), lw_t7 (List.mem_of_getElem? (i := 82) rfl)⟩
theorem lw_p71 : lw_okq (⟨"DistinctMarksModel", "headSigns", "(I)I"⟩, 19) := ⟨⟨by decide +kernel, by decide +kernel⟩, lw_t5 (List.mem_of_getElem? (i := 104) rfl), lw_t7 (List.mem_of_getElem? (i := 119) rfl), lw_t7 (List.mem_of_getElem? (i := 120) rfl)⟩
theorem lw_p72 : lw_okq (⟨"DistinctMarksModel", "signAt", "(II)I"⟩, 19) := ⟨⟨by decide +kernel, by decide +kernel⟩, lw_t5 (List.mem_of_getElem? (i := 104) rfl), lw_t7 (List.mem_of_getElem? (i := 123) rfl), lw_t7 (List.mem_of_getElem? (i := 124) rfl)⟩
theorem lw_p73 : lw_okq (⟨"DistinctMarksModel", "readsCounter", "()Z"⟩, 19) := ⟨⟨by decide +kernel, by decide +kernel⟩, lw_t5 (List.mem_of_getElem? (i := 104) rfl), lw_t7 (List.mem_of_getElem? (i := 135) rfl), lw_t7 (List.mem_of_getElem? (i := 136) rfl)⟩
theorem lw_p74 : lw_okq (⟨"DistinctMarksModel", "readsMarks", "()Z"⟩, 19) := ⟨⟨by decide +kernel, by decide +kernel⟩, lw_t5 (List.mem_of_getElem? (i := 104) rfl), lw_t7 (List.mem_of_getElem? (i := 142) rfl), lw_t7 (List.mem_of_getElem? (i := 143) rfl)⟩
theorem lw_p75 : lw_okq (⟨"DistinctMarksModel", "readsSign", "(I)I"⟩, 19) := ⟨⟨by decide +kernel, by decide +kernel⟩, lw_t5 (List.mem_of_getElem? (i := 104) rfl), lw_t7 (List.mem_of_getElem? (i := 146) rfl), lw_t7 (List.mem_of_getElem? (i := 147) rfl)⟩
theorem lw_p76 : lw_okq (⟨"DistinctMarksModel", "readsRanks", "()Z"⟩, 19) := ⟨⟨by decide +kernel, by decide +kernel⟩, lw_t5 (List.mem_of_getElem? (i := 104) rfl), lw_t7 (List.mem_of_getElem? (i := 153) rfl), lw_t7 (List.mem_of_getElem? (i := 154) rfl)⟩
theorem lw_p77 : lw_okq (⟨"DistinctMarksModel", "denseBits", "()I"⟩, 19) := ⟨⟨by decide +kernel, by decide +kernel⟩, lw_t5 (List.mem_of_getElem? (i := 104) rfl), lw_t7 (List.mem_of_getElem? (i := 161) rfl), lw_t7 (List.mem_of_getElem? (i := 162) rfl)⟩
theorem lw_p78 : lw_okq (⟨"DistinctMarksModel", "rankedBits", "()I"⟩, 19) := ⟨⟨by decide +kernel, by decide +kernel⟩, lw_t5 (List.mem_of_getElem? (i := 104) rfl), lw_t7 (List.mem_of_getElem? (i := 165) rfl), lw_t7 (List.mem_of_getElem? (i := 166) rfl)⟩
theorem lw_p79 : lw_okq (⟨"DistinctMarksModel", "markSum", "()I"⟩, 19) := ⟨⟨by decide +kernel, by decide +kernel⟩, lw_t5 (List.mem_of_getElem? (i := 104) rfl), lw_t7 (List.mem_of_getElem? (i := 169) rfl), lw_t7 (List.mem_of_getElem? (i := 170) rfl)⟩
def lw_privs_5 : List (MethodName × Nat) := [(⟨"DistinctMarksModel", "wouldChange", "(IJ)Z"⟩, 19), (⟨"DistinctMarksModel", "jointGuess", "(I)I"⟩, 19), (⟨"DistinctMarksModel", "foldsBoth", "(II)I"⟩, 19), (⟨"DistinctMarksModel", "commonOf", "(II)J"⟩, 19), (⟨"DistinctMarksModel", "bothGuess", "(II)I"⟩, 19), (⟨"DistinctMarksModel", "alikeOf", "(II)I"⟩, 19), (⟨"DistinctMarksModel", "opensTrial", "(I)V"⟩, 19), (⟨"DistinctMarksModel", "headSigns", "(I)I"⟩, 19), (⟨"DistinctMarksModel", "signAt", "(II)I"⟩, 19), (⟨"DistinctMarksModel", "readsCounter", "()Z"⟩, 19), (⟨"DistinctMarksModel", "readsMarks", "()Z"⟩, 19), (⟨"DistinctMarksModel", "readsSign", "(I)I"⟩, 19), (⟨"DistinctMarksModel", "readsRanks", "()Z"⟩, 19), (⟨"DistinctMarksModel", "denseBits", "()I"⟩, 19), (⟨"DistinctMarksModel", "rankedBits", "()I"⟩, 19), (⟨"DistinctMarksModel", "markSum", "()I"⟩, 19)]
theorem lw_r5 : ∀ q ∈ lw_privs_5, lw_okq q := List.forall_mem_cons.mpr ⟨lw_p64, List.forall_mem_cons.mpr ⟨lw_p65, List.forall_mem_cons.mpr ⟨lw_p66, List.forall_mem_cons.mpr ⟨lw_p67, List.forall_mem_cons.mpr ⟨lw_p68, List.forall_mem_cons.mpr ⟨lw_p69, List.forall_mem_cons.mpr ⟨lw_p70, List.forall_mem_cons.mpr ⟨lw_p71, List.forall_mem_cons.mpr ⟨lw_p72, List.forall_mem_cons.mpr ⟨lw_p73, List.forall_mem_cons.mpr ⟨lw_p74, List.forall_mem_cons.mpr ⟨lw_p75, List.forall_mem_cons.mpr ⟨lw_p76, List.forall_mem_cons.mpr ⟨lw_p77, List.forall_mem_cons.mpr ⟨lw_p78, List.forall_mem_cons.mpr ⟨lw_p79, fun _ h => absurd h List.not_mem_nil⟩⟩⟩⟩⟩⟩⟩⟩⟩⟩⟩⟩⟩⟩⟩⟩
theorem lw_p80 : lw_okq (⟨"DistinctMarksModel", "placeSum", "()I"⟩, 19) := ⟨⟨by decide +kernel, by decide +kernel⟩, lw_t5 (List.mem_of_getElem? (i := 104) rfl), lw_t7 (List.mem_of_getElem? (i := 173) rfl), lw_t7 (List.mem_of_getElem? (i := 174) rfl)⟩
theorem lw_p81 : lw_okq (⟨"DistinctMarksModel", "lost", "()I"⟩, 19) := ⟨⟨by decide +kernel, by decide +kernel⟩, lw_t5 (List.mem_of_getElem? (i := 104) rfl), lw_t7 (List.mem_of_getElem? (i := 181) rfl), lw_t7 (List.mem_of_getElem? (i := 182) rfl)⟩
def lw_privs_6 : List (MethodName × Nat) := [(⟨"DistinctMarksModel", "placeSum", "()I"⟩, 19), (⟨"DistinctMarksModel", "lost", "()I"⟩, 19)]
theorem lw_r6 : ∀ q ∈ lw_privs_6, lw_okq q := List.forall_mem_cons.mpr ⟨lw_p80, List.forall_mem_cons.mpr ⟨lw_p81, fun _ h => absurd h List.not_mem_nil⟩⟩
def lw_privs : List (MethodName × Nat) := lw_privs_1 ++ (lw_privs_2 ++ (lw_privs_3 ++ (lw_privs_4 ++ (lw_privs_5 ++ (lw_privs_6)))))
def lw_tbl : List Cond := k2_sels lw_privs ++ tables_1
theorem lw_privs_ok : ∀ q ∈ lw_privs, lw_okq q := by
  show ∀ q ∈ lw_privs_1 ++ (lw_privs_2 ++ (lw_privs_3 ++ (lw_privs_4 ++ (lw_privs_5 ++ (lw_privs_6))))), lw_okq q
  exact List.forall_mem_append.mpr ⟨lw_r1, List.forall_mem_append.mpr ⟨lw_r2, List.forall_mem_append.mpr ⟨lw_r3, List.forall_mem_append.mpr ⟨lw_r4, List.forall_mem_append.mpr ⟨lw_r5, lw_r6⟩⟩⟩⟩⟩
-- ===== ONE list of words for every method: the tables' words that hold all through a run =====
def lw_all : List Cond := lw_tbl.filter goodWord
/-- a word of the tables by its place: claim/WORDS.tsv -/
theorem lw_w {w : Cond} (i : Nat) (h : lw_tbl[i]? = some w) (g : goodWord w = true) : w ∈ lw_all := List.mem_filter.mpr ⟨List.mem_of_getElem? h, g⟩
theorem lw_all_tbl {w : Cond} (h : w ∈ lw_all) : w ∈ lw_tbl := (List.mem_filter.mp h).1
theorem lw_self : GoodIn lw_all lw_all := fun w h => ⟨h, good_of_word (List.mem_filter.mp h).2⟩
/-- a class's field words, by their places -/
theorem lw_in (ws : List Cond) (ps : List Nat) (hp : ws = ps.filterMap (fun i => lw_tbl[i]?)) (hg : ws.all goodWord = true) : ∀ w ∈ ws, w ∈ lw_all := by
  intro w h
  have h1 := List.all_eq_true.mp hg w h
  rw [hp] at h
  obtain ⟨i, -, hi⟩ := List.mem_filterMap.mp h
  exact lw_w i hi h1
/-- the words of a contract for the method y with code b, L locals, answer r -/
abbrev ws_ (y : MethodName) (b : ByteArray) (L : Nat) (r : Option FieldType) : List Cond := Cond.code y b L r :: lw_all
theorem lw_meth {y : MethodName} {b : ByteArray} {L : Nat} {r : Option FieldType} (h : Cond.code y b L r ∈ lw_all) : GoodIn lw_all (ws_ y b L r) := by
  intro w hw
  rcases List.mem_cons.mp hw with e | e
  · rw [e]
    exact lw_self _ h
  · exact lw_self _ e
theorem lw_app {a c : List Cond} (ha : ∀ w ∈ a, w ∈ lw_all) (hc : GoodIn lw_all c) : GoodIn lw_all (a ++ c) := by
  intro w hw
  rcases List.mem_append.mp hw with e | e
  · exact lw_self w (ha w e)
  · exact hc w e
/-- what a call through an object asks: cwV n hts (lw_V ..) -/
theorem lw_V {own : String} {idx : Nat} {C : String} {y : MethodName} {b : ByteArray} {L : Nat} {r : Option FieldType} (h1 : Cond.methodLink own idx y ∈ lw_all) (h2 : Cond.instanceMethod y ∈ lw_all) (h3 : Cond.selects C y y ∈ lw_all) (h4 : Cond.initialized C ∈ lw_all) (h5 : Cond.code y b L r ∈ lw_all) : GoodIn lw_all (wsV own idx C y (ws_ y b L r)) := by
  refine lw_app ?_ (lw_meth h5)
  intro w hw
  simp only [List.mem_cons, List.not_mem_nil, or_false] at hw
  rcases hw with e | e | e | e
  · rw [e]; exact h1
  · rw [e]; exact h2
  · rw [e]; exact h3
  · rw [e]; exact h4
/-- what a static call asks: va_cwS n hts (lw_S ..) -/
theorem lw_S {own : String} {idx : Nat} {y : MethodName} {b : ByteArray} {L : Nat} {r : Option FieldType} (h1 : Cond.methodLink own idx y ∈ lw_all) (h2 : Cond.static y ∈ lw_all) (h3 : Cond.initialized y.cls ∈ lw_all) (h4 : Cond.code y b L r ∈ lw_all) : GoodIn lw_all (va_wsS own idx y (ws_ y b L r)) := by
  refine lw_app ?_ (lw_meth h4)
  intro w hw
  simp only [List.mem_cons, List.not_mem_nil, or_false] at hw
  rcases hw with e | e | e
  · rw [e]; exact h1
  · rw [e]; exact h2
  · rw [e]; exact h3
/-- the words of a contract for a method WITH HANDLERS (hh: its table) -/
abbrev wsW_ (y : MethodName) (b : ByteArray) (L : Nat) (r : Option FieldType) (hh : List (Nat × Nat × Nat × Nat)) : List Cond := Cond.codeWith y b L r hh :: lw_all
theorem lw_methW {y : MethodName} {b : ByteArray} {L : Nat} {r : Option FieldType} {hh : List (Nat × Nat × Nat × Nat)} (h : Cond.codeWith y b L r hh ∈ lw_all) : GoodIn lw_all (wsW_ y b L r hh) := by
  intro w hw
  rcases List.mem_cons.mp hw with e | e
  · rw [e]
    exact lw_self _ h
  · exact lw_self _ e
/-- any list of words by their places (lw_in), good -/
theorem lw_good {ws : List Cond} (h : ∀ w ∈ ws, w ∈ lw_all) : GoodIn lw_all ws := fun w hw => lw_self w (h w hw)
/-- what a call of a method with handlers asks: vx_cwVW n hts (lw_VW ..), vx_cwSW n hts (lw_SW ..) -/
theorem lw_VW {own : String} {idx : Nat} {C : String} {y : MethodName} {b : ByteArray} {L : Nat} {r : Option FieldType} {hh : List (Nat × Nat × Nat × Nat)} (h1 : Cond.methodLink own idx y ∈ lw_all) (h2 : Cond.instanceMethod y ∈ lw_all) (h3 : Cond.selects C y y ∈ lw_all) (h4 : Cond.initialized C ∈ lw_all) (h5 : Cond.codeWith y b L r hh ∈ lw_all) : GoodIn lw_all (wsV own idx C y (wsW_ y b L r hh)) := by
  refine lw_app ?_ (lw_methW h5)
  intro w hw
  simp only [List.mem_cons, List.not_mem_nil, or_false] at hw
  rcases hw with e | e | e | e
  · rw [e]; exact h1
  · rw [e]; exact h2
  · rw [e]; exact h3
  · rw [e]; exact h4
theorem lw_SW {own : String} {idx : Nat} {y : MethodName} {b : ByteArray} {L : Nat} {r : Option FieldType} {hh : List (Nat × Nat × Nat × Nat)} (h1 : Cond.methodLink own idx y ∈ lw_all) (h2 : Cond.static y ∈ lw_all) (h3 : Cond.initialized y.cls ∈ lw_all) (h4 : Cond.codeWith y b L r hh ∈ lw_all) : GoodIn lw_all (va_wsS own idx y (wsW_ y b L r hh)) := by
  refine lw_app ?_ (lw_methW h4)
  intro w hw
  simp only [List.mem_cons, List.not_mem_nil, or_false] at hw
  rcases hw with e | e | e
  · rw [e]; exact h1
  · rw [e]; exact h2
  · rw [e]; exact h3
/-- a word by its place in its run of the tables -/
theorem lw_at {r : List Cond} (hr : ∀ w ∈ r, w ∈ lw_tbl) {w : Cond} (i : Nat) (h : r[i]? = some w) : w ∈ lw_tbl := hr w (List.mem_of_getElem? h)
theorem lw_g {w : Cond} (h : w ∈ lw_tbl) (g : goodWord w = true) : w ∈ lw_all := List.mem_filter.mpr ⟨h, g⟩
theorem lw_ms : ∀ w ∈ k2_sels lw_privs, w ∈ lw_tbl := fun w h => show w ∈ k2_sels lw_privs ++ tables_1 from List.mem_append_left _ h
theorem lw_m1 : ∀ w ∈ tables_1_1, w ∈ lw_tbl := fun w h => show w ∈ k2_sels lw_privs ++ tables_1 from List.mem_append_right (k2_sels lw_privs) (show w ∈ tables_1 from List.mem_append_left _ h)
theorem lw_m2 : ∀ w ∈ tables_1_2, w ∈ lw_tbl := fun w h => show w ∈ k2_sels lw_privs ++ tables_1 from List.mem_append_right (k2_sels lw_privs) (show w ∈ tables_1 from List.mem_append_right _ (List.mem_append_left _ h))
theorem lw_m3 : ∀ w ∈ tables_1_3, w ∈ lw_tbl := fun w h => show w ∈ k2_sels lw_privs ++ tables_1 from List.mem_append_right (k2_sels lw_privs) (show w ∈ tables_1 from List.mem_append_right _ (List.mem_append_right _ (List.mem_append_left _ h)))
theorem lw_m4 : ∀ w ∈ tables_1_4, w ∈ lw_tbl := fun w h => show w ∈ k2_sels lw_privs ++ tables_1 from List.mem_append_right (k2_sels lw_privs) (show w ∈ tables_1 from List.mem_append_right _ (List.mem_append_right _ (List.mem_append_right _ (List.mem_append_left _ h))))
theorem lw_m5 : ∀ w ∈ tables_1_5, w ∈ lw_tbl := fun w h => show w ∈ k2_sels lw_privs ++ tables_1 from List.mem_append_right (k2_sels lw_privs) (show w ∈ tables_1 from List.mem_append_right _ (List.mem_append_right _ (List.mem_append_right _ (List.mem_append_right _ (List.mem_append_left _ h)))))
theorem lw_m6 : ∀ w ∈ tables_1_6, w ∈ lw_tbl := fun w h => show w ∈ k2_sels lw_privs ++ tables_1 from List.mem_append_right (k2_sels lw_privs) (show w ∈ tables_1 from List.mem_append_right _ (List.mem_append_right _ (List.mem_append_right _ (List.mem_append_right _ (List.mem_append_right _ (List.mem_append_left _ h))))))
theorem lw_m7 : ∀ w ∈ tables_1_7, w ∈ lw_tbl := fun w h => show w ∈ k2_sels lw_privs ++ tables_1 from List.mem_append_right (k2_sels lw_privs) (show w ∈ tables_1 from List.mem_append_right _ (List.mem_append_right _ (List.mem_append_right _ (List.mem_append_right _ (List.mem_append_right _ (List.mem_append_right _ h))))))
theorem qs0 : (Cond.selects "DistinctMarks" ⟨"DistinctMarks", "markOf", "(I)I"⟩ ⟨"DistinctMarks", "markOf", "(I)I"⟩) ∈ lw_all := lw_g (lw_at lw_ms 0 rfl) rfl
theorem qs1 : (Cond.selects "DistinctMarks" ⟨"DistinctMarks", "notesRow", "([J)V"⟩ ⟨"DistinctMarks", "notesRow", "([J)V"⟩) ∈ lw_all := lw_g (lw_at lw_ms 1 rfl) rfl
theorem qs2 : (Cond.selects "DistinctMarks" ⟨"DistinctMarks", "notes", "(J)V"⟩ ⟨"DistinctMarks", "notes", "(J)V"⟩) ∈ lw_all := lw_g (lw_at lw_ms 2 rfl) rfl
theorem qs3 : (Cond.selects "DistinctMarks" ⟨"DistinctMarks", "lays", "(I)V"⟩ ⟨"DistinctMarks", "lays", "(I)V"⟩) ∈ lw_all := lw_g (lw_at lw_ms 3 rfl) rfl
theorem qs4 : (Cond.selects "DistinctMarks$Counter" ⟨"DistinctMarks$Counter", "raises", "(I)Z"⟩ ⟨"DistinctMarks$Counter", "raises", "(I)Z"⟩) ∈ lw_all := lw_g (lw_at lw_ms 4 rfl) rfl
theorem qs5 : (Cond.selects "DistinctMarks$Counter" ⟨"DistinctMarks$Counter", "raises", "(II)Z"⟩ ⟨"DistinctMarks$Counter", "raises", "(II)Z"⟩) ∈ lw_all := lw_g (lw_at lw_ms 5 rfl) rfl
theorem qs6 : (Cond.selects "DistinctMarks" ⟨"DistinctMarks", "begins", "()V"⟩ ⟨"DistinctMarks", "begins", "()V"⟩) ∈ lw_all := lw_g (lw_at lw_ms 6 rfl) rfl
theorem qs7 : (Cond.selects "DistinctMarks" ⟨"DistinctMarks", "thingsTold", "()V"⟩ ⟨"DistinctMarks", "thingsTold", "()V"⟩) ∈ lw_all := lw_g (lw_at lw_ms 7 rfl) rfl
theorem qs8 : (Cond.selects "DistinctMarks" ⟨"DistinctMarks", "numberTold", "()I"⟩ ⟨"DistinctMarks", "numberTold", "()I"⟩) ∈ lw_all := lw_g (lw_at lw_ms 8 rfl) rfl
theorem qs9 : (Cond.selects "DistinctMarks" ⟨"DistinctMarks", "takes", "(C)Z"⟩ ⟨"DistinctMarks", "takes", "(C)Z"⟩) ∈ lw_all := lw_g (lw_at lw_ms 9 rfl) rfl
theorem qs10 : (Cond.selects "DistinctMarks" ⟨"DistinctMarks", "isDigit", "()Z"⟩ ⟨"DistinctMarks", "isDigit", "()Z"⟩) ∈ lw_all := lw_g (lw_at lw_ms 10 rfl) rfl
theorem qs11 : (Cond.selects "DistinctMarks" ⟨"DistinctMarks", "must", "(Z)V"⟩ ⟨"DistinctMarks", "must", "(Z)V"⟩) ∈ lw_all := lw_g (lw_at lw_ms 11 rfl) rfl
theorem qs12 : (Cond.selects "java/lang/Throwable" ⟨"java/lang/Throwable", "fillInStackTrace", "(I)Ljava/lang/Throwable;"⟩ ⟨"java/lang/Throwable", "fillInStackTrace", "(I)Ljava/lang/Throwable;"⟩) ∈ lw_all := lw_g (lw_at lw_ms 12 rfl) rfl
theorem qs13 : (Cond.selects "DistinctMarks" ⟨"DistinctMarks", "wrong", "()I"⟩ ⟨"DistinctMarks", "wrong", "()I"⟩) ∈ lw_all := lw_g (lw_at lw_ms 13 rfl) rfl
theorem qs14 : (Cond.selects "DistinctMarks$Counter" ⟨"DistinctMarks$Counter", "lambda$takes$0", "(LDistinctMarks$Counter;II)V"⟩ ⟨"DistinctMarks$Counter", "lambda$takes$0", "(LDistinctMarks$Counter;II)V"⟩) ∈ lw_all := lw_g (lw_at lw_ms 14 rfl) rfl
theorem qs15 : (Cond.selects "DistinctMarks$Counter" ⟨"DistinctMarks$Counter", "folded", "(III)I"⟩ ⟨"DistinctMarks$Counter", "folded", "(III)I"⟩) ∈ lw_all := lw_g (lw_at lw_ms 15 rfl) rfl
theorem qs16 : (Cond.selects "DistinctMarks" ⟨"DistinctMarks", "joined", "([LDistinctMarks$Counter;)LDistinctMarks$Counter;"⟩ ⟨"DistinctMarks", "joined", "([LDistinctMarks$Counter;)LDistinctMarks$Counter;"⟩) ∈ lw_all := lw_g (lw_at lw_ms 16 rfl) rfl
theorem qs17 : (Cond.selects "DistinctMarks" ⟨"DistinctMarks", "becomes", "(ILDistinctMarks$Counter;)I"⟩ ⟨"DistinctMarks", "becomes", "(ILDistinctMarks$Counter;)I"⟩) ∈ lw_all := lw_g (lw_at lw_ms 17 rfl) rfl
theorem qs18 : (Cond.selects "DistinctMarks" ⟨"DistinctMarks", "those", "(I)[LDistinctMarks$Counter;"⟩ ⟨"DistinctMarks", "those", "(I)[LDistinctMarks$Counter;"⟩) ∈ lw_all := lw_g (lw_at lw_ms 18 rfl) rfl
theorem qs19 : (Cond.selects "DistinctMarks" ⟨"DistinctMarks", "picked", "(LDistinctMarks$Counter;IILDistinctMarks$Wanted;)LDistinctMarks$Counter;"⟩ ⟨"DistinctMarks", "picked", "(LDistinctMarks$Counter;IILDistinctMarks$Wanted;)LDistinctMarks$Counter;"⟩) ∈ lw_all := lw_g (lw_at lw_ms 19 rfl) rfl
theorem qs20 : (Cond.selects "DistinctMarks" ⟨"DistinctMarks", "isPlace", "(II)Z"⟩ ⟨"DistinctMarks", "isPlace", "(II)Z"⟩) ∈ lw_all := lw_g (lw_at lw_ms 20 rfl) rfl
theorem qs21 : (Cond.selects "DistinctMarks" ⟨"DistinctMarks", "guessOf", "([LDistinctMarks$Counter;)I"⟩ ⟨"DistinctMarks", "guessOf", "([LDistinctMarks$Counter;)I"⟩) ∈ lw_all := lw_g (lw_at lw_ms 21 rfl) rfl
theorem qs22 : (Cond.selects "DistinctMarks" ⟨"DistinctMarks", "commonOf", "(II)J"⟩ ⟨"DistinctMarks", "commonOf", "(II)J"⟩) ∈ lw_all := lw_g (lw_at lw_ms 22 rfl) rfl
theorem qs23 : (Cond.selects "DistinctMarks" ⟨"DistinctMarks", "alikeOf", "(II)I"⟩ ⟨"DistinctMarks", "alikeOf", "(II)I"⟩) ∈ lw_all := lw_g (lw_at lw_ms 23 rfl) rfl
theorem qs24 : (Cond.selects "DistinctMarks" ⟨"DistinctMarks", "lambda$meet$5", "([JI)V"⟩ ⟨"DistinctMarks", "lambda$meet$5", "([JI)V"⟩) ∈ lw_all := lw_g (lw_at lw_ms 24 rfl) rfl
theorem qs25 : (Cond.selects "DistinctMarks" ⟨"DistinctMarks", "foldedTo", "(LDistinctMarks$Counter;I)LDistinctMarks$Counter;"⟩ ⟨"DistinctMarks", "foldedTo", "(LDistinctMarks$Counter;I)LDistinctMarks$Counter;"⟩) ∈ lw_all := lw_g (lw_at lw_ms 25 rfl) rfl
theorem qs26 : (Cond.selects "DistinctMarks" ⟨"DistinctMarks", "lambda$cover$6", "([III)V"⟩ ⟨"DistinctMarks", "lambda$cover$6", "([III)V"⟩) ∈ lw_all := lw_g (lw_at lw_ms 26 rfl) rfl
theorem qs27 : (Cond.selects "DistinctMarks" ⟨"DistinctMarks", "empty", "(I)LDistinctMarks$Counter;"⟩ ⟨"DistinctMarks", "empty", "(I)LDistinctMarks$Counter;"⟩) ∈ lw_all := lw_g (lw_at lw_ms 27 rfl) rfl
theorem qs28 : (Cond.selects "DistinctMarks" ⟨"DistinctMarks", "offBy", "(IIII)I"⟩ ⟨"DistinctMarks", "offBy", "(IIII)I"⟩) ∈ lw_all := lw_g (lw_at lw_ms 28 rfl) rfl
theorem qs29 : (Cond.selects "DistinctMarks" ⟨"DistinctMarks", "write", "(LDistinctMarks$Counter;)Ljava/lang/String;"⟩ ⟨"DistinctMarks", "write", "(LDistinctMarks$Counter;)Ljava/lang/String;"⟩) ∈ lw_all := lw_g (lw_at lw_ms 29 rfl) rfl
theorem qs30 : (Cond.selects "DistinctMarks" ⟨"DistinctMarks", "signTold", "(I)I"⟩ ⟨"DistinctMarks", "signTold", "(I)I"⟩) ∈ lw_all := lw_g (lw_at lw_ms 30 rfl) rfl
theorem qs31 : (Cond.selects "DistinctMarks" ⟨"DistinctMarks", "limitTold", "()I"⟩ ⟨"DistinctMarks", "limitTold", "()I"⟩) ∈ lw_all := lw_g (lw_at lw_ms 31 rfl) rfl
theorem qs32 : (Cond.selects "DistinctMarks" ⟨"DistinctMarks", "marksTold", "(LDistinctMarks$Counter;)V"⟩ ⟨"DistinctMarks", "marksTold", "(LDistinctMarks$Counter;)V"⟩) ∈ lw_all := lw_g (lw_at lw_ms 32 rfl) rfl
theorem qs33 : (Cond.selects "DistinctMarks" ⟨"DistinctMarks", "setOf", "(LDistinctMarks$Held;)I"⟩ ⟨"DistinctMarks", "setOf", "(LDistinctMarks$Held;)I"⟩) ∈ lw_all := lw_g (lw_at lw_ms 33 rfl) rfl
theorem qs34 : (Cond.selects "DistinctMarks" ⟨"DistinctMarks", "sumOf", "(LDistinctMarks$Summed;)I"⟩ ⟨"DistinctMarks", "sumOf", "(LDistinctMarks$Summed;)I"⟩) ∈ lw_all := lw_g (lw_at lw_ms 34 rfl) rfl
theorem qs35 : (Cond.selects "DistinctMarksModel" ⟨"DistinctMarksModel", "opensSlot", "(III)V"⟩ ⟨"DistinctMarksModel", "opensSlot", "(III)V"⟩) ∈ lw_all := lw_g (lw_at lw_ms 35 rfl) rfl
theorem qs36 : (Cond.selects "DistinctMarksModel" ⟨"DistinctMarksModel", "markOf", "(I)J"⟩ ⟨"DistinctMarksModel", "markOf", "(I)J"⟩) ∈ lw_all := lw_g (lw_at lw_ms 36 rfl) rfl
theorem qs37 : (Cond.selects "DistinctMarksModel" ⟨"DistinctMarksModel", "tell", "(J)V"⟩ ⟨"DistinctMarksModel", "tell", "(J)V"⟩) ∈ lw_all := lw_g (lw_at lw_ms 37 rfl) rfl
theorem qs38 : (Cond.selects "DistinctMarksModel" ⟨"DistinctMarksModel", "places", "(I)I"⟩ ⟨"DistinctMarksModel", "places", "(I)I"⟩) ∈ lw_all := lw_g (lw_at lw_ms 38 rfl) rfl
theorem qs39 : (Cond.selects "DistinctMarksModel" ⟨"DistinctMarksModel", "comes", "(IJ)Z"⟩ ⟨"DistinctMarksModel", "comes", "(IJ)Z"⟩) ∈ lw_all := lw_g (lw_at lw_ms 39 rfl) rfl
theorem qs40 : (Cond.selects "DistinctMarksModel" ⟨"DistinctMarksModel", "raises", "(IJ)Z"⟩ ⟨"DistinctMarksModel", "raises", "(IJ)Z"⟩) ∈ lw_all := lw_g (lw_at lw_ms 40 rfl) rfl
theorem qs41 : (Cond.selects "DistinctMarksModel" ⟨"DistinctMarksModel", "hasMark", "(IJ)Z"⟩ ⟨"DistinctMarksModel", "hasMark", "(IJ)Z"⟩) ∈ lw_all := lw_g (lw_at lw_ms 41 rfl) rfl
theorem qs42 : (Cond.selects "DistinctMarksModel" ⟨"DistinctMarksModel", "insert", "(IJ)V"⟩ ⟨"DistinctMarksModel", "insert", "(IJ)V"⟩) ∈ lw_all := lw_g (lw_at lw_ms 42 rfl) rfl
theorem qs43 : (Cond.selects "DistinctMarksModel" ⟨"DistinctMarksModel", "becomesDense", "(I)V"⟩ ⟨"DistinctMarksModel", "becomesDense", "(I)V"⟩) ∈ lw_all := lw_g (lw_at lw_ms 43 rfl) rfl
theorem qs44 : (Cond.selects "DistinctMarksModel" ⟨"DistinctMarksModel", "runsInto", "(IIII)I"⟩ ⟨"DistinctMarksModel", "runsInto", "(IIII)I"⟩) ∈ lw_all := lw_g (lw_at lw_ms 44 rfl) rfl
theorem qs45 : (Cond.selects "DistinctMarksModel" ⟨"DistinctMarksModel", "begin", "()V"⟩ ⟨"DistinctMarksModel", "begin", "()V"⟩) ∈ lw_all := lw_g (lw_at lw_ms 45 rfl) rfl
theorem qs46 : (Cond.selects "DistinctMarksModel" ⟨"DistinctMarksModel", "readsThings", "()Z"⟩ ⟨"DistinctMarksModel", "readsThings", "()Z"⟩) ∈ lw_all := lw_g (lw_at lw_ms 46 rfl) rfl
theorem qs47 : (Cond.selects "DistinctMarksModel" ⟨"DistinctMarksModel", "readsNumber", "()Z"⟩ ⟨"DistinctMarksModel", "readsNumber", "()Z"⟩) ∈ lw_all := lw_g (lw_at lw_ms 47 rfl) rfl
theorem qs48 : (Cond.selects "DistinctMarksModel" ⟨"DistinctMarksModel", "sees", "()I"⟩ ⟨"DistinctMarksModel", "sees", "()I"⟩) ∈ lw_all := lw_g (lw_at lw_ms 48 rfl) rfl
theorem qs49 : (Cond.selects "DistinctMarksModel" ⟨"DistinctMarksModel", "laysRanks", "(I)V"⟩ ⟨"DistinctMarksModel", "laysRanks", "(I)V"⟩) ∈ lw_all := lw_g (lw_at lw_ms 49 rfl) rfl
theorem qs50 : (Cond.selects "DistinctMarksModel" ⟨"DistinctMarksModel", "ranked", "(I)I"⟩ ⟨"DistinctMarksModel", "ranked", "(I)I"⟩) ∈ lw_all := lw_g (lw_at lw_ms 50 rfl) rfl
theorem qs51 : (Cond.selects "DistinctMarksModel" ⟨"DistinctMarksModel", "foldsSlot", "(II)V"⟩ ⟨"DistinctMarksModel", "foldsSlot", "(II)V"⟩) ∈ lw_all := lw_g (lw_at lw_ms 51 rfl) rfl
theorem qs52 : (Cond.selects "DistinctMarksModel" ⟨"DistinctMarksModel", "copiesSlot", "(II)V"⟩ ⟨"DistinctMarksModel", "copiesSlot", "(II)V"⟩) ∈ lw_all := lw_g (lw_at lw_ms 52 rfl) rfl
theorem qs53 : (Cond.selects "DistinctMarksModel" ⟨"DistinctMarksModel", "guessOf", "(I)I"⟩ ⟨"DistinctMarksModel", "guessOf", "(I)I"⟩) ∈ lw_all := lw_g (lw_at lw_ms 53 rfl) rfl
theorem qs54 : (Cond.selects "DistinctMarksModel" ⟨"DistinctMarksModel", "denseGuess", "(I)I"⟩ ⟨"DistinctMarksModel", "denseGuess", "(I)I"⟩) ∈ lw_all := lw_g (lw_at lw_ms 54 rfl) rfl
theorem qs55 : (Cond.selects "DistinctMarksModel" ⟨"DistinctMarksModel", "zeros", "(I)I"⟩ ⟨"DistinctMarksModel", "zeros", "(I)I"⟩) ∈ lw_all := lw_g (lw_at lw_ms 55 rfl) rfl
theorem qs56 : (Cond.selects "DistinctMarksModel" ⟨"DistinctMarksModel", "allOf", "(I)J"⟩ ⟨"DistinctMarksModel", "allOf", "(I)J"⟩) ∈ lw_all := lw_g (lw_at lw_ms 56 rfl) rfl
theorem qs57 : (Cond.selects "DistinctMarksModel" ⟨"DistinctMarksModel", "guessBy", "(IIJ)I"⟩ ⟨"DistinctMarksModel", "guessBy", "(IIJ)I"⟩) ∈ lw_all := lw_g (lw_at lw_ms 57 rfl) rfl
theorem qs58 : (Cond.selects "DistinctMarksModel" ⟨"DistinctMarksModel", "joinsTwo", "(II)V"⟩ ⟨"DistinctMarksModel", "joinsTwo", "(II)V"⟩) ∈ lw_all := lw_g (lw_at lw_ms 58 rfl) rfl
theorem qs59 : (Cond.selects "DistinctMarksModel" ⟨"DistinctMarksModel", "joinsInto", "(II)V"⟩ ⟨"DistinctMarksModel", "joinsInto", "(II)V"⟩) ∈ lw_all := lw_g (lw_at lw_ms 59 rfl) rfl
theorem qs60 : (Cond.selects "DistinctMarksModel" ⟨"DistinctMarksModel", "joinsSet", "(I)V"⟩ ⟨"DistinctMarksModel", "joinsSet", "(I)V"⟩) ∈ lw_all := lw_g (lw_at lw_ms 60 rfl) rfl
theorem qs61 : (Cond.selects "DistinctMarksModel" ⟨"DistinctMarksModel", "isRow", "(II)Z"⟩ ⟨"DistinctMarksModel", "isRow", "(II)Z"⟩) ∈ lw_all := lw_g (lw_at lw_ms 61 rfl) rfl
theorem qs62 : (Cond.selects "DistinctMarksModel" ⟨"DistinctMarksModel", "sieves", "(IIZII)I"⟩ ⟨"DistinctMarksModel", "sieves", "(IIZII)I"⟩) ∈ lw_all := lw_g (lw_at lw_ms 62 rfl) rfl
theorem qs63 : (Cond.selects "DistinctMarksModel" ⟨"DistinctMarksModel", "greatest", "(I)I"⟩ ⟨"DistinctMarksModel", "greatest", "(I)I"⟩) ∈ lw_all := lw_g (lw_at lw_ms 63 rfl) rfl
theorem qs64 : (Cond.selects "DistinctMarksModel" ⟨"DistinctMarksModel", "wouldChange", "(IJ)Z"⟩ ⟨"DistinctMarksModel", "wouldChange", "(IJ)Z"⟩) ∈ lw_all := lw_g (lw_at lw_ms 64 rfl) rfl
theorem qs65 : (Cond.selects "DistinctMarksModel" ⟨"DistinctMarksModel", "jointGuess", "(I)I"⟩ ⟨"DistinctMarksModel", "jointGuess", "(I)I"⟩) ∈ lw_all := lw_g (lw_at lw_ms 65 rfl) rfl
theorem qs66 : (Cond.selects "DistinctMarksModel" ⟨"DistinctMarksModel", "foldsBoth", "(II)I"⟩ ⟨"DistinctMarksModel", "foldsBoth", "(II)I"⟩) ∈ lw_all := lw_g (lw_at lw_ms 66 rfl) rfl
theorem qs67 : (Cond.selects "DistinctMarksModel" ⟨"DistinctMarksModel", "commonOf", "(II)J"⟩ ⟨"DistinctMarksModel", "commonOf", "(II)J"⟩) ∈ lw_all := lw_g (lw_at lw_ms 67 rfl) rfl
theorem qs68 : (Cond.selects "DistinctMarksModel" ⟨"DistinctMarksModel", "bothGuess", "(II)I"⟩ ⟨"DistinctMarksModel", "bothGuess", "(II)I"⟩) ∈ lw_all := lw_g (lw_at lw_ms 68 rfl) rfl
theorem qs69 : (Cond.selects "DistinctMarksModel" ⟨"DistinctMarksModel", "alikeOf", "(II)I"⟩ ⟨"DistinctMarksModel", "alikeOf", "(II)I"⟩) ∈ lw_all := lw_g (lw_at lw_ms 69 rfl) rfl
theorem qs70 : (Cond.selects "DistinctMarksModel" ⟨"DistinctMarksModel", "opensTrial", "(I)V"⟩ ⟨"DistinctMarksModel", "opensTrial", "(I)V"⟩) ∈ lw_all := lw_g (lw_at lw_ms 70 rfl) rfl
theorem qs71 : (Cond.selects "DistinctMarksModel" ⟨"DistinctMarksModel", "headSigns", "(I)I"⟩ ⟨"DistinctMarksModel", "headSigns", "(I)I"⟩) ∈ lw_all := lw_g (lw_at lw_ms 71 rfl) rfl
theorem qs72 : (Cond.selects "DistinctMarksModel" ⟨"DistinctMarksModel", "signAt", "(II)I"⟩ ⟨"DistinctMarksModel", "signAt", "(II)I"⟩) ∈ lw_all := lw_g (lw_at lw_ms 72 rfl) rfl
theorem qs73 : (Cond.selects "DistinctMarksModel" ⟨"DistinctMarksModel", "readsCounter", "()Z"⟩ ⟨"DistinctMarksModel", "readsCounter", "()Z"⟩) ∈ lw_all := lw_g (lw_at lw_ms 73 rfl) rfl
theorem qs74 : (Cond.selects "DistinctMarksModel" ⟨"DistinctMarksModel", "readsMarks", "()Z"⟩ ⟨"DistinctMarksModel", "readsMarks", "()Z"⟩) ∈ lw_all := lw_g (lw_at lw_ms 74 rfl) rfl
theorem qs75 : (Cond.selects "DistinctMarksModel" ⟨"DistinctMarksModel", "readsSign", "(I)I"⟩ ⟨"DistinctMarksModel", "readsSign", "(I)I"⟩) ∈ lw_all := lw_g (lw_at lw_ms 75 rfl) rfl
theorem qs76 : (Cond.selects "DistinctMarksModel" ⟨"DistinctMarksModel", "readsRanks", "()Z"⟩ ⟨"DistinctMarksModel", "readsRanks", "()Z"⟩) ∈ lw_all := lw_g (lw_at lw_ms 76 rfl) rfl
theorem qs77 : (Cond.selects "DistinctMarksModel" ⟨"DistinctMarksModel", "denseBits", "()I"⟩ ⟨"DistinctMarksModel", "denseBits", "()I"⟩) ∈ lw_all := lw_g (lw_at lw_ms 77 rfl) rfl
theorem qs78 : (Cond.selects "DistinctMarksModel" ⟨"DistinctMarksModel", "rankedBits", "()I"⟩ ⟨"DistinctMarksModel", "rankedBits", "()I"⟩) ∈ lw_all := lw_g (lw_at lw_ms 78 rfl) rfl
theorem qs79 : (Cond.selects "DistinctMarksModel" ⟨"DistinctMarksModel", "markSum", "()I"⟩ ⟨"DistinctMarksModel", "markSum", "()I"⟩) ∈ lw_all := lw_g (lw_at lw_ms 79 rfl) rfl
theorem qs80 : (Cond.selects "DistinctMarksModel" ⟨"DistinctMarksModel", "placeSum", "()I"⟩ ⟨"DistinctMarksModel", "placeSum", "()I"⟩) ∈ lw_all := lw_g (lw_at lw_ms 80 rfl) rfl
theorem qs81 : (Cond.selects "DistinctMarksModel" ⟨"DistinctMarksModel", "lost", "()I"⟩ ⟨"DistinctMarksModel", "lost", "()I"⟩) ∈ lw_all := lw_g (lw_at lw_ms 81 rfl) rfl
