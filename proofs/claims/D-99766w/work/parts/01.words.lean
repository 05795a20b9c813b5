-- ===== PART A: goes FIRST, ahead of the names: the tables' words, and 'selects' of the private methods out of them =====
/-- a private method of a class that the tables say can be made, by its rows of tables_1 -/
def lw_okq (q : MethodName × Nat) : Prop := (q.1.cls ≠ "java/lang/invoke/MethodHandle" ∧ q.1.cls ≠ "java/lang/invoke/VarHandle") ∧ Cond.instantiable q.1.cls q.2 ∈ tables_1 ∧ Cond.privateMethod q.1 ∈ tables_1 ∧ Cond.instanceMethod q.1 ∈ tables_1
set_option maxRecDepth 100000
theorem lw_t1 {w : Cond} (h : w ∈ tables_1_1) : w ∈ tables_1 := List.mem_append_left _ h
theorem lw_t2 {w : Cond} (h : w ∈ tables_1_2) : w ∈ tables_1 := List.mem_append_right _ (List.mem_append_left _ h)
theorem lw_t3 {w : Cond} (h : w ∈ tables_1_3) : w ∈ tables_1 := List.mem_append_right _ (List.mem_append_right _ (List.mem_append_left _ h))
theorem lw_t4 {w : Cond} (h : w ∈ tables_1_4) : w ∈ tables_1 := List.mem_append_right _ (List.mem_append_right _ (List.mem_append_right _ (List.mem_append_left _ h)))
theorem lw_t5 {w : Cond} (h : w ∈ tables_1_5) : w ∈ tables_1 := List.mem_append_right _ (List.mem_append_right _ (List.mem_append_right _ (List.mem_append_right _ (List.mem_append_left _ h))))
theorem lw_t6 {w : Cond} (h : w ∈ tables_1_6) : w ∈ tables_1 := List.mem_append_right _ (List.mem_append_right _ (List.mem_append_right _ (List.mem_append_right _ (List.mem_append_right _ (List.mem_append_left _ h)))))
theorem lw_t7 {w : Cond} (h : w ∈ tables_1_7) : w ∈ tables_1 := List.mem_append_right _ (List.mem_append_right _ (List.mem_append_right _ (List.mem_append_right _ (List.mem_append_right _ (List.mem_append_right _ (List.mem_append_left _ h))))))
theorem lw_t8 {w : Cond} (h : w ∈ tables_1_8) : w ∈ tables_1 := List.mem_append_right _ (List.mem_append_right _ (List.mem_append_right _ (List.mem_append_right _ (List.mem_append_right _ (List.mem_append_right _ (List.mem_append_right _ (List.mem_append_left _ h)))))))
theorem lw_t9 {w : Cond} (h : w ∈ tables_1_9) : w ∈ tables_1 := List.mem_append_right _ (List.mem_append_right _ (List.mem_append_right _ (List.mem_append_right _ (List.mem_append_right _ (List.mem_append_right _ (List.mem_append_right _ (List.mem_append_right _ (List.mem_append_left _ h))))))))
theorem lw_t10 {w : Cond} (h : w ∈ tables_1_10) : w ∈ tables_1 := List.mem_append_right _ (List.mem_append_right _ (List.mem_append_right _ (List.mem_append_right _ (List.mem_append_right _ (List.mem_append_right _ (List.mem_append_right _ (List.mem_append_right _ (List.mem_append_right _ (List.mem_append_left _ h)))))))))
theorem lw_t11 {w : Cond} (h : w ∈ tables_1_11) : w ∈ tables_1 := List.mem_append_right _ (List.mem_append_right _ (List.mem_append_right _ (List.mem_append_right _ (List.mem_append_right _ (List.mem_append_right _ (List.mem_append_right _ (List.mem_append_right _ (List.mem_append_right _ (List.mem_append_right _ h)))))))))
theorem lw_p0 : lw_okq (⟨"java/lang/Throwable", "fillInStackTrace", "(I)Ljava/lang/Throwable;"⟩, 6) := ⟨⟨by decide +kernel, by decide +kernel⟩, lw_t1 (List.mem_of_getElem? (i := 124) rfl), lw_t1 (List.mem_of_getElem? (i := 122) rfl), lw_t1 (List.mem_of_getElem? (i := 123) rfl)⟩
theorem lw_p1 : lw_okq (⟨"VowelChoir", "begins", "()V"⟩, 22) := ⟨⟨by decide +kernel, by decide +kernel⟩, lw_t1 (List.mem_of_getElem? (i := 56) rfl), lw_t3 (List.mem_of_getElem? (i := 31) rfl), lw_t3 (List.mem_of_getElem? (i := 32) rfl)⟩
theorem lw_p2 : lw_okq (⟨"VowelChoir", "notes", "()I"⟩, 22) := ⟨⟨by decide +kernel, by decide +kernel⟩, lw_t1 (List.mem_of_getElem? (i := 56) rfl), lw_t3 (List.mem_of_getElem? (i := 39) rfl), lw_t3 (List.mem_of_getElem? (i := 40) rfl)⟩
theorem lw_p3 : lw_okq (⟨"VowelChoir", "noteOf", "(I)LVowelChoir$Note;"⟩, 22) := ⟨⟨by decide +kernel, by decide +kernel⟩, lw_t1 (List.mem_of_getElem? (i := 56) rfl), lw_t3 (List.mem_of_getElem? (i := 47) rfl), lw_t3 (List.mem_of_getElem? (i := 48) rfl)⟩
theorem lw_p4 : lw_okq (⟨"VowelChoir", "singers", "()I"⟩, 22) := ⟨⟨by decide +kernel, by decide +kernel⟩, lw_t1 (List.mem_of_getElem? (i := 56) rfl), lw_t3 (List.mem_of_getElem? (i := 70) rfl), lw_t3 (List.mem_of_getElem? (i := 71) rfl)⟩
theorem lw_p5 : lw_okq (⟨"VowelChoir", "singerOf", "(I)LVowelChoir$Singer;"⟩, 22) := ⟨⟨by decide +kernel, by decide +kernel⟩, lw_t1 (List.mem_of_getElem? (i := 56) rfl), lw_t3 (List.mem_of_getElem? (i := 74) rfl), lw_t3 (List.mem_of_getElem? (i := 75) rfl)⟩
theorem lw_p6 : lw_okq (⟨"VowelChoir", "put", "(I)V"⟩, 22) := ⟨⟨by decide +kernel, by decide +kernel⟩, lw_t1 (List.mem_of_getElem? (i := 56) rfl), lw_t3 (List.mem_of_getElem? (i := 151) rfl), lw_t3 (List.mem_of_getElem? (i := 152) rfl)⟩
theorem lw_p7 : lw_okq (⟨"VowelChoir", "takesBy", "(IIIIIIII)I"⟩, 22) := ⟨⟨by decide +kernel, by decide +kernel⟩, lw_t1 (List.mem_of_getElem? (i := 56) rfl), lw_t3 (List.mem_of_getElem? (i := 188) rfl), lw_t3 (List.mem_of_getElem? (i := 189) rfl)⟩
theorem lw_p8 : lw_okq (⟨"VowelChoir", "isBetter", "(II)Z"⟩, 22) := ⟨⟨by decide +kernel, by decide +kernel⟩, lw_t1 (List.mem_of_getElem? (i := 56) rfl), lw_t4 (List.mem_of_getElem? (i := 17) rfl), lw_t4 (List.mem_of_getElem? (i := 18) rfl)⟩
theorem lw_p9 : lw_okq (⟨"VowelChoir", "paid", "(I)I"⟩, 22) := ⟨⟨by decide +kernel, by decide +kernel⟩, lw_t1 (List.mem_of_getElem? (i := 56) rfl), lw_t4 (List.mem_of_getElem? (i := 27) rfl), lw_t4 (List.mem_of_getElem? (i := 28) rfl)⟩
theorem lw_p10 : lw_okq (⟨"VowelChoir", "allNotes", "()I"⟩, 22) := ⟨⟨by decide +kernel, by decide +kernel⟩, lw_t1 (List.mem_of_getElem? (i := 56) rfl), lw_t4 (List.mem_of_getElem? (i := 34) rfl), lw_t4 (List.mem_of_getElem? (i := 35) rfl)⟩
theorem lw_p11 : lw_okq (⟨"VowelChoir", "layBench", "()I"⟩, 22) := ⟨⟨by decide +kernel, by decide +kernel⟩, lw_t1 (List.mem_of_getElem? (i := 56) rfl), lw_t4 (List.mem_of_getElem? (i := 42) rfl), lw_t4 (List.mem_of_getElem? (i := 43) rfl)⟩
theorem lw_p12 : lw_okq (⟨"VowelChoir", "handedOn", "(II)I"⟩, 22) := ⟨⟨by decide +kernel, by decide +kernel⟩, lw_t1 (List.mem_of_getElem? (i := 56) rfl), lw_t4 (List.mem_of_getElem? (i := 46) rfl), lw_t4 (List.mem_of_getElem? (i := 47) rfl)⟩
theorem lw_p13 : lw_okq (⟨"VowelChoir", "onFrom", "(III)I"⟩, 22) := ⟨⟨by decide +kernel, by decide +kernel⟩, lw_t1 (List.mem_of_getElem? (i := 56) rfl), lw_t4 (List.mem_of_getElem? (i := 50) rfl), lw_t4 (List.mem_of_getElem? (i := 51) rfl)⟩
theorem lw_p14 : lw_okq (⟨"VowelChoir", "beside", "(II)I"⟩, 22) := ⟨⟨by decide +kernel, by decide +kernel⟩, lw_t1 (List.mem_of_getElem? (i := 56) rfl), lw_t4 (List.mem_of_getElem? (i := 54) rfl), lw_t4 (List.mem_of_getElem? (i := 55) rfl)⟩
theorem lw_p15 : lw_okq (⟨"VowelChoir", "wordingsBy", "(I)J"⟩, 22) := ⟨⟨by decide +kernel, by decide +kernel⟩, lw_t1 (List.mem_of_getElem? (i := 56) rfl), lw_t4 (List.mem_of_getElem? (i := 62) rfl), lw_t4 (List.mem_of_getElem? (i := 63) rfl)⟩
def lw_privs_1 : List (MethodName × Nat) := [(⟨"java/lang/Throwable", "fillInStackTrace", "(I)Ljava/lang/Throwable;"⟩, 6), (⟨"VowelChoir", "begins", "()V"⟩, 22), (⟨"VowelChoir", "notes", "()I"⟩, 22), (⟨"VowelChoir", "noteOf", "(I)LVowelChoir$Note;"⟩, 22), (⟨"VowelChoir", "singers", "()I"⟩, 22), (⟨"VowelChoir", "singerOf", "(I)LVowelChoir$Singer;"⟩, 22), (⟨"VowelChoir", "put", "(I)V"⟩, 22), (⟨"VowelChoir", "takesBy", "(IIIIIIII)I"⟩, 22), (⟨"VowelChoir", "isBetter", "(II)Z"⟩, 22), (⟨"VowelChoir", "paid", "(I)I"⟩, 22), (⟨"VowelChoir", "allNotes", "()I"⟩, 22), (⟨"VowelChoir", "layBench", "()I"⟩, 22), (⟨"VowelChoir", "handedOn", "(II)I"⟩, 22), (⟨"VowelChoir", "onFrom", "(III)I"⟩, 22), (⟨"VowelChoir", "beside", "(II)I"⟩, 22), (⟨"VowelChoir", "wordingsBy", "(I)J"⟩, 22)]
theorem lw_r1 : ∀ q ∈ lw_privs_1, lw_okq q := List.forall_mem_cons.mpr ⟨lw_p0, List.forall_mem_cons.mpr ⟨lw_p1, List.forall_mem_cons.mpr ⟨lw_p2, List.forall_mem_cons.mpr ⟨lw_p3, List.forall_mem_cons.mpr ⟨lw_p4, List.forall_mem_cons.mpr ⟨lw_p5, List.forall_mem_cons.mpr ⟨lw_p6, List.forall_mem_cons.mpr ⟨lw_p7, List.forall_mem_cons.mpr ⟨lw_p8, List.forall_mem_cons.mpr ⟨lw_p9, List.forall_mem_cons.mpr ⟨lw_p10, List.forall_mem_cons.mpr ⟨lw_p11, List.forall_mem_cons.mpr ⟨lw_p12, List.forall_mem_cons.mpr ⟨lw_p13, List.forall_mem_cons.mpr ⟨lw_p14, List.forall_mem_cons.mpr ⟨lw_p15, fun _ h => absurd h List.not_mem_nil⟩⟩⟩⟩⟩⟩⟩⟩⟩⟩⟩⟩⟩⟩⟩⟩
theorem lw_p16 : lw_okq (⟨"VowelChoir", "wordsOf", "(I)I"⟩, 22) := ⟨⟨by decide +kernel, by decide +kernel⟩, lw_t1 (List.mem_of_getElem? (i := 56) rfl), lw_t4 (List.mem_of_getElem? (i := 66) rfl), lw_t4 (List.mem_of_getElem? (i := 67) rfl)⟩
theorem lw_p17 : lw_okq (⟨"VowelChoir", "kept", "([LVowelChoir$Choir;ILVowelChoir$Choir;)V"⟩, 22) := ⟨⟨by decide +kernel, by decide +kernel⟩, lw_t1 (List.mem_of_getElem? (i := 56) rfl), lw_t4 (List.mem_of_getElem? (i := 76) rfl), lw_t4 (List.mem_of_getElem? (i := 77) rfl)⟩
theorem lw_p18 : lw_okq (⟨"VowelChoir", "need", "(Z)V"⟩, 22) := ⟨⟨by decide +kernel, by decide +kernel⟩, lw_t1 (List.mem_of_getElem? (i := 56) rfl), lw_t4 (List.mem_of_getElem? (i := 104) rfl), lw_t4 (List.mem_of_getElem? (i := 105) rfl)⟩
theorem lw_p19 : lw_okq (⟨"VowelChoir$ChoirReader", "clause", "(Ljava/lang/String;)V"⟩, 6) := ⟨⟨by decide +kernel, by decide +kernel⟩, lw_t4 (List.mem_of_getElem? (i := 119) rfl), lw_t4 (List.mem_of_getElem? (i := 212) rfl), lw_t4 (List.mem_of_getElem? (i := 213) rfl)⟩
theorem lw_p20 : lw_okq (⟨"VowelChoir$ChoirReader", "isFull", "(Ljava/lang/String;)Z"⟩, 6) := ⟨⟨by decide +kernel, by decide +kernel⟩, lw_t4 (List.mem_of_getElem? (i := 119) rfl), lw_t5 (List.mem_of_getElem? (i := 83) rfl), lw_t5 (List.mem_of_getElem? (i := 84) rfl)⟩
theorem lw_p21 : lw_okq (⟨"java/util/ArrayList", "add", "(Ljava/lang/Object;[Ljava/lang/Object;I)V"⟩, 3) := ⟨⟨by decide +kernel, by decide +kernel⟩, lw_t1 (List.mem_of_getElem? (i := 70) rfl), lw_t5 (List.mem_of_getElem? (i := 126) rfl), lw_t5 (List.mem_of_getElem? (i := 127) rfl)⟩
theorem lw_p22 : lw_okq (⟨"java/util/ArrayList", "grow", "()[Ljava/lang/Object;"⟩, 3) := ⟨⟨by decide +kernel, by decide +kernel⟩, lw_t1 (List.mem_of_getElem? (i := 70) rfl), lw_t5 (List.mem_of_getElem? (i := 130) rfl), lw_t5 (List.mem_of_getElem? (i := 131) rfl)⟩
theorem lw_p23 : lw_okq (⟨"java/util/ArrayList", "grow", "(I)[Ljava/lang/Object;"⟩, 3) := ⟨⟨by decide +kernel, by decide +kernel⟩, lw_t1 (List.mem_of_getElem? (i := 70) rfl), lw_t5 (List.mem_of_getElem? (i := 134) rfl), lw_t5 (List.mem_of_getElem? (i := 135) rfl)⟩
theorem lw_p24 : lw_okq (⟨"VowelChoir", "failed", "(LVowelChoir$Wrong;)I"⟩, 22) := ⟨⟨by decide +kernel, by decide +kernel⟩, lw_t1 (List.mem_of_getElem? (i := 56) rfl), lw_t5 (List.mem_of_getElem? (i := 226) rfl), lw_t5 (List.mem_of_getElem? (i := 227) rfl)⟩
theorem lw_p25 : lw_okq (⟨"VowelChoir$LawReader", "sum", "()LVowelChoir$Term;"⟩, 5) := ⟨⟨by decide +kernel, by decide +kernel⟩, lw_t5 (List.mem_of_getElem? (i := 237) rfl), lw_t6 (List.mem_of_getElem? (i := 13) rfl), lw_t6 (List.mem_of_getElem? (i := 14) rfl)⟩
theorem lw_p26 : lw_okq (⟨"VowelChoir$LawReader", "product", "()LVowelChoir$Term;"⟩, 5) := ⟨⟨by decide +kernel, by decide +kernel⟩, lw_t5 (List.mem_of_getElem? (i := 237) rfl), lw_t6 (List.mem_of_getElem? (i := 17) rfl), lw_t6 (List.mem_of_getElem? (i := 18) rfl)⟩
theorem lw_p27 : lw_okq (⟨"VowelChoir$LawReader", "unit", "()LVowelChoir$Term;"⟩, 5) := ⟨⟨by decide +kernel, by decide +kernel⟩, lw_t5 (List.mem_of_getElem? (i := 237) rfl), lw_t6 (List.mem_of_getElem? (i := 21) rfl), lw_t6 (List.mem_of_getElem? (i := 22) rfl)⟩
theorem lw_p28 : lw_okq (⟨"VowelChoir$LawReader", "fact", "(Ljava/lang/String;I)LVowelChoir$Term;"⟩, 5) := ⟨⟨by decide +kernel, by decide +kernel⟩, lw_t5 (List.mem_of_getElem? (i := 237) rfl), lw_t6 (List.mem_of_getElem? (i := 65) rfl), lw_t6 (List.mem_of_getElem? (i := 66) rfl)⟩
theorem lw_p29 : lw_okq (⟨"VowelChoir$LawReader", "two", "(Ljava/lang/String;)LVowelChoir$Term;"⟩, 5) := ⟨⟨by decide +kernel, by decide +kernel⟩, lw_t5 (List.mem_of_getElem? (i := 237) rfl), lw_t6 (List.mem_of_getElem? (i := 72) rfl), lw_t6 (List.mem_of_getElem? (i := 73) rfl)⟩
theorem lw_p30 : lw_okq (⟨"VowelChoir$WorkReader", "step", "()LVowelChoir$Step;"⟩, 6) := ⟨⟨by decide +kernel, by decide +kernel⟩, lw_t6 (List.mem_of_getElem? (i := 156) rfl), lw_t6 (List.mem_of_getElem? (i := 180) rfl), lw_t6 (List.mem_of_getElem? (i := 181) rfl)⟩
theorem lw_p31 : lw_okq (⟨"VowelChoir$WorkReader", "act", "(Ljava/lang/String;)LVowelChoir$Step;"⟩, 6) := ⟨⟨by decide +kernel, by decide +kernel⟩, lw_t6 (List.mem_of_getElem? (i := 156) rfl), lw_t6 (List.mem_of_getElem? (i := 198) rfl), lw_t6 (List.mem_of_getElem? (i := 199) rfl)⟩
def lw_privs_2 : List (MethodName × Nat) := [(⟨"VowelChoir", "wordsOf", "(I)I"⟩, 22), (⟨"VowelChoir", "kept", "([LVowelChoir$Choir;ILVowelChoir$Choir;)V"⟩, 22), (⟨"VowelChoir", "need", "(Z)V"⟩, 22), (⟨"VowelChoir$ChoirReader", "clause", "(Ljava/lang/String;)V"⟩, 6), (⟨"VowelChoir$ChoirReader", "isFull", "(Ljava/lang/String;)Z"⟩, 6), (⟨"java/util/ArrayList", "add", "(Ljava/lang/Object;[Ljava/lang/Object;I)V"⟩, 3), (⟨"java/util/ArrayList", "grow", "()[Ljava/lang/Object;"⟩, 3), (⟨"java/util/ArrayList", "grow", "(I)[Ljava/lang/Object;"⟩, 3), (⟨"VowelChoir", "failed", "(LVowelChoir$Wrong;)I"⟩, 22), (⟨"VowelChoir$LawReader", "sum", "()LVowelChoir$Term;"⟩, 5), (⟨"VowelChoir$LawReader", "product", "()LVowelChoir$Term;"⟩, 5), (⟨"VowelChoir$LawReader", "unit", "()LVowelChoir$Term;"⟩, 5), (⟨"VowelChoir$LawReader", "fact", "(Ljava/lang/String;I)LVowelChoir$Term;"⟩, 5), (⟨"VowelChoir$LawReader", "two", "(Ljava/lang/String;)LVowelChoir$Term;"⟩, 5), (⟨"VowelChoir$WorkReader", "step", "()LVowelChoir$Step;"⟩, 6), (⟨"VowelChoir$WorkReader", "act", "(Ljava/lang/String;)LVowelChoir$Step;"⟩, 6)]
theorem lw_r2 : ∀ q ∈ lw_privs_2, lw_okq q := List.forall_mem_cons.mpr ⟨lw_p16, List.forall_mem_cons.mpr ⟨lw_p17, List.forall_mem_cons.mpr ⟨lw_p18, List.forall_mem_cons.mpr ⟨lw_p19, List.forall_mem_cons.mpr ⟨lw_p20, List.forall_mem_cons.mpr ⟨lw_p21, List.forall_mem_cons.mpr ⟨lw_p22, List.forall_mem_cons.mpr ⟨lw_p23, List.forall_mem_cons.mpr ⟨lw_p24, List.forall_mem_cons.mpr ⟨lw_p25, List.forall_mem_cons.mpr ⟨lw_p26, List.forall_mem_cons.mpr ⟨lw_p27, List.forall_mem_cons.mpr ⟨lw_p28, List.forall_mem_cons.mpr ⟨lw_p29, List.forall_mem_cons.mpr ⟨lw_p30, List.forall_mem_cons.mpr ⟨lw_p31, fun _ h => absurd h List.not_mem_nil⟩⟩⟩⟩⟩⟩⟩⟩⟩⟩⟩⟩⟩⟩⟩⟩
theorem lw_p32 : lw_okq (⟨"VowelChoir$WorkReader", "note", "()I"⟩, 6) := ⟨⟨by decide +kernel, by decide +kernel⟩, lw_t6 (List.mem_of_getElem? (i := 156) rfl), lw_t6 (List.mem_of_getElem? (i := 204) rfl), lw_t6 (List.mem_of_getElem? (i := 205) rfl)⟩
theorem lw_p33 : lw_okq (⟨"VowelChoir$WorkReader", "again", "()LVowelChoir$Step;"⟩, 6) := ⟨⟨by decide +kernel, by decide +kernel⟩, lw_t6 (List.mem_of_getElem? (i := 156) rfl), lw_t7 (List.mem_of_getElem? (i := 33) rfl), lw_t7 (List.mem_of_getElem? (i := 34) rfl)⟩
theorem lw_p34 : lw_okq (⟨"VowelChoir", "needSinger", "(I)V"⟩, 22) := ⟨⟨by decide +kernel, by decide +kernel⟩, lw_t1 (List.mem_of_getElem? (i := 56) rfl), lw_t7 (List.mem_of_getElem? (i := 204) rfl), lw_t7 (List.mem_of_getElem? (i := 205) rfl)⟩
theorem lw_p35 : lw_okq (⟨"VowelChoir", "needThere", "(II)V"⟩, 22) := ⟨⟨by decide +kernel, by decide +kernel⟩, lw_t1 (List.mem_of_getElem? (i := 56) rfl), lw_t7 (List.mem_of_getElem? (i := 208) rfl), lw_t7 (List.mem_of_getElem? (i := 209) rfl)⟩
theorem lw_p36 : lw_okq (⟨"VowelChoir", "needNote", "(I)V"⟩, 22) := ⟨⟨by decide +kernel, by decide +kernel⟩, lw_t1 (List.mem_of_getElem? (i := 56) rfl), lw_t7 (List.mem_of_getElem? (i := 234) rfl), lw_t7 (List.mem_of_getElem? (i := 235) rfl)⟩
theorem lw_p37 : lw_okq (⟨"VowelChoir", "layHeard", "()V"⟩, 22) := ⟨⟨by decide +kernel, by decide +kernel⟩, lw_t1 (List.mem_of_getElem? (i := 56) rfl), lw_t8 (List.mem_of_getElem? (i := 59) rfl), lw_t8 (List.mem_of_getElem? (i := 60) rfl)⟩
theorem lw_p38 : lw_okq (⟨"VowelChoir", "isWho", "(I)Z"⟩, 22) := ⟨⟨by decide +kernel, by decide +kernel⟩, lw_t1 (List.mem_of_getElem? (i := 56) rfl), lw_t8 (List.mem_of_getElem? (i := 63) rfl), lw_t8 (List.mem_of_getElem? (i := 64) rfl)⟩
theorem lw_p39 : lw_okq (⟨"VowelChoir", "worstBy", "(I)I"⟩, 22) := ⟨⟨by decide +kernel, by decide +kernel⟩, lw_t1 (List.mem_of_getElem? (i := 56) rfl), lw_t8 (List.mem_of_getElem? (i := 74) rfl), lw_t8 (List.mem_of_getElem? (i := 75) rfl)⟩
theorem lw_p40 : lw_okq (⟨"VowelChoir", "rented", "(II)I"⟩, 22) := ⟨⟨by decide +kernel, by decide +kernel⟩, lw_t1 (List.mem_of_getElem? (i := 56) rfl), lw_t8 (List.mem_of_getElem? (i := 124) rfl), lw_t8 (List.mem_of_getElem? (i := 125) rfl)⟩
theorem lw_p41 : lw_okq (⟨"VowelChoir", "sundayBy", "(III)LVowelChoir$Choir;"⟩, 22) := ⟨⟨by decide +kernel, by decide +kernel⟩, lw_t1 (List.mem_of_getElem? (i := 56) rfl), lw_t8 (List.mem_of_getElem? (i := 210) rfl), lw_t8 (List.mem_of_getElem? (i := 211) rfl)⟩
theorem lw_p42 : lw_okq (⟨"VowelChoir", "draw", "(I)I"⟩, 22) := ⟨⟨by decide +kernel, by decide +kernel⟩, lw_t1 (List.mem_of_getElem? (i := 56) rfl), lw_t8 (List.mem_of_getElem? (i := 214) rfl), lw_t8 (List.mem_of_getElem? (i := 215) rfl)⟩
theorem lw_p43 : lw_okq (⟨"VowelChoirModel", "tellsNothing", "()V"⟩, 46) := ⟨⟨by decide +kernel, by decide +kernel⟩, lw_t8 (List.mem_of_getElem? (i := 228) rfl), lw_t8 (List.mem_of_getElem? (i := 236) rfl), lw_t8 (List.mem_of_getElem? (i := 237) rfl)⟩
theorem lw_p44 : lw_okq (⟨"VowelChoirModel", "beginsAnew", "()V"⟩, 46) := ⟨⟨by decide +kernel, by decide +kernel⟩, lw_t8 (List.mem_of_getElem? (i := 228) rfl), lw_t9 (List.mem_of_getElem? (i := 0) rfl), lw_t9 (List.mem_of_getElem? (i := 1) rfl)⟩
theorem lw_p45 : lw_okq (⟨"VowelChoirModel", "breathes", "([I)V"⟩, 46) := ⟨⟨by decide +kernel, by decide +kernel⟩, lw_t8 (List.mem_of_getElem? (i := 228) rfl), lw_t9 (List.mem_of_getElem? (i := 7) rfl), lw_t9 (List.mem_of_getElem? (i := 8) rfl)⟩
theorem lw_p46 : lw_okq (⟨"VowelChoirModel", "bad", "(ZII)Z"⟩, 46) := ⟨⟨by decide +kernel, by decide +kernel⟩, lw_t8 (List.mem_of_getElem? (i := 228) rfl), lw_t9 (List.mem_of_getElem? (i := 166) rfl), lw_t9 (List.mem_of_getElem? (i := 167) rfl)⟩
theorem lw_p47 : lw_okq (⟨"VowelChoirModel", "starts", "(I)V"⟩, 46) := ⟨⟨by decide +kernel, by decide +kernel⟩, lw_t8 (List.mem_of_getElem? (i := 228) rfl), lw_t9 (List.mem_of_getElem? (i := 170) rfl), lw_t9 (List.mem_of_getElem? (i := 171) rfl)⟩
def lw_privs_3 : List (MethodName × Nat) := [(⟨"VowelChoir$WorkReader", "note", "()I"⟩, 6), (⟨"VowelChoir$WorkReader", "again", "()LVowelChoir$Step;"⟩, 6), (⟨"VowelChoir", "needSinger", "(I)V"⟩, 22), (⟨"VowelChoir", "needThere", "(II)V"⟩, 22), (⟨"VowelChoir", "needNote", "(I)V"⟩, 22), (⟨"VowelChoir", "layHeard", "()V"⟩, 22), (⟨"VowelChoir", "isWho", "(I)Z"⟩, 22), (⟨"VowelChoir", "worstBy", "(I)I"⟩, 22), (⟨"VowelChoir", "rented", "(II)I"⟩, 22), (⟨"VowelChoir", "sundayBy", "(III)LVowelChoir$Choir;"⟩, 22), (⟨"VowelChoir", "draw", "(I)I"⟩, 22), (⟨"VowelChoirModel", "tellsNothing", "()V"⟩, 46), (⟨"VowelChoirModel", "beginsAnew", "()V"⟩, 46), (⟨"VowelChoirModel", "breathes", "([I)V"⟩, 46), (⟨"VowelChoirModel", "bad", "(ZII)Z"⟩, 46), (⟨"VowelChoirModel", "starts", "(I)V"⟩, 46)]
theorem lw_r3 : ∀ q ∈ lw_privs_3, lw_okq q := List.forall_mem_cons.mpr ⟨lw_p32, List.forall_mem_cons.mpr ⟨lw_p33, List.forall_mem_cons.mpr ⟨lw_p34, List.forall_mem_cons.mpr ⟨lw_p35, List.forall_mem_cons.mpr ⟨lw_p36, List.forall_mem_cons.mpr ⟨lw_p37, List.forall_mem_cons.mpr ⟨lw_p38, List.forall_mem_cons.mpr ⟨lw_p39, List.forall_mem_cons.mpr ⟨lw_p40, List.forall_mem_cons.mpr ⟨lw_p41, List.forall_mem_cons.mpr ⟨lw_p42, List.forall_mem_cons.mpr ⟨lw_p43, List.forall_mem_cons.mpr ⟨lw_p44, List.forall_mem_cons.mpr ⟨lw_p45, List.forall_mem_cons.mpr ⟨lw_p46, List.forall_mem_cons.mpr ⟨lw_p47, fun _ h => absurd h List.not_mem_nil⟩⟩⟩⟩⟩⟩⟩⟩⟩⟩⟩⟩⟩⟩⟩⟩
theorem lw_p48 : lw_okq (⟨"VowelChoirModel", "blanks", "()V"⟩, 46) := ⟨⟨by decide +kernel, by decide +kernel⟩, lw_t8 (List.mem_of_getElem? (i := 228) rfl), lw_t9 (List.mem_of_getElem? (i := 174) rfl), lw_t9 (List.mem_of_getElem? (i := 175) rfl)⟩
theorem lw_p49 : lw_okq (⟨"VowelChoirModel", "byteAt", "(I)I"⟩, 46) := ⟨⟨by decide +kernel, by decide +kernel⟩, lw_t8 (List.mem_of_getElem? (i := 228) rfl), lw_t9 (List.mem_of_getElem? (i := 178) rfl), lw_t9 (List.mem_of_getElem? (i := 179) rfl)⟩
theorem lw_p50 : lw_okq (⟨"VowelChoirModel", "clause", "()V"⟩, 46) := ⟨⟨by decide +kernel, by decide +kernel⟩, lw_t8 (List.mem_of_getElem? (i := 228) rfl), lw_t9 (List.mem_of_getElem? (i := 182) rfl), lw_t9 (List.mem_of_getElem? (i := 183) rfl)⟩
theorem lw_p51 : lw_okq (⟨"VowelChoirModel", "kindHere", "()I"⟩, 46) := ⟨⟨by decide +kernel, by decide +kernel⟩, lw_t8 (List.mem_of_getElem? (i := 228) rfl), lw_t9 (List.mem_of_getElem? (i := 186) rfl), lw_t9 (List.mem_of_getElem? (i := 187) rfl)⟩
theorem lw_p52 : lw_okq (⟨"VowelChoirModel", "isWord", "(IIIIII)Z"⟩, 46) := ⟨⟨by decide +kernel, by decide +kernel⟩, lw_t8 (List.mem_of_getElem? (i := 228) rfl), lw_t9 (List.mem_of_getElem? (i := 190) rfl), lw_t9 (List.mem_of_getElem? (i := 191) rfl)⟩
theorem lw_p53 : lw_okq (⟨"VowelChoirModel", "wordHere", "()I"⟩, 46) := ⟨⟨by decide +kernel, by decide +kernel⟩, lw_t8 (List.mem_of_getElem? (i := 228) rfl), lw_t9 (List.mem_of_getElem? (i := 194) rfl), lw_t9 (List.mem_of_getElem? (i := 195) rfl)⟩
theorem lw_p54 : lw_okq (⟨"VowelChoirModel", "wrong", "(II)V"⟩, 46) := ⟨⟨by decide +kernel, by decide +kernel⟩, lw_t8 (List.mem_of_getElem? (i := 228) rfl), lw_t9 (List.mem_of_getElem? (i := 204) rfl), lw_t9 (List.mem_of_getElem? (i := 205) rfl)⟩
theorem lw_p55 : lw_okq (⟨"VowelChoirModel", "skipWord", "()V"⟩, 46) := ⟨⟨by decide +kernel, by decide +kernel⟩, lw_t8 (List.mem_of_getElem? (i := 228) rfl), lw_t9 (List.mem_of_getElem? (i := 211) rfl), lw_t9 (List.mem_of_getElem? (i := 212) rfl)⟩
theorem lw_p56 : lw_okq (⟨"VowelChoirModel", "number", "(II)I"⟩, 46) := ⟨⟨by decide +kernel, by decide +kernel⟩, lw_t8 (List.mem_of_getElem? (i := 228) rfl), lw_t9 (List.mem_of_getElem? (i := 215) rfl), lw_t9 (List.mem_of_getElem? (i := 216) rfl)⟩
theorem lw_p57 : lw_okq (⟨"VowelChoirModel", "sign", "(I)V"⟩, 46) := ⟨⟨by decide +kernel, by decide +kernel⟩, lw_t8 (List.mem_of_getElem? (i := 228) rfl), lw_t9 (List.mem_of_getElem? (i := 223) rfl), lw_t9 (List.mem_of_getElem? (i := 224) rfl)⟩
theorem lw_p58 : lw_okq (⟨"VowelChoirModel", "ends", "()I"⟩, 46) := ⟨⟨by decide +kernel, by decide +kernel⟩, lw_t8 (List.mem_of_getElem? (i := 228) rfl), lw_t9 (List.mem_of_getElem? (i := 227) rfl), lw_t9 (List.mem_of_getElem? (i := 228) rfl)⟩
theorem lw_p59 : lw_okq (⟨"VowelChoirModel", "sum", "()V"⟩, 46) := ⟨⟨by decide +kernel, by decide +kernel⟩, lw_t8 (List.mem_of_getElem? (i := 228) rfl), lw_t9 (List.mem_of_getElem? (i := 235) rfl), lw_t9 (List.mem_of_getElem? (i := 236) rfl)⟩
theorem lw_p60 : lw_okq (⟨"VowelChoirModel", "product", "()V"⟩, 46) := ⟨⟨by decide +kernel, by decide +kernel⟩, lw_t8 (List.mem_of_getElem? (i := 228) rfl), lw_t9 (List.mem_of_getElem? (i := 239) rfl), lw_t10 (List.mem_of_getElem? (i := 0) rfl)⟩
theorem lw_p61 : lw_okq (⟨"VowelChoirModel", "one", "()V"⟩, 46) := ⟨⟨by decide +kernel, by decide +kernel⟩, lw_t8 (List.mem_of_getElem? (i := 228) rfl), lw_t10 (List.mem_of_getElem? (i := 3) rfl), lw_t10 (List.mem_of_getElem? (i := 4) rfl)⟩
theorem lw_p62 : lw_okq (⟨"VowelChoirModel", "opensOne", "()Z"⟩, 46) := ⟨⟨by decide +kernel, by decide +kernel⟩, lw_t8 (List.mem_of_getElem? (i := 228) rfl), lw_t10 (List.mem_of_getElem? (i := 7) rfl), lw_t10 (List.mem_of_getElem? (i := 8) rfl)⟩
theorem lw_p63 : lw_okq (⟨"VowelChoirModel", "notes", "(II)V"⟩, 46) := ⟨⟨by decide +kernel, by decide +kernel⟩, lw_t8 (List.mem_of_getElem? (i := 228) rfl), lw_t10 (List.mem_of_getElem? (i := 11) rfl), lw_t10 (List.mem_of_getElem? (i := 12) rfl)⟩
def lw_privs_4 : List (MethodName × Nat) := [(⟨"VowelChoirModel", "blanks", "()V"⟩, 46), (⟨"VowelChoirModel", "byteAt", "(I)I"⟩, 46), (⟨"VowelChoirModel", "clause", "()V"⟩, 46), (⟨"VowelChoirModel", "kindHere", "()I"⟩, 46), (⟨"VowelChoirModel", "isWord", "(IIIIII)Z"⟩, 46), (⟨"VowelChoirModel", "wordHere", "()I"⟩, 46), (⟨"VowelChoirModel", "wrong", "(II)V"⟩, 46), (⟨"VowelChoirModel", "skipWord", "()V"⟩, 46), (⟨"VowelChoirModel", "number", "(II)I"⟩, 46), (⟨"VowelChoirModel", "sign", "(I)V"⟩, 46), (⟨"VowelChoirModel", "ends", "()I"⟩, 46), (⟨"VowelChoirModel", "sum", "()V"⟩, 46), (⟨"VowelChoirModel", "product", "()V"⟩, 46), (⟨"VowelChoirModel", "one", "()V"⟩, 46), (⟨"VowelChoirModel", "opensOne", "()Z"⟩, 46), (⟨"VowelChoirModel", "notes", "(II)V"⟩, 46)]
theorem lw_r4 : ∀ q ∈ lw_privs_4, lw_okq q := List.forall_mem_cons.mpr ⟨lw_p48, List.forall_mem_cons.mpr ⟨lw_p49, List.forall_mem_cons.mpr ⟨lw_p50, List.forall_mem_cons.mpr ⟨lw_p51, List.forall_mem_cons.mpr ⟨lw_p52, List.forall_mem_cons.mpr ⟨lw_p53, List.forall_mem_cons.mpr ⟨lw_p54, List.forall_mem_cons.mpr ⟨lw_p55, List.forall_mem_cons.mpr ⟨lw_p56, List.forall_mem_cons.mpr ⟨lw_p57, List.forall_mem_cons.mpr ⟨lw_p58, List.forall_mem_cons.mpr ⟨lw_p59, List.forall_mem_cons.mpr ⟨lw_p60, List.forall_mem_cons.mpr ⟨lw_p61, List.forall_mem_cons.mpr ⟨lw_p62, List.forall_mem_cons.mpr ⟨lw_p63, fun _ h => absurd h List.not_mem_nil⟩⟩⟩⟩⟩⟩⟩⟩⟩⟩⟩⟩⟩⟩⟩⟩
theorem lw_p64 : lw_okq (⟨"VowelChoirModel", "knownHere", "()I"⟩, 46) := ⟨⟨by decide +kernel, by decide +kernel⟩, lw_t8 (List.mem_of_getElem? (i := 228) rfl), lw_t10 (List.mem_of_getElem? (i := 15) rfl), lw_t10 (List.mem_of_getElem? (i := 16) rfl)⟩
theorem lw_p65 : lw_okq (⟨"VowelChoirModel", "isNext", "(IIIIII)Z"⟩, 46) := ⟨⟨by decide +kernel, by decide +kernel⟩, lw_t8 (List.mem_of_getElem? (i := 228) rfl), lw_t10 (List.mem_of_getElem? (i := 19) rfl), lw_t10 (List.mem_of_getElem? (i := 20) rfl)⟩
theorem lw_p66 : lw_okq (⟨"VowelChoirModel", "takesSign", "(I)Z"⟩, 46) := ⟨⟨by decide +kernel, by decide +kernel⟩, lw_t8 (List.mem_of_getElem? (i := 228) rfl), lw_t10 (List.mem_of_getElem? (i := 23) rfl), lw_t10 (List.mem_of_getElem? (i := 24) rfl)⟩
theorem lw_p67 : lw_okq (⟨"VowelChoirModel", "readsStep", "()V"⟩, 46) := ⟨⟨by decide +kernel, by decide +kernel⟩, lw_t8 (List.mem_of_getElem? (i := 228) rfl), lw_t10 (List.mem_of_getElem? (i := 42) rfl), lw_t10 (List.mem_of_getElem? (i := 43) rfl)⟩
theorem lw_p68 : lw_okq (⟨"VowelChoirModel", "stepHere", "()I"⟩, 46) := ⟨⟨by decide +kernel, by decide +kernel⟩, lw_t8 (List.mem_of_getElem? (i := 228) rfl), lw_t10 (List.mem_of_getElem? (i := 46) rfl), lw_t10 (List.mem_of_getElem? (i := 47) rfl)⟩
theorem lw_p69 : lw_okq (⟨"VowelChoirModel", "goes", "(II)V"⟩, 46) := ⟨⟨by decide +kernel, by decide +kernel⟩, lw_t8 (List.mem_of_getElem? (i := 228) rfl), lw_t10 (List.mem_of_getElem? (i := 53) rfl), lw_t10 (List.mem_of_getElem? (i := 54) rfl)⟩
theorem lw_p70 : lw_okq (⟨"VowelChoirModel", "does", "([I[I)Z"⟩, 46) := ⟨⟨by decide +kernel, by decide +kernel⟩, lw_t8 (List.mem_of_getElem? (i := 228) rfl), lw_t10 (List.mem_of_getElem? (i := 57) rfl), lw_t10 (List.mem_of_getElem? (i := 58) rfl)⟩
theorem lw_p71 : lw_okq (⟨"VowelChoirModel", "sings", "([II)Z"⟩, 46) := ⟨⟨by decide +kernel, by decide +kernel⟩, lw_t8 (List.mem_of_getElem? (i := 228) rfl), lw_t10 (List.mem_of_getElem? (i := 61) rfl), lw_t10 (List.mem_of_getElem? (i := 62) rfl)⟩
theorem lw_p72 : lw_okq (⟨"VowelChoirModel", "sungBy", "([II)I"⟩, 46) := ⟨⟨by decide +kernel, by decide +kernel⟩, lw_t8 (List.mem_of_getElem? (i := 228) rfl), lw_t10 (List.mem_of_getElem? (i := 65) rfl), lw_t10 (List.mem_of_getElem? (i := 66) rfl)⟩
theorem lw_p73 : lw_okq (⟨"VowelChoirModel", "breathOf", "([III)I"⟩, 46) := ⟨⟨by decide +kernel, by decide +kernel⟩, lw_t8 (List.mem_of_getElem? (i := 228) rfl), lw_t10 (List.mem_of_getElem? (i := 69) rfl), lw_t10 (List.mem_of_getElem? (i := 70) rfl)⟩
theorem lw_p74 : lw_okq (⟨"VowelChoirModel", "breathBy", "(IIIIIIII)I"⟩, 46) := ⟨⟨by decide +kernel, by decide +kernel⟩, lw_t8 (List.mem_of_getElem? (i := 228) rfl), lw_t10 (List.mem_of_getElem? (i := 73) rfl), lw_t10 (List.mem_of_getElem? (i := 74) rfl)⟩
theorem lw_p75 : lw_okq (⟨"VowelChoirModel", "byLaw", "()I"⟩, 46) := ⟨⟨by decide +kernel, by decide +kernel⟩, lw_t8 (List.mem_of_getElem? (i := 228) rfl), lw_t10 (List.mem_of_getElem? (i := 77) rfl), lw_t10 (List.mem_of_getElem? (i := 78) rfl)⟩
theorem lw_p76 : lw_okq (⟨"VowelChoirModel", "hymns", "([I)V"⟩, 46) := ⟨⟨by decide +kernel, by decide +kernel⟩, lw_t8 (List.mem_of_getElem? (i := 228) rfl), lw_t10 (List.mem_of_getElem? (i := 90) rfl), lw_t10 (List.mem_of_getElem? (i := 91) rfl)⟩
theorem lw_p77 : lw_okq (⟨"VowelChoirModel", "rests", "([I)Z"⟩, 46) := ⟨⟨by decide +kernel, by decide +kernel⟩, lw_t8 (List.mem_of_getElem? (i := 228) rfl), lw_t10 (List.mem_of_getElem? (i := 94) rfl), lw_t10 (List.mem_of_getElem? (i := 95) rfl)⟩
theorem lw_p78 : lw_okq (⟨"VowelChoirModel", "wordsOf", "(I)I"⟩, 46) := ⟨⟨by decide +kernel, by decide +kernel⟩, lw_t8 (List.mem_of_getElem? (i := 228) rfl), lw_t10 (List.mem_of_getElem? (i := 101) rfl), lw_t10 (List.mem_of_getElem? (i := 102) rfl)⟩
theorem lw_p79 : lw_okq (⟨"VowelChoirModel", "dayEnds", "([I)V"⟩, 46) := ⟨⟨by decide +kernel, by decide +kernel⟩, lw_t8 (List.mem_of_getElem? (i := 228) rfl), lw_t10 (List.mem_of_getElem? (i := 105) rfl), lw_t10 (List.mem_of_getElem? (i := 106) rfl)⟩
def lw_privs_5 : List (MethodName × Nat) := [(⟨"VowelChoirModel", "knownHere", "()I"⟩, 46), (⟨"VowelChoirModel", "isNext", "(IIIIII)Z"⟩, 46), (⟨"VowelChoirModel", "takesSign", "(I)Z"⟩, 46), (⟨"VowelChoirModel", "readsStep", "()V"⟩, 46), (⟨"VowelChoirModel", "stepHere", "()I"⟩, 46), (⟨"VowelChoirModel", "goes", "(II)V"⟩, 46), (⟨"VowelChoirModel", "does", "([I[I)Z"⟩, 46), (⟨"VowelChoirModel", "sings", "([II)Z"⟩, 46), (⟨"VowelChoirModel", "sungBy", "([II)I"⟩, 46), (⟨"VowelChoirModel", "breathOf", "([III)I"⟩, 46), (⟨"VowelChoirModel", "breathBy", "(IIIIIIII)I"⟩, 46), (⟨"VowelChoirModel", "byLaw", "()I"⟩, 46), (⟨"VowelChoirModel", "hymns", "([I)V"⟩, 46), (⟨"VowelChoirModel", "rests", "([I)Z"⟩, 46), (⟨"VowelChoirModel", "wordsOf", "(I)I"⟩, 46), (⟨"VowelChoirModel", "dayEnds", "([I)V"⟩, 46)]
theorem lw_r5 : ∀ q ∈ lw_privs_5, lw_okq q := List.forall_mem_cons.mpr ⟨lw_p64, List.forall_mem_cons.mpr ⟨lw_p65, List.forall_mem_cons.mpr ⟨lw_p66, List.forall_mem_cons.mpr ⟨lw_p67, List.forall_mem_cons.mpr ⟨lw_p68, List.forall_mem_cons.mpr ⟨lw_p69, List.forall_mem_cons.mpr ⟨lw_p70, List.forall_mem_cons.mpr ⟨lw_p71, List.forall_mem_cons.mpr ⟨lw_p72, List.forall_mem_cons.mpr ⟨lw_p73, List.forall_mem_cons.mpr ⟨lw_p74, List.forall_mem_cons.mpr ⟨lw_p75, List.forall_mem_cons.mpr ⟨lw_p76, List.forall_mem_cons.mpr ⟨lw_p77, List.forall_mem_cons.mpr ⟨lw_p78, List.forall_mem_cons.mpr ⟨lw_p79, fun _ h => absurd h List.not_mem_nil⟩⟩⟩⟩⟩⟩⟩⟩⟩⟩⟩⟩⟩⟩⟩⟩
theorem lw_p80 : lw_okq (⟨"VowelChoirModel", "hoarse", "([I)I"⟩, 46) := ⟨⟨by decide +kernel, by decide +kernel⟩, lw_t8 (List.mem_of_getElem? (i := 228) rfl), lw_t10 (List.mem_of_getElem? (i := 117) rfl), lw_t10 (List.mem_of_getElem? (i := 118) rfl)⟩
theorem lw_p81 : lw_okq (⟨"VowelChoirModel", "all", "([II)I"⟩, 46) := ⟨⟨by decide +kernel, by decide +kernel⟩, lw_t8 (List.mem_of_getElem? (i := 228) rfl), lw_t10 (List.mem_of_getElem? (i := 121) rfl), lw_t10 (List.mem_of_getElem? (i := 122) rfl)⟩
theorem lw_p82 : lw_okq (⟨"VowelChoirModel", "isSinger", "(I)Z"⟩, 46) := ⟨⟨by decide +kernel, by decide +kernel⟩, lw_t8 (List.mem_of_getElem? (i := 228) rfl), lw_t10 (List.mem_of_getElem? (i := 129) rfl), lw_t10 (List.mem_of_getElem? (i := 130) rfl)⟩
theorem lw_p83 : lw_okq (⟨"VowelChoirModel", "isNote", "(I)Z"⟩, 46) := ⟨⟨by decide +kernel, by decide +kernel⟩, lw_t8 (List.mem_of_getElem? (i := 228) rfl), lw_t10 (List.mem_of_getElem? (i := 137) rfl), lw_t10 (List.mem_of_getElem? (i := 138) rfl)⟩
theorem lw_p84 : lw_okq (⟨"VowelChoirModel", "everySinger", "()I"⟩, 46) := ⟨⟨by decide +kernel, by decide +kernel⟩, lw_t8 (List.mem_of_getElem? (i := 228) rfl), lw_t10 (List.mem_of_getElem? (i := 164) rfl), lw_t10 (List.mem_of_getElem? (i := 165) rfl)⟩
theorem lw_p85 : lw_okq (⟨"VowelChoirModel", "payOf", "(I)I"⟩, 46) := ⟨⟨by decide +kernel, by decide +kernel⟩, lw_t8 (List.mem_of_getElem? (i := 228) rfl), lw_t10 (List.mem_of_getElem? (i := 171) rfl), lw_t10 (List.mem_of_getElem? (i := 172) rfl)⟩
theorem lw_p86 : lw_okq (⟨"VowelChoirModel", "onlyThese", "(I)V"⟩, 46) := ⟨⟨by decide +kernel, by decide +kernel⟩, lw_t8 (List.mem_of_getElem? (i := 228) rfl), lw_t10 (List.mem_of_getElem? (i := 175) rfl), lw_t10 (List.mem_of_getElem? (i := 176) rfl)⟩
theorem lw_p87 : lw_okq (⟨"VowelChoirModel", "handedOf", "(II)I"⟩, 46) := ⟨⟨by decide +kernel, by decide +kernel⟩, lw_t8 (List.mem_of_getElem? (i := 228) rfl), lw_t10 (List.mem_of_getElem? (i := 183) rfl), lw_t10 (List.mem_of_getElem? (i := 184) rfl)⟩
theorem lw_p88 : lw_okq (⟨"VowelChoirModel", "laysBench", "()V"⟩, 46) := ⟨⟨by decide +kernel, by decide +kernel⟩, lw_t8 (List.mem_of_getElem? (i := 228) rfl), lw_t10 (List.mem_of_getElem? (i := 191) rfl), lw_t10 (List.mem_of_getElem? (i := 192) rfl)⟩
theorem lw_p89 : lw_okq (⟨"VowelChoirModel", "benches", "(III)V"⟩, 46) := ⟨⟨by decide +kernel, by decide +kernel⟩, lw_t8 (List.mem_of_getElem? (i := 228) rfl), lw_t10 (List.mem_of_getElem? (i := 195) rfl), lw_t10 (List.mem_of_getElem? (i := 196) rfl)⟩
theorem lw_p90 : lw_okq (⟨"VowelChoirModel", "isHeard", "(I)Z"⟩, 46) := ⟨⟨by decide +kernel, by decide +kernel⟩, lw_t8 (List.mem_of_getElem? (i := 228) rfl), lw_t10 (List.mem_of_getElem? (i := 215) rfl), lw_t10 (List.mem_of_getElem? (i := 216) rfl)⟩
theorem lw_p91 : lw_okq (⟨"VowelChoirModel", "isTold", "(I)Z"⟩, 46) := ⟨⟨by decide +kernel, by decide +kernel⟩, lw_t8 (List.mem_of_getElem? (i := 228) rfl), lw_t10 (List.mem_of_getElem? (i := 223) rfl), lw_t10 (List.mem_of_getElem? (i := 224) rfl)⟩
theorem lw_p92 : lw_okq (⟨"VowelChoirModel", "worstOf", "(I)I"⟩, 46) := ⟨⟨by decide +kernel, by decide +kernel⟩, lw_t8 (List.mem_of_getElem? (i := 228) rfl), lw_t10 (List.mem_of_getElem? (i := 227) rfl), lw_t10 (List.mem_of_getElem? (i := 228) rfl)⟩
theorem lw_p93 : lw_okq (⟨"VowelChoirModel", "givenBy", "(II)I"⟩, 46) := ⟨⟨by decide +kernel, by decide +kernel⟩, lw_t8 (List.mem_of_getElem? (i := 228) rfl), lw_t11 (List.mem_of_getElem? (i := 17) rfl), lw_t11 (List.mem_of_getElem? (i := 18) rfl)⟩
theorem lw_p94 : lw_okq (⟨"VowelChoirModel", "sundayBy", "(III)V"⟩, 46) := ⟨⟨by decide +kernel, by decide +kernel⟩, lw_t8 (List.mem_of_getElem? (i := 228) rfl), lw_t11 (List.mem_of_getElem? (i := 72) rfl), lw_t11 (List.mem_of_getElem? (i := 73) rfl)⟩
theorem lw_p95 : lw_okq (⟨"VowelChoirModel", "draw", "(I)I"⟩, 46) := ⟨⟨by decide +kernel, by decide +kernel⟩, lw_t8 (List.mem_of_getElem? (i := 228) rfl), lw_t11 (List.mem_of_getElem? (i := 76) rfl), lw_t11 (List.mem_of_getElem? (i := 77) rfl)⟩
def lw_privs_6 : List (MethodName × Nat) := [(⟨"VowelChoirModel", "hoarse", "([I)I"⟩, 46), (⟨"VowelChoirModel", "all", "([II)I"⟩, 46), (⟨"VowelChoirModel", "isSinger", "(I)Z"⟩, 46), (⟨"VowelChoirModel", "isNote", "(I)Z"⟩, 46), (⟨"VowelChoirModel", "everySinger", "()I"⟩, 46), (⟨"VowelChoirModel", "payOf", "(I)I"⟩, 46), (⟨"VowelChoirModel", "onlyThese", "(I)V"⟩, 46), (⟨"VowelChoirModel", "handedOf", "(II)I"⟩, 46), (⟨"VowelChoirModel", "laysBench", "()V"⟩, 46), (⟨"VowelChoirModel", "benches", "(III)V"⟩, 46), (⟨"VowelChoirModel", "isHeard", "(I)Z"⟩, 46), (⟨"VowelChoirModel", "isTold", "(I)Z"⟩, 46), (⟨"VowelChoirModel", "worstOf", "(I)I"⟩, 46), (⟨"VowelChoirModel", "givenBy", "(II)I"⟩, 46), (⟨"VowelChoirModel", "sundayBy", "(III)V"⟩, 46), (⟨"VowelChoirModel", "draw", "(I)I"⟩, 46)]
theorem lw_r6 : ∀ q ∈ lw_privs_6, lw_okq q := List.forall_mem_cons.mpr ⟨lw_p80, List.forall_mem_cons.mpr ⟨lw_p81, List.forall_mem_cons.mpr ⟨lw_p82, List.forall_mem_cons.mpr ⟨lw_p83, List.forall_mem_cons.mpr ⟨lw_p84, List.forall_mem_cons.mpr ⟨lw_p85, List.forall_mem_cons.mpr ⟨lw_p86, List.forall_mem_cons.mpr ⟨lw_p87, List.forall_mem_cons.mpr ⟨lw_p88, List.forall_mem_cons.mpr ⟨lw_p89, List.forall_mem_cons.mpr ⟨lw_p90, List.forall_mem_cons.mpr ⟨lw_p91, List.forall_mem_cons.mpr ⟨lw_p92, List.forall_mem_cons.mpr ⟨lw_p93, List.forall_mem_cons.mpr ⟨lw_p94, List.forall_mem_cons.mpr ⟨lw_p95, fun _ h => absurd h List.not_mem_nil⟩⟩⟩⟩⟩⟩⟩⟩⟩⟩⟩⟩⟩⟩⟩⟩
theorem lw_p96 : lw_okq (⟨"VowelChoirModel", "putsAll", "([IZ)V"⟩, 46) := ⟨⟨by decide +kernel, by decide +kernel⟩, lw_t8 (List.mem_of_getElem? (i := 228) rfl), lw_t11 (List.mem_of_getElem? (i := 89) rfl), lw_t11 (List.mem_of_getElem? (i := 90) rfl)⟩
theorem lw_p97 : lw_okq (⟨"VowelChoirModel", "puts", "([IIZ)I"⟩, 46) := ⟨⟨by decide +kernel, by decide +kernel⟩, lw_t8 (List.mem_of_getElem? (i := 228) rfl), lw_t11 (List.mem_of_getElem? (i := 93) rfl), lw_t11 (List.mem_of_getElem? (i := 94) rfl)⟩
def lw_privs_7 : List (MethodName × Nat) := [(⟨"VowelChoirModel", "putsAll", "([IZ)V"⟩, 46), (⟨"VowelChoirModel", "puts", "([IIZ)I"⟩, 46)]
theorem lw_r7 : ∀ q ∈ lw_privs_7, lw_okq q := List.forall_mem_cons.mpr ⟨lw_p96, List.forall_mem_cons.mpr ⟨lw_p97, fun _ h => absurd h List.not_mem_nil⟩⟩
def lw_privs : List (MethodName × Nat) := lw_privs_1 ++ (lw_privs_2 ++ (lw_privs_3 ++ (lw_privs_4 ++ (lw_privs_5 ++ (lw_privs_6 ++ (lw_privs_7))))))
def lw_tbl : List Cond := k2_sels lw_privs ++ tables_1
theorem lw_privs_ok : ∀ q ∈ lw_privs, lw_okq q := by
  show ∀ q ∈ lw_privs_1 ++ (lw_privs_2 ++ (lw_privs_3 ++ (lw_privs_4 ++ (lw_privs_5 ++ (lw_privs_6 ++ (lw_privs_7)))))), lw_okq q
  exact List.forall_mem_append.mpr ⟨lw_r1, List.forall_mem_append.mpr ⟨lw_r2, List.forall_mem_append.mpr ⟨lw_r3, List.forall_mem_append.mpr ⟨lw_r4, List.forall_mem_append.mpr ⟨lw_r5, List.forall_mem_append.mpr ⟨lw_r6, lw_r7⟩⟩⟩⟩⟩⟩
-- ===== ONE list of words for every method: the tables' words that hold all through a run =====
def lw_all : List Cond := lw_tbl.filter goodWord
/-- a word of the tables by its place: claim/WORDS.tsv -/
theorem lw_w {w : Cond} (i : Nat) (h : lw_tbl[i]? = some w) (g : goodWord w = true) : w ∈ lw_all := List.mem_filter.mpr ⟨List.mem_of_getElem? h, g⟩
theorem lw_all_tbl {w : Cond} (h : w ∈ lw_all) : w ∈ lw_tbl := (List.mem_filter.mp h).1
theorem lw_self : GoodIn lw_all lw_all := fun w h => ⟨h, good_of_word (List.mem_filter.mp h).2⟩
/-- a class's field words, by their places -/
theorem lw_in (ws : List Cond) (ps : List Nat) (hp : ws = ps.filterMap (fun i => lw_tbl[i]?)) (hg : ws.all goodWord = true) : ∀ w ∈ ws, w ∈ lw_all := by
  intro w h
  have h1 := List.all_eq_true.mp hg w h
  rw [hp] at h
  obtain ⟨i, -, hi⟩ := List.mem_filterMap.mp h
  exact lw_w i hi h1
/-- the words of a contract for the method y with code b, L locals, answer r -/
abbrev ws_ (y : MethodName) (b : ByteArray) (L : Nat) (r : Option FieldType) : List Cond := Cond.code y b L r :: lw_all
theorem lw_meth {y : MethodName} {b : ByteArray} {L : Nat} {r : Option FieldType} (h : Cond.code y b L r ∈ lw_all) : GoodIn lw_all (ws_ y b L r) := by
  intro w hw
  rcases List.mem_cons.mp hw with e | e
  · rw [e]
    exact lw_self _ h
  · exact lw_self _ e
theorem lw_app {a c : List Cond} (ha : ∀ w ∈ a, w ∈ lw_all) (hc : GoodIn lw_all c) : GoodIn lw_all (a ++ c) := by
  intro w hw
  rcases List.mem_append.mp hw with e | e
  · exact lw_self w (ha w e)
  · exact hc w e
/-- what a call through an object asks: cwV n hts (lw_V ..) -/
theorem lw_V {own : String} {idx : Nat} {C : String} {y : MethodName} {b : ByteArray} {L : Nat} {r : Option FieldType} (h1 : Cond.methodLink own idx y ∈ lw_all) (h2 : Cond.instanceMethod y ∈ lw_all) (h3 : Cond.selects C y y ∈ lw_all) (h4 : Cond.initialized C ∈ lw_all) (h5 : Cond.code y b L r ∈ lw_all) : GoodIn lw_all (wsV own idx C y (ws_ y b L r)) := by
  refine lw_app ?_ (lw_meth h5)
  intro w hw
  simp only [List.mem_cons, List.not_mem_nil, or_false] at hw
  rcases hw with e | e | e | e
  · rw [e]; exact h1
  · rw [e]; exact h2
  · rw [e]; exact h3
  · rw [e]; exact h4
/-- what a static call asks: va_cwS n hts (lw_S ..) -/
theorem lw_S {own : String} {idx : Nat} {y : MethodName} {b : ByteArray} {L : Nat} {r : Option FieldType} (h1 : Cond.methodLink own idx y ∈ lw_all) (h2 : Cond.static y ∈ lw_all) (h3 : Cond.initialized y.cls ∈ lw_all) (h4 : Cond.code y b L r ∈ lw_all) : GoodIn lw_all (va_wsS own idx y (ws_ y b L r)) := by
  refine lw_app ?_ (lw_meth h4)
  intro w hw
  simp only [List.mem_cons, List.not_mem_nil, or_false] at hw
  rcases hw with e | e | e
  · rw [e]; exact h1
  · rw [e]; exact h2
  · rw [e]; exact h3
/-- the words of a contract for a method WITH HANDLERS (hh: its table) -/
abbrev wsW_ (y : MethodName) (b : ByteArray) (L : Nat) (r : Option FieldType) (hh : List (Nat × Nat × Nat × Nat)) : List Cond := Cond.codeWith y b L r hh :: lw_all
theorem lw_methW {y : MethodName} {b : ByteArray} {L : Nat} {r : Option FieldType} {hh : List (Nat × Nat × Nat × Nat)} (h : Cond.codeWith y b L r hh ∈ lw_all) : GoodIn lw_all (wsW_ y b L r hh) := by
  intro w hw
  rcases List.mem_cons.mp hw with e | e
  · rw [e]
    exact lw_self _ h
  · exact lw_self _ e
/-- any list of words by their places (lw_in), good -/
theorem lw_good {ws : List Cond} (h : ∀ w ∈ ws, w ∈ lw_all) : GoodIn lw_all ws := fun w hw => lw_self w (h w hw)
/-- what a call of a method with handlers asks: vx_cwVW n hts (lw_VW ..), vx_cwSW n hts (lw_SW ..) -/
theorem lw_VW {own : String} {idx : Nat} {C : String} {y : MethodName} {b : ByteArray} {L : Nat} {r : Option FieldType} {hh : List (Nat × Nat × Nat × Nat)} (h1 : Cond.methodLink own idx y ∈ lw_all) (h2 : Cond.instanceMethod y ∈ lw_all) (h3 : Cond.selects C y y ∈ lw_all) (h4 : Cond.initialized C ∈ lw_all) (h5 : Cond.codeWith y b L r hh ∈ lw_all) : GoodIn lw_all (wsV own idx C y (wsW_ y b L r hh)) := by
  refine lw_app ?_ (lw_methW h5)
  intro w hw
  simp only [List.mem_cons, List.not_mem_nil, or_false] at hw
  rcases hw with e | e | e | e
  · rw [e]; exact h1
  · rw [e]; exact h2
  · rw [e]; exact h3
  · rw [e]; exact h4
theorem lw_SW {own : String} {idx : Nat} {y : MethodName} {b : ByteArray} {L : Nat} {r : Option FieldType} {hh : List (Nat × Nat × Nat × Nat)} (h1 : Cond.methodLink own idx y ∈ lw_all) (h2 : Cond.static y ∈ lw_all) (h3 : Cond.initialized y.cls ∈ lw_all) (h4 : Cond.codeWith y b L r hh ∈ lw_all) : GoodIn lw_all (va_wsS own idx y (wsW_ y b L r hh)) := by
  refine lw_app ?_ (lw_methW h4)
  intro w hw
  simp only [List.mem_cons, List.not_mem_nil, or_false] at hw
  rcases hw with e | e | e
  · rw [e]; exact h1
  · rw [e]; exact h2
  · rw [e]; exact h3
/-- a word by its place in its run of the tables -/
theorem lw_at {r : List Cond} (hr : ∀ w ∈ r, w ∈ lw_tbl) {w : Cond} (i : Nat) (h : r[i]? = some w) : w ∈ lw_tbl := hr w (List.mem_of_getElem? h)
theorem lw_g {w : Cond} (h : w ∈ lw_tbl) (g : goodWord w = true) : w ∈ lw_all := List.mem_filter.mpr ⟨h, g⟩
theorem lw_ms : ∀ w ∈ k2_sels lw_privs, w ∈ lw_tbl := fun w h => show w ∈ k2_sels lw_privs ++ tables_1 from List.mem_append_left _ h
theorem lw_m1 : ∀ w ∈ tables_1_1, w ∈ lw_tbl := fun w h => show w ∈ k2_sels lw_privs ++ tables_1 from List.mem_append_right (k2_sels lw_privs) (show w ∈ tables_1 from List.mem_append_left _ h)
theorem lw_m2 : ∀ w ∈ tables_1_2, w ∈ lw_tbl := fun w h => show w ∈ k2_sels lw_privs ++ tables_1 from List.mem_append_right (k2_sels lw_privs) (show w ∈ tables_1 from List.mem_append_right _ (List.mem_append_left _ h))
theorem lw_m3 : ∀ w ∈ tables_1_3, w ∈ lw_tbl := fun w h => show w ∈ k2_sels lw_privs ++ tables_1 from List.mem_append_right (k2_sels lw_privs) (show w ∈ tables_1 from List.mem_append_right _ (List.mem_append_right _ (List.mem_append_left _ h)))
theorem lw_m4 : ∀ w ∈ tables_1_4, w ∈ lw_tbl := fun w h => show w ∈ k2_sels lw_privs ++ tables_1 from List.mem_append_right (k2_sels lw_privs) (show w ∈ tables_1 from List.mem_append_right _ (List.mem_append_right _ (List.mem_append_right _ (List.mem_append_left _ h))))
theorem lw_m5 : ∀ w ∈ tables_1_5, w ∈ lw_tbl := fun w h => show w ∈ k2_sels lw_privs ++ tables_1 from List.mem_append_right (k2_sels lw_privs) (show w ∈ tables_1 from List.mem_append_right _ (List.mem_append_right _ (List.mem_append_right _ (List.mem_append_right _ (List.mem_append_left _ h)))))
theorem lw_m6 : ∀ w ∈ tables_1_6, w ∈ lw_tbl := fun w h => show w ∈ k2_sels lw_privs ++ tables_1 from List.mem_append_right (k2_sels lw_privs) (show w ∈ tables_1 from List.mem_append_right _ (List.mem_append_right _ (List.mem_append_right _ (List.mem_append_right _ (List.mem_append_right _ (List.mem_append_left _ h))))))
theorem lw_m7 : ∀ w ∈ tables_1_7, w ∈ lw_tbl := fun w h => show w ∈ k2_sels lw_privs ++ tables_1 from List.mem_append_right (k2_sels lw_privs) (show w ∈ tables_1 from List.mem_append_right _ (List.mem_append_right _ (List.mem_append_right _ (List.mem_append_right _ (List.mem_append_right _ (List.mem_append_right _ (List.mem_append_left _ h)))))))
theorem lw_m8 : ∀ w ∈ tables_1_8, w ∈ lw_tbl := fun w h => show w ∈ k2_sels lw_privs ++ tables_1 from List.mem_append_right (k2_sels lw_privs) (show w ∈ tables_1 from List.mem_append_right _ (List.mem_append_right _ (List.mem_append_right _ (List.mem_append_right _ (List.mem_append_right _ (List.mem_append_right _ (List.mem_append_right _ (List.mem_append_left _ h))))))))
theorem lw_m9 : ∀ w ∈ tables_1_9, w ∈ lw_tbl := fun w h => show w ∈ k2_sels lw_privs ++ tables_1 from List.mem_append_right (k2_sels lw_privs) (show w ∈ tables_1 from List.mem_append_right _ (List.mem_append_right _ (List.mem_append_right _ (List.mem_append_right _ (List.mem_append_right _ (List.mem_append_right _ (List.mem_append_right _ (List.mem_append_right _ (List.mem_append_left _ h)))))))))
theorem lw_m10 : ∀ w ∈ tables_1_10, w ∈ lw_tbl := fun w h => show w ∈ k2_sels lw_privs ++ tables_1 from List.mem_append_right (k2_sels lw_privs) (show w ∈ tables_1 from List.mem_append_right _ (List.mem_append_right _ (List.mem_append_right _ (List.mem_append_right _ (List.mem_append_right _ (List.mem_append_right _ (List.mem_append_right _ (List.mem_append_right _ (List.mem_append_right _ (List.mem_append_left _ h))))))))))
theorem lw_m11 : ∀ w ∈ tables_1_11, w ∈ lw_tbl := fun w h => show w ∈ k2_sels lw_privs ++ tables_1 from List.mem_append_right (k2_sels lw_privs) (show w ∈ tables_1 from List.mem_append_right _ (List.mem_append_right _ (List.mem_append_right _ (List.mem_append_right _ (List.mem_append_right _ (List.mem_append_right _ (List.mem_append_right _ (List.mem_append_right _ (List.mem_append_right _ (List.mem_append_right _ h))))))))))
theorem qs0 : (Cond.selects "java/lang/Throwable" ⟨"java/lang/Throwable", "fillInStackTrace", "(I)Ljava/lang/Throwable;"⟩ ⟨"java/lang/Throwable", "fillInStackTrace", "(I)Ljava/lang/Throwable;"⟩) ∈ lw_all := lw_g (lw_at lw_ms 0 rfl) rfl
theorem qs1 : (Cond.selects "VowelChoir" ⟨"VowelChoir", "begins", "()V"⟩ ⟨"VowelChoir", "begins", "()V"⟩) ∈ lw_all := lw_g (lw_at lw_ms 1 rfl) rfl
theorem qs2 : (Cond.selects "VowelChoir" ⟨"VowelChoir", "notes", "()I"⟩ ⟨"VowelChoir", "notes", "()I"⟩) ∈ lw_all := lw_g (lw_at lw_ms 2 rfl) rfl
theorem qs3 : (Cond.selects "VowelChoir" ⟨"VowelChoir", "noteOf", "(I)LVowelChoir$Note;"⟩ ⟨"VowelChoir", "noteOf", "(I)LVowelChoir$Note;"⟩) ∈ lw_all := lw_g (lw_at lw_ms 3 rfl) rfl
theorem qs4 : (Cond.selects "VowelChoir" ⟨"VowelChoir", "singers", "()I"⟩ ⟨"VowelChoir", "singers", "()I"⟩) ∈ lw_all := lw_g (lw_at lw_ms 4 rfl) rfl
theorem qs5 : (Cond.selects "VowelChoir" ⟨"VowelChoir", "singerOf", "(I)LVowelChoir$Singer;"⟩ ⟨"VowelChoir", "singerOf", "(I)LVowelChoir$Singer;"⟩) ∈ lw_all := lw_g (lw_at lw_ms 5 rfl) rfl
theorem qs6 : (Cond.selects "VowelChoir" ⟨"VowelChoir", "put", "(I)V"⟩ ⟨"VowelChoir", "put", "(I)V"⟩) ∈ lw_all := lw_g (lw_at lw_ms 6 rfl) rfl
theorem qs7 : (Cond.selects "VowelChoir" ⟨"VowelChoir", "takesBy", "(IIIIIIII)I"⟩ ⟨"VowelChoir", "takesBy", "(IIIIIIII)I"⟩) ∈ lw_all := lw_g (lw_at lw_ms 7 rfl) rfl
theorem qs8 : (Cond.selects "VowelChoir" ⟨"VowelChoir", "isBetter", "(II)Z"⟩ ⟨"VowelChoir", "isBetter", "(II)Z"⟩) ∈ lw_all := lw_g (lw_at lw_ms 8 rfl) rfl
theorem qs9 : (Cond.selects "VowelChoir" ⟨"VowelChoir", "paid", "(I)I"⟩ ⟨"VowelChoir", "paid", "(I)I"⟩) ∈ lw_all := lw_g (lw_at lw_ms 9 rfl) rfl
theorem qs10 : (Cond.selects "VowelChoir" ⟨"VowelChoir", "allNotes", "()I"⟩ ⟨"VowelChoir", "allNotes", "()I"⟩) ∈ lw_all := lw_g (lw_at lw_ms 10 rfl) rfl
theorem qs11 : (Cond.selects "VowelChoir" ⟨"VowelChoir", "layBench", "()I"⟩ ⟨"VowelChoir", "layBench", "()I"⟩) ∈ lw_all := lw_g (lw_at lw_ms 11 rfl) rfl
theorem qs12 : (Cond.selects "VowelChoir" ⟨"VowelChoir", "handedOn", "(II)I"⟩ ⟨"VowelChoir", "handedOn", "(II)I"⟩) ∈ lw_all := lw_g (lw_at lw_ms 12 rfl) rfl
theorem qs13 : (Cond.selects "VowelChoir" ⟨"VowelChoir", "onFrom", "(III)I"⟩ ⟨"VowelChoir", "onFrom", "(III)I"⟩) ∈ lw_all := lw_g (lw_at lw_ms 13 rfl) rfl
theorem qs14 : (Cond.selects "VowelChoir" ⟨"VowelChoir", "beside", "(II)I"⟩ ⟨"VowelChoir", "beside", "(II)I"⟩) ∈ lw_all := lw_g (lw_at lw_ms 14 rfl) rfl
theorem qs15 : (Cond.selects "VowelChoir" ⟨"VowelChoir", "wordingsBy", "(I)J"⟩ ⟨"VowelChoir", "wordingsBy", "(I)J"⟩) ∈ lw_all := lw_g (lw_at lw_ms 15 rfl) rfl
theorem qs16 : (Cond.selects "VowelChoir" ⟨"VowelChoir", "wordsOf", "(I)I"⟩ ⟨"VowelChoir", "wordsOf", "(I)I"⟩) ∈ lw_all := lw_g (lw_at lw_ms 16 rfl) rfl
theorem qs17 : (Cond.selects "VowelChoir" ⟨"VowelChoir", "kept", "([LVowelChoir$Choir;ILVowelChoir$Choir;)V"⟩ ⟨"VowelChoir", "kept", "([LVowelChoir$Choir;ILVowelChoir$Choir;)V"⟩) ∈ lw_all := lw_g (lw_at lw_ms 17 rfl) rfl
theorem qs18 : (Cond.selects "VowelChoir" ⟨"VowelChoir", "need", "(Z)V"⟩ ⟨"VowelChoir", "need", "(Z)V"⟩) ∈ lw_all := lw_g (lw_at lw_ms 18 rfl) rfl
theorem qs19 : (Cond.selects "VowelChoir$ChoirReader" ⟨"VowelChoir$ChoirReader", "clause", "(Ljava/lang/String;)V"⟩ ⟨"VowelChoir$ChoirReader", "clause", "(Ljava/lang/String;)V"⟩) ∈ lw_all := lw_g (lw_at lw_ms 19 rfl) rfl
theorem qs20 : (Cond.selects "VowelChoir$ChoirReader" ⟨"VowelChoir$ChoirReader", "isFull", "(Ljava/lang/String;)Z"⟩ ⟨"VowelChoir$ChoirReader", "isFull", "(Ljava/lang/String;)Z"⟩) ∈ lw_all := lw_g (lw_at lw_ms 20 rfl) rfl
theorem qs21 : (Cond.selects "java/util/ArrayList" ⟨"java/util/ArrayList", "add", "(Ljava/lang/Object;[Ljava/lang/Object;I)V"⟩ ⟨"java/util/ArrayList", "add", "(Ljava/lang/Object;[Ljava/lang/Object;I)V"⟩) ∈ lw_all := lw_g (lw_at lw_ms 21 rfl) rfl
theorem qs22 : (Cond.selects "java/util/ArrayList" ⟨"java/util/ArrayList", "grow", "()[Ljava/lang/Object;"⟩ ⟨"java/util/ArrayList", "grow", "()[Ljava/lang/Object;"⟩) ∈ lw_all := lw_g (lw_at lw_ms 22 rfl) rfl
theorem qs23 : (Cond.selects "java/util/ArrayList" ⟨"java/util/ArrayList", "grow", "(I)[Ljava/lang/Object;"⟩ ⟨"java/util/ArrayList", "grow", "(I)[Ljava/lang/Object;"⟩) ∈ lw_all := lw_g (lw_at lw_ms 23 rfl) rfl
theorem qs24 : (Cond.selects "VowelChoir" ⟨"VowelChoir", "failed", "(LVowelChoir$Wrong;)I"⟩ ⟨"VowelChoir", "failed", "(LVowelChoir$Wrong;)I"⟩) ∈ lw_all := lw_g (lw_at lw_ms 24 rfl) rfl
theorem qs25 : (Cond.selects "VowelChoir$LawReader" ⟨"VowelChoir$LawReader", "sum", "()LVowelChoir$Term;"⟩ ⟨"VowelChoir$LawReader", "sum", "()LVowelChoir$Term;"⟩) ∈ lw_all := lw_g (lw_at lw_ms 25 rfl) rfl
theorem qs26 : (Cond.selects "VowelChoir$LawReader" ⟨"VowelChoir$LawReader", "product", "()LVowelChoir$Term;"⟩ ⟨"VowelChoir$LawReader", "product", "()LVowelChoir$Term;"⟩) ∈ lw_all := lw_g (lw_at lw_ms 26 rfl) rfl
theorem qs27 : (Cond.selects "VowelChoir$LawReader" ⟨"VowelChoir$LawReader", "unit", "()LVowelChoir$Term;"⟩ ⟨"VowelChoir$LawReader", "unit", "()LVowelChoir$Term;"⟩) ∈ lw_all := lw_g (lw_at lw_ms 27 rfl) rfl
theorem qs28 : (Cond.selects "VowelChoir$LawReader" ⟨"VowelChoir$LawReader", "fact", "(Ljava/lang/String;I)LVowelChoir$Term;"⟩ ⟨"VowelChoir$LawReader", "fact", "(Ljava/lang/String;I)LVowelChoir$Term;"⟩) ∈ lw_all := lw_g (lw_at lw_ms 28 rfl) rfl
theorem qs29 : (Cond.selects "VowelChoir$LawReader" ⟨"VowelChoir$LawReader", "two", "(Ljava/lang/String;)LVowelChoir$Term;"⟩ ⟨"VowelChoir$LawReader", "two", "(Ljava/lang/String;)LVowelChoir$Term;"⟩) ∈ lw_all := lw_g (lw_at lw_ms 29 rfl) rfl
theorem qs30 : (Cond.selects "VowelChoir$WorkReader" ⟨"VowelChoir$WorkReader", "step", "()LVowelChoir$Step;"⟩ ⟨"VowelChoir$WorkReader", "step", "()LVowelChoir$Step;"⟩) ∈ lw_all := lw_g (lw_at lw_ms 30 rfl) rfl
theorem qs31 : (Cond.selects "VowelChoir$WorkReader" ⟨"VowelChoir$WorkReader", "act", "(Ljava/lang/String;)LVowelChoir$Step;"⟩ ⟨"VowelChoir$WorkReader", "act", "(Ljava/lang/String;)LVowelChoir$Step;"⟩) ∈ lw_all := lw_g (lw_at lw_ms 31 rfl) rfl
theorem qs32 : (Cond.selects "VowelChoir$WorkReader" ⟨"VowelChoir$WorkReader", "note", "()I"⟩ ⟨"VowelChoir$WorkReader", "note", "()I"⟩) ∈ lw_all := lw_g (lw_at lw_ms 32 rfl) rfl
theorem qs33 : (Cond.selects "VowelChoir$WorkReader" ⟨"VowelChoir$WorkReader", "again", "()LVowelChoir$Step;"⟩ ⟨"VowelChoir$WorkReader", "again", "()LVowelChoir$Step;"⟩) ∈ lw_all := lw_g (lw_at lw_ms 33 rfl) rfl
theorem qs34 : (Cond.selects "VowelChoir" ⟨"VowelChoir", "needSinger", "(I)V"⟩ ⟨"VowelChoir", "needSinger", "(I)V"⟩) ∈ lw_all := lw_g (lw_at lw_ms 34 rfl) rfl
theorem qs35 : (Cond.selects "VowelChoir" ⟨"VowelChoir", "needThere", "(II)V"⟩ ⟨"VowelChoir", "needThere", "(II)V"⟩) ∈ lw_all := lw_g (lw_at lw_ms 35 rfl) rfl
theorem qs36 : (Cond.selects "VowelChoir" ⟨"VowelChoir", "needNote", "(I)V"⟩ ⟨"VowelChoir", "needNote", "(I)V"⟩) ∈ lw_all := lw_g (lw_at lw_ms 36 rfl) rfl
theorem qs37 : (Cond.selects "VowelChoir" ⟨"VowelChoir", "layHeard", "()V"⟩ ⟨"VowelChoir", "layHeard", "()V"⟩) ∈ lw_all := lw_g (lw_at lw_ms 37 rfl) rfl
theorem qs38 : (Cond.selects "VowelChoir" ⟨"VowelChoir", "isWho", "(I)Z"⟩ ⟨"VowelChoir", "isWho", "(I)Z"⟩) ∈ lw_all := lw_g (lw_at lw_ms 38 rfl) rfl
theorem qs39 : (Cond.selects "VowelChoir" ⟨"VowelChoir", "worstBy", "(I)I"⟩ ⟨"VowelChoir", "worstBy", "(I)I"⟩) ∈ lw_all := lw_g (lw_at lw_ms 39 rfl) rfl
theorem qs40 : (Cond.selects "VowelChoir" ⟨"VowelChoir", "rented", "(II)I"⟩ ⟨"VowelChoir", "rented", "(II)I"⟩) ∈ lw_all := lw_g (lw_at lw_ms 40 rfl) rfl
theorem qs41 : (Cond.selects "VowelChoir" ⟨"VowelChoir", "sundayBy", "(III)LVowelChoir$Choir;"⟩ ⟨"VowelChoir", "sundayBy", "(III)LVowelChoir$Choir;"⟩) ∈ lw_all := lw_g (lw_at lw_ms 41 rfl) rfl
theorem qs42 : (Cond.selects "VowelChoir" ⟨"VowelChoir", "draw", "(I)I"⟩ ⟨"VowelChoir", "draw", "(I)I"⟩) ∈ lw_all := lw_g (lw_at lw_ms 42 rfl) rfl
theorem qs43 : (Cond.selects "VowelChoirModel" ⟨"VowelChoirModel", "tellsNothing", "()V"⟩ ⟨"VowelChoirModel", "tellsNothing", "()V"⟩) ∈ lw_all := lw_g (lw_at lw_ms 43 rfl) rfl
theorem qs44 : (Cond.selects "VowelChoirModel" ⟨"VowelChoirModel", "beginsAnew", "()V"⟩ ⟨"VowelChoirModel", "beginsAnew", "()V"⟩) ∈ lw_all := lw_g (lw_at lw_ms 44 rfl) rfl
theorem qs45 : (Cond.selects "VowelChoirModel" ⟨"VowelChoirModel", "breathes", "([I)V"⟩ ⟨"VowelChoirModel", "breathes", "([I)V"⟩) ∈ lw_all := lw_g (lw_at lw_ms 45 rfl) rfl
theorem qs46 : (Cond.selects "VowelChoirModel" ⟨"VowelChoirModel", "bad", "(ZII)Z"⟩ ⟨"VowelChoirModel", "bad", "(ZII)Z"⟩) ∈ lw_all := lw_g (lw_at lw_ms 46 rfl) rfl
theorem qs47 : (Cond.selects "VowelChoirModel" ⟨"VowelChoirModel", "starts", "(I)V"⟩ ⟨"VowelChoirModel", "starts", "(I)V"⟩) ∈ lw_all := lw_g (lw_at lw_ms 47 rfl) rfl
theorem qs48 : (Cond.selects "VowelChoirModel" ⟨"VowelChoirModel", "blanks", "()V"⟩ ⟨"VowelChoirModel", "blanks", "()V"⟩) ∈ lw_all := lw_g (lw_at lw_ms 48 rfl) rfl
theorem qs49 : (Cond.selects "VowelChoirModel" ⟨"VowelChoirModel", "byteAt", "(I)I"⟩ ⟨"VowelChoirModel", "byteAt", "(I)I"⟩) ∈ lw_all := lw_g (lw_at lw_ms 49 rfl) rfl
theorem qs50 : (Cond.selects "VowelChoirModel" ⟨"VowelChoirModel", "clause", "()V"⟩ ⟨"VowelChoirModel", "clause", "()V"⟩) ∈ lw_all := lw_g (lw_at lw_ms 50 rfl) rfl
theorem qs51 : (Cond.selects "VowelChoirModel" ⟨"VowelChoirModel", "kindHere", "()I"⟩ ⟨"VowelChoirModel", "kindHere", "()I"⟩) ∈ lw_all := lw_g (lw_at lw_ms 51 rfl) rfl
theorem qs52 : (Cond.selects "VowelChoirModel" ⟨"VowelChoirModel", "isWord", "(IIIIII)Z"⟩ ⟨"VowelChoirModel", "isWord", "(IIIIII)Z"⟩) ∈ lw_all := lw_g (lw_at lw_ms 52 rfl) rfl
theorem qs53 : (Cond.selects "VowelChoirModel" ⟨"VowelChoirModel", "wordHere", "()I"⟩ ⟨"VowelChoirModel", "wordHere", "()I"⟩) ∈ lw_all := lw_g (lw_at lw_ms 53 rfl) rfl
theorem qs54 : (Cond.selects "VowelChoirModel" ⟨"VowelChoirModel", "wrong", "(II)V"⟩ ⟨"VowelChoirModel", "wrong", "(II)V"⟩) ∈ lw_all := lw_g (lw_at lw_ms 54 rfl) rfl
theorem qs55 : (Cond.selects "VowelChoirModel" ⟨"VowelChoirModel", "skipWord", "()V"⟩ ⟨"VowelChoirModel", "skipWord", "()V"⟩) ∈ lw_all := lw_g (lw_at lw_ms 55 rfl) rfl
theorem qs56 : (Cond.selects "VowelChoirModel" ⟨"VowelChoirModel", "number", "(II)I"⟩ ⟨"VowelChoirModel", "number", "(II)I"⟩) ∈ lw_all := lw_g (lw_at lw_ms 56 rfl) rfl
theorem qs57 : (Cond.selects "VowelChoirModel" ⟨"VowelChoirModel", "sign", "(I)V"⟩ ⟨"VowelChoirModel", "sign", "(I)V"⟩) ∈ lw_all := lw_g (lw_at lw_ms 57 rfl) rfl
theorem qs58 : (Cond.selects "VowelChoirModel" ⟨"VowelChoirModel", "ends", "()I"⟩ ⟨"VowelChoirModel", "ends", "()I"⟩) ∈ lw_all := lw_g (lw_at lw_ms 58 rfl) rfl
theorem qs59 : (Cond.selects "VowelChoirModel" ⟨"VowelChoirModel", "sum", "()V"⟩ ⟨"VowelChoirModel", "sum", "()V"⟩) ∈ lw_all := lw_g (lw_at lw_ms 59 rfl) rfl
theorem qs60 : (Cond.selects "VowelChoirModel" ⟨"VowelChoirModel", "product", "()V"⟩ ⟨"VowelChoirModel", "product", "()V"⟩) ∈ lw_all := lw_g (lw_at lw_ms 60 rfl) rfl
theorem qs61 : (Cond.selects "VowelChoirModel" ⟨"VowelChoirModel", "one", "()V"⟩ ⟨"VowelChoirModel", "one", "()V"⟩) ∈ lw_all := lw_g (lw_at lw_ms 61 rfl) rfl
theorem qs62 : (Cond.selects "VowelChoirModel" ⟨"VowelChoirModel", "opensOne", "()Z"⟩ ⟨"VowelChoirModel", "opensOne", "()Z"⟩) ∈ lw_all := lw_g (lw_at lw_ms 62 rfl) rfl
theorem qs63 : (Cond.selects "VowelChoirModel" ⟨"VowelChoirModel", "notes", "(II)V"⟩ ⟨"VowelChoirModel", "notes", "(II)V"⟩) ∈ lw_all := lw_g (lw_at lw_ms 63 rfl) rfl
theorem qs64 : (Cond.selects "VowelChoirModel" ⟨"VowelChoirModel", "knownHere", "()I"⟩ ⟨"VowelChoirModel", "knownHere", "()I"⟩) ∈ lw_all := lw_g (lw_at lw_ms 64 rfl) rfl
theorem qs65 : (Cond.selects "VowelChoirModel" ⟨"VowelChoirModel", "isNext", "(IIIIII)Z"⟩ ⟨"VowelChoirModel", "isNext", "(IIIIII)Z"⟩) ∈ lw_all := lw_g (lw_at lw_ms 65 rfl) rfl
theorem qs66 : (Cond.selects "VowelChoirModel" ⟨"VowelChoirModel", "takesSign", "(I)Z"⟩ ⟨"VowelChoirModel", "takesSign", "(I)Z"⟩) ∈ lw_all := lw_g (lw_at lw_ms 66 rfl) rfl
theorem qs67 : (Cond.selects "VowelChoirModel" ⟨"VowelChoirModel", "readsStep", "()V"⟩ ⟨"VowelChoirModel", "readsStep", "()V"⟩) ∈ lw_all := lw_g (lw_at lw_ms 67 rfl) rfl
theorem qs68 : (Cond.selects "VowelChoirModel" ⟨"VowelChoirModel", "stepHere", "()I"⟩ ⟨"VowelChoirModel", "stepHere", "()I"⟩) ∈ lw_all := lw_g (lw_at lw_ms 68 rfl) rfl
theorem qs69 : (Cond.selects "VowelChoirModel" ⟨"VowelChoirModel", "goes", "(II)V"⟩ ⟨"VowelChoirModel", "goes", "(II)V"⟩) ∈ lw_all := lw_g (lw_at lw_ms 69 rfl) rfl
theorem qs70 : (Cond.selects "VowelChoirModel" ⟨"VowelChoirModel", "does", "([I[I)Z"⟩ ⟨"VowelChoirModel", "does", "([I[I)Z"⟩) ∈ lw_all := lw_g (lw_at lw_ms 70 rfl) rfl
theorem qs71 : (Cond.selects "VowelChoirModel" ⟨"VowelChoirModel", "sings", "([II)Z"⟩ ⟨"VowelChoirModel", "sings", "([II)Z"⟩) ∈ lw_all := lw_g (lw_at lw_ms 71 rfl) rfl
theorem qs72 : (Cond.selects "VowelChoirModel" ⟨"VowelChoirModel", "sungBy", "([II)I"⟩ ⟨"VowelChoirModel", "sungBy", "([II)I"⟩) ∈ lw_all := lw_g (lw_at lw_ms 72 rfl) rfl
theorem qs73 : (Cond.selects "VowelChoirModel" ⟨"VowelChoirModel", "breathOf", "([III)I"⟩ ⟨"VowelChoirModel", "breathOf", "([III)I"⟩) ∈ lw_all := lw_g (lw_at lw_ms 73 rfl) rfl
theorem qs74 : (Cond.selects "VowelChoirModel" ⟨"VowelChoirModel", "breathBy", "(IIIIIIII)I"⟩ ⟨"VowelChoirModel", "breathBy", "(IIIIIIII)I"⟩) ∈ lw_all := lw_g (lw_at lw_ms 74 rfl) rfl
theorem qs75 : (Cond.selects "VowelChoirModel" ⟨"VowelChoirModel", "byLaw", "()I"⟩ ⟨"VowelChoirModel", "byLaw", "()I"⟩) ∈ lw_all := lw_g (lw_at lw_ms 75 rfl) rfl
theorem qs76 : (Cond.selects "VowelChoirModel" ⟨"VowelChoirModel", "hymns", "([I)V"⟩ ⟨"VowelChoirModel", "hymns", "([I)V"⟩) ∈ lw_all := lw_g (lw_at lw_ms 76 rfl) rfl
theorem qs77 : (Cond.selects "VowelChoirModel" ⟨"VowelChoirModel", "rests", "([I)Z"⟩ ⟨"VowelChoirModel", "rests", "([I)Z"⟩) ∈ lw_all := lw_g (lw_at lw_ms 77 rfl) rfl
theorem qs78 : (Cond.selects "VowelChoirModel" ⟨"VowelChoirModel", "wordsOf", "(I)I"⟩ ⟨"VowelChoirModel", "wordsOf", "(I)I"⟩) ∈ lw_all := lw_g (lw_at lw_ms 78 rfl) rfl
theorem qs79 : (Cond.selects "VowelChoirModel" ⟨"VowelChoirModel", "dayEnds", "([I)V"⟩ ⟨"VowelChoirModel", "dayEnds", "([I)V"⟩) ∈ lw_all := lw_g (lw_at lw_ms 79 rfl) rfl
theorem qs80 : (Cond.selects "VowelChoirModel" ⟨"VowelChoirModel", "hoarse", "([I)I"⟩ ⟨"VowelChoirModel", "hoarse", "([I)I"⟩) ∈ lw_all := lw_g (lw_at lw_ms 80 rfl) rfl
theorem qs81 : (Cond.selects "VowelChoirModel" ⟨"VowelChoirModel", "all", "([II)I"⟩ ⟨"VowelChoirModel", "all", "([II)I"⟩) ∈ lw_all := lw_g (lw_at lw_ms 81 rfl) rfl
theorem qs82 : (Cond.selects "VowelChoirModel" ⟨"VowelChoirModel", "isSinger", "(I)Z"⟩ ⟨"VowelChoirModel", "isSinger", "(I)Z"⟩) ∈ lw_all := lw_g (lw_at lw_ms 82 rfl) rfl
theorem qs83 : (Cond.selects "VowelChoirModel" ⟨"VowelChoirModel", "isNote", "(I)Z"⟩ ⟨"VowelChoirModel", "isNote", "(I)Z"⟩) ∈ lw_all := lw_g (lw_at lw_ms 83 rfl) rfl
theorem qs84 : (Cond.selects "VowelChoirModel" ⟨"VowelChoirModel", "everySinger", "()I"⟩ ⟨"VowelChoirModel", "everySinger", "()I"⟩) ∈ lw_all := lw_g (lw_at lw_ms 84 rfl) rfl
theorem qs85 : (Cond.selects "VowelChoirModel" ⟨"VowelChoirModel", "payOf", "(I)I"⟩ ⟨"VowelChoirModel", "payOf", "(I)I"⟩) ∈ lw_all := lw_g (lw_at lw_ms 85 rfl) rfl
theorem qs86 : (Cond.selects "VowelChoirModel" ⟨"VowelChoirModel", "onlyThese", "(I)V"⟩ ⟨"VowelChoirModel", "onlyThese", "(I)V"⟩) ∈ lw_all := lw_g (lw_at lw_ms 86 rfl) rfl
theorem qs87 : (Cond.selects "VowelChoirModel" ⟨"VowelChoirModel", "handedOf", "(II)I"⟩ ⟨"VowelChoirModel", "handedOf", "(II)I"⟩) ∈ lw_all := lw_g (lw_at lw_ms 87 rfl) rfl
theorem qs88 : (Cond.selects "VowelChoirModel" ⟨"VowelChoirModel", "laysBench", "()V"⟩ ⟨"VowelChoirModel", "laysBench", "()V"⟩) ∈ lw_all := lw_g (lw_at lw_ms 88 rfl) rfl
theorem qs89 : (Cond.selects "VowelChoirModel" ⟨"VowelChoirModel", "benches", "(III)V"⟩ ⟨"VowelChoirModel", "benches", "(III)V"⟩) ∈ lw_all := lw_g (lw_at lw_ms 89 rfl) rfl
theorem qs90 : (Cond.selects "VowelChoirModel" ⟨"VowelChoirModel", "isHeard", "(I)Z"⟩ ⟨"VowelChoirModel", "isHeard", "(I)Z"⟩) ∈ lw_all := lw_g (lw_at lw_ms 90 rfl) rfl
theorem qs91 : (Cond.selects "VowelChoirModel" ⟨"VowelChoirModel", "isTold", "(I)Z"⟩ ⟨"VowelChoirModel", "isTold", "(I)Z"⟩) ∈ lw_all := lw_g (lw_at lw_ms 91 rfl) rfl
theorem qs92 : (Cond.selects "VowelChoirModel" ⟨"VowelChoirModel", "worstOf", "(I)I"⟩ ⟨"VowelChoirModel", "worstOf", "(I)I"⟩) ∈ lw_all := lw_g (lw_at lw_ms 92 rfl) rfl
theorem qs93 : (Cond.selects "VowelChoirModel" ⟨"VowelChoirModel", "givenBy", "(II)I"⟩ ⟨"VowelChoirModel", "givenBy", "(II)I"⟩) ∈ lw_all := lw_g (lw_at lw_ms 93 rfl) rfl
theorem qs94 : (Cond.selects "VowelChoirModel" ⟨"VowelChoirModel", "sundayBy", "(III)V"⟩ ⟨"VowelChoirModel", "sundayBy", "(III)V"⟩) ∈ lw_all := lw_g (lw_at lw_ms 94 rfl) rfl
theorem qs95 : (Cond.selects "VowelChoirModel" ⟨"VowelChoirModel", "draw", "(I)I"⟩ ⟨"VowelChoirModel", "draw", "(I)I"⟩) ∈ lw_all := lw_g (lw_at lw_ms 95 rfl) rfl
theorem qs96 : (Cond.selects "VowelChoirModel" ⟨"VowelChoirModel", "putsAll", "([IZ)V"⟩ ⟨"VowelChoirModel", "putsAll", "([IZ)V"⟩) ∈ lw_all := lw_g (lw_at lw_ms 96 rfl) rfl
theorem qs97 : (Cond.selects "VowelChoirModel" ⟨"VowelChoirModel", "puts", "([IIZ)I"⟩ ⟨"VowelChoirModel", "puts", "([IIZ)I"⟩) ∈ lw_all := lw_g (lw_at lw_ms 97 rfl) rfl
-- ===== end of PART A; then your names; then what follows =====
