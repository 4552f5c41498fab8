-- ===== PART A: goes FIRST, ahead of the names: the tables' words, and 'selects' of the private methods out of them =====
/-- a private method of a class that the tables say can be made, by its rows of tables_1 -/
def lw_okq (q : MethodName × Nat) : Prop := (q.1.cls ≠ "java/lang/invoke/MethodHandle" ∧ q.1.cls ≠ "java/lang/invoke/VarHandle") ∧ Cond.instantiable q.1.cls q.2 ∈ tables_1 ∧ Cond.privateMethod q.1 ∈ tables_1 ∧ Cond.instanceMethod q.1 ∈ tables_1
set_option maxRecDepth 100000
theorem lw_t1 {w : Cond} (h : w ∈ tables_1_1) : w ∈ tables_1 := List.mem_append_left _ h
theorem lw_t2 {w : Cond} (h : w ∈ tables_1_2) : w ∈ tables_1 := List.mem_append_right _ (List.mem_append_left _ h)
theorem lw_t3 {w : Cond} (h : w ∈ tables_1_3) : w ∈ tables_1 := List.mem_append_right _ (List.mem_append_right _ (List.mem_append_left _ h))
theorem lw_t4 {w : Cond} (h : w ∈ tables_1_4) : w ∈ tables_1 := List.mem_append_right _ (List.mem_append_right _ (List.mem_append_right _ (List.mem_append_left _ h)))
theorem lw_t5 {w : Cond} (h : w ∈ tables_1_5) : w ∈ tables_1 := List.mem_append_right _ (List.mem_append_right _ (List.mem_append_right _ (List.mem_append_right _ (List.mem_append_left _ h))))
theorem lw_t6 {w : Cond} (h : w ∈ tables_1_6) : w ∈ tables_1 := List.mem_append_right _ (List.mem_append_right _ (List.mem_append_right _ (List.mem_append_right _ (List.mem_append_right _ (List.mem_append_left _ h)))))
theorem lw_t7 {w : Cond} (h : w ∈ tables_1_7) : w ∈ tables_1 := List.mem_append_right _ (List.mem_append_right _ (List.mem_append_right _ (List.mem_append_right _ (List.mem_append_right _ (List.mem_append_right _ h)))))
theorem lw_p0 : lw_okq (⟨"GleanersForGaps", "gapsOf", "(I)I"⟩, 40) := ⟨⟨by decide +kernel, by decide +kernel⟩, lw_t1 (List.mem_of_getElem? (i := 126) rfl), lw_t1 (List.mem_of_getElem? (i := 124) rfl), lw_t1 (List.mem_of_getElem? (i := 125) rfl)⟩
theorem lw_p1 : lw_okq (⟨"GleanersForGaps", "isSo", "(III)Z"⟩, 40) := ⟨⟨by decide +kernel, by decide +kernel⟩, lw_t1 (List.mem_of_getElem? (i := 126) rfl), lw_t1 (List.mem_of_getElem? (i := 139) rfl), lw_t1 (List.mem_of_getElem? (i := 140) rfl)⟩
theorem lw_p2 : lw_okq (⟨"GleanersForGaps", "isOne", "(I)Z"⟩, 40) := ⟨⟨by decide +kernel, by decide +kernel⟩, lw_t1 (List.mem_of_getElem? (i := 126) rfl), lw_t1 (List.mem_of_getElem? (i := 144) rfl), lw_t1 (List.mem_of_getElem? (i := 145) rfl)⟩
theorem lw_p3 : lw_okq (⟨"GleanersForGaps", "toldRow", "(II)I"⟩, 40) := ⟨⟨by decide +kernel, by decide +kernel⟩, lw_t1 (List.mem_of_getElem? (i := 126) rfl), lw_t1 (List.mem_of_getElem? (i := 153) rfl), lw_t1 (List.mem_of_getElem? (i := 154) rfl)⟩
theorem lw_p4 : lw_okq (⟨"GleanersForGaps", "runsOf", "(I)I"⟩, 40) := ⟨⟨by decide +kernel, by decide +kernel⟩, lw_t1 (List.mem_of_getElem? (i := 126) rfl), lw_t1 (List.mem_of_getElem? (i := 157) rfl), lw_t1 (List.mem_of_getElem? (i := 158) rfl)⟩
theorem lw_p5 : lw_okq (⟨"GleanersForGaps", "tellsRuns", "(I)I"⟩, 40) := ⟨⟨by decide +kernel, by decide +kernel⟩, lw_t1 (List.mem_of_getElem? (i := 126) rfl), lw_t1 (List.mem_of_getElem? (i := 161) rfl), lw_t1 (List.mem_of_getElem? (i := 162) rfl)⟩
theorem lw_p6 : lw_okq (⟨"GleanersForGaps", "greatest", "(I)I"⟩, 40) := ⟨⟨by decide +kernel, by decide +kernel⟩, lw_t1 (List.mem_of_getElem? (i := 126) rfl), lw_t1 (List.mem_of_getElem? (i := 168) rfl), lw_t1 (List.mem_of_getElem? (i := 169) rfl)⟩
theorem lw_p7 : lw_okq (⟨"GleanersForGaps", "shakesOf", "(I)I"⟩, 40) := ⟨⟨by decide +kernel, by decide +kernel⟩, lw_t1 (List.mem_of_getElem? (i := 126) rfl), lw_t1 (List.mem_of_getElem? (i := 175) rfl), lw_t1 (List.mem_of_getElem? (i := 176) rfl)⟩
theorem lw_p8 : lw_okq (⟨"GleanersForGaps", "looksAt", "(I)V"⟩, 40) := ⟨⟨by decide +kernel, by decide +kernel⟩, lw_t1 (List.mem_of_getElem? (i := 126) rfl), lw_t1 (List.mem_of_getElem? (i := 179) rfl), lw_t1 (List.mem_of_getElem? (i := 180) rfl)⟩
theorem lw_p9 : lw_okq (⟨"GleanersForGaps", "says", "(IIII)I"⟩, 40) := ⟨⟨by decide +kernel, by decide +kernel⟩, lw_t1 (List.mem_of_getElem? (i := 126) rfl), lw_t1 (List.mem_of_getElem? (i := 183) rfl), lw_t1 (List.mem_of_getElem? (i := 184) rfl)⟩
theorem lw_p10 : lw_okq (⟨"GleanersForGaps", "toldOf", "(II)I"⟩, 40) := ⟨⟨by decide +kernel, by decide +kernel⟩, lw_t1 (List.mem_of_getElem? (i := 126) rfl), lw_t1 (List.mem_of_getElem? (i := 211) rfl), lw_t1 (List.mem_of_getElem? (i := 212) rfl)⟩
theorem lw_p11 : lw_okq (⟨"GleanersForGaps", "keepsOf", "(I)I"⟩, 40) := ⟨⟨by decide +kernel, by decide +kernel⟩, lw_t1 (List.mem_of_getElem? (i := 126) rfl), lw_t2 (List.mem_of_getElem? (i := 0) rfl), lw_t2 (List.mem_of_getElem? (i := 1) rfl)⟩
theorem lw_p12 : lw_okq (⟨"GleanersForGaps", "becomes", "(III)V"⟩, 40) := ⟨⟨by decide +kernel, by decide +kernel⟩, lw_t1 (List.mem_of_getElem? (i := 126) rfl), lw_t2 (List.mem_of_getElem? (i := 26) rfl), lw_t2 (List.mem_of_getElem? (i := 27) rfl)⟩
theorem lw_p13 : lw_okq (⟨"GleanersForGaps", "newText", "()I"⟩, 40) := ⟨⟨by decide +kernel, by decide +kernel⟩, lw_t1 (List.mem_of_getElem? (i := 126) rfl), lw_t2 (List.mem_of_getElem? (i := 44) rfl), lw_t2 (List.mem_of_getElem? (i := 45) rfl)⟩
theorem lw_p14 : lw_okq (⟨"GleanersForGaps", "next", "()V"⟩, 40) := ⟨⟨by decide +kernel, by decide +kernel⟩, lw_t1 (List.mem_of_getElem? (i := 126) rfl), lw_t2 (List.mem_of_getElem? (i := 51) rfl), lw_t2 (List.mem_of_getElem? (i := 52) rfl)⟩
theorem lw_p15 : lw_okq (⟨"GleanersForGaps", "byteAt", "(I)I"⟩, 40) := ⟨⟨by decide +kernel, by decide +kernel⟩, lw_t1 (List.mem_of_getElem? (i := 126) rfl), lw_t2 (List.mem_of_getElem? (i := 55) rfl), lw_t2 (List.mem_of_getElem? (i := 56) rfl)⟩
def lw_privs_1 : List (MethodName × Nat) := [(⟨"GleanersForGaps", "gapsOf", "(I)I"⟩, 40), (⟨"GleanersForGaps", "isSo", "(III)Z"⟩, 40), (⟨"GleanersForGaps", "isOne", "(I)Z"⟩, 40), (⟨"GleanersForGaps", "toldRow", "(II)I"⟩, 40), (⟨"GleanersForGaps", "runsOf", "(I)I"⟩, 40), (⟨"GleanersForGaps", "tellsRuns", "(I)I"⟩, 40), (⟨"GleanersForGaps", "greatest", "(I)I"⟩, 40), (⟨"GleanersForGaps", "shakesOf", "(I)I"⟩, 40), (⟨"GleanersForGaps", "looksAt", "(I)V"⟩, 40), (⟨"GleanersForGaps", "says", "(IIII)I"⟩, 40), (⟨"GleanersForGaps", "toldOf", "(II)I"⟩, 40), (⟨"GleanersForGaps", "keepsOf", "(I)I"⟩, 40), (⟨"GleanersForGaps", "becomes", "(III)V"⟩, 40), (⟨"GleanersForGaps", "newText", "()I"⟩, 40), (⟨"GleanersForGaps", "next", "()V"⟩, 40), (⟨"GleanersForGaps", "byteAt", "(I)I"⟩, 40)]
theorem lw_r1 : ∀ q ∈ lw_privs_1, lw_okq q := List.forall_mem_cons.mpr ⟨lw_p0, List.forall_mem_cons.mpr ⟨lw_p1, List.forall_mem_cons.mpr ⟨lw_p2, List.forall_mem_cons.mpr ⟨lw_p3, List.forall_mem_cons.mpr ⟨lw_p4, List.forall_mem_cons.mpr ⟨lw_p5, List.forall_mem_cons.mpr ⟨lw_p6, List.forall_mem_cons.mpr ⟨lw_p7, List.forall_mem_cons.mpr ⟨lw_p8, List.forall_mem_cons.mpr ⟨lw_p9, List.forall_mem_cons.mpr ⟨lw_p10, List.forall_mem_cons.mpr ⟨lw_p11, List.forall_mem_cons.mpr ⟨lw_p12, List.forall_mem_cons.mpr ⟨lw_p13, List.forall_mem_cons.mpr ⟨lw_p14, List.forall_mem_cons.mpr ⟨lw_p15, fun _ h => absurd h List.not_mem_nil⟩⟩⟩⟩⟩⟩⟩⟩⟩⟩⟩⟩⟩⟩⟩⟩
theorem lw_p16 : lw_okq (⟨"GleanersForGaps", "word", "()V"⟩, 40) := ⟨⟨by decide +kernel, by decide +kernel⟩, lw_t1 (List.mem_of_getElem? (i := 126) rfl), lw_t2 (List.mem_of_getElem? (i := 64) rfl), lw_t2 (List.mem_of_getElem? (i := 65) rfl)⟩
theorem lw_p17 : lw_okq (⟨"GleanersForGaps", "placeIn", "([Ljava/lang/String;)I"⟩, 40) := ⟨⟨by decide +kernel, by decide +kernel⟩, lw_t1 (List.mem_of_getElem? (i := 126) rfl), lw_t2 (List.mem_of_getElem? (i := 68) rfl), lw_t2 (List.mem_of_getElem? (i := 69) rfl)⟩
theorem lw_p18 : lw_okq (⟨"GleanersForGaps", "digits", "()V"⟩, 40) := ⟨⟨by decide +kernel, by decide +kernel⟩, lw_t1 (List.mem_of_getElem? (i := 126) rfl), lw_t2 (List.mem_of_getElem? (i := 125) rfl), lw_t2 (List.mem_of_getElem? (i := 126) rfl)⟩
theorem lw_p19 : lw_okq (⟨"GleanersForGaps", "isKey", "(I)Z"⟩, 40) := ⟨⟨by decide +kernel, by decide +kernel⟩, lw_t1 (List.mem_of_getElem? (i := 126) rfl), lw_t2 (List.mem_of_getElem? (i := 185) rfl), lw_t2 (List.mem_of_getElem? (i := 186) rfl)⟩
theorem lw_p20 : lw_okq (⟨"GleanersForGaps", "need", "(Z)V"⟩, 40) := ⟨⟨by decide +kernel, by decide +kernel⟩, lw_t1 (List.mem_of_getElem? (i := 126) rfl), lw_t2 (List.mem_of_getElem? (i := 189) rfl), lw_t2 (List.mem_of_getElem? (i := 190) rfl)⟩
theorem lw_p21 : lw_okq (⟨"GleanersForGaps", "either", "()LGleanersForGaps$Node;"⟩, 40) := ⟨⟨by decide +kernel, by decide +kernel⟩, lw_t1 (List.mem_of_getElem? (i := 126) rfl), lw_t2 (List.mem_of_getElem? (i := 193) rfl), lw_t2 (List.mem_of_getElem? (i := 194) rfl)⟩
theorem lw_p22 : lw_okq (⟨"GleanersForGaps", "both", "()LGleanersForGaps$Node;"⟩, 40) := ⟨⟨by decide +kernel, by decide +kernel⟩, lw_t1 (List.mem_of_getElem? (i := 126) rfl), lw_t2 (List.mem_of_getElem? (i := 197) rfl), lw_t2 (List.mem_of_getElem? (i := 198) rfl)⟩
theorem lw_p23 : lw_okq (⟨"GleanersForGaps", "not", "()LGleanersForGaps$Node;"⟩, 40) := ⟨⟨by decide +kernel, by decide +kernel⟩, lw_t1 (List.mem_of_getElem? (i := 126) rfl), lw_t2 (List.mem_of_getElem? (i := 201) rfl), lw_t2 (List.mem_of_getElem? (i := 202) rfl)⟩
theorem lw_p24 : lw_okq (⟨"GleanersForGaps", "openOne", "()V"⟩, 40) := ⟨⟨by decide +kernel, by decide +kernel⟩, lw_t1 (List.mem_of_getElem? (i := 126) rfl), lw_t2 (List.mem_of_getElem? (i := 205) rfl), lw_t2 (List.mem_of_getElem? (i := 206) rfl)⟩
theorem lw_p25 : lw_okq (⟨"GleanersForGaps", "plus", "()LGleanersForGaps$Node;"⟩, 40) := ⟨⟨by decide +kernel, by decide +kernel⟩, lw_t1 (List.mem_of_getElem? (i := 126) rfl), lw_t2 (List.mem_of_getElem? (i := 226) rfl), lw_t2 (List.mem_of_getElem? (i := 227) rfl)⟩
theorem lw_p26 : lw_okq (⟨"GleanersForGaps", "times", "()LGleanersForGaps$Node;"⟩, 40) := ⟨⟨by decide +kernel, by decide +kernel⟩, lw_t1 (List.mem_of_getElem? (i := 126) rfl), lw_t2 (List.mem_of_getElem? (i := 230) rfl), lw_t2 (List.mem_of_getElem? (i := 231) rfl)⟩
theorem lw_p27 : lw_okq (⟨"GleanersForGaps", "one", "()LGleanersForGaps$Node;"⟩, 40) := ⟨⟨by decide +kernel, by decide +kernel⟩, lw_t1 (List.mem_of_getElem? (i := 126) rfl), lw_t2 (List.mem_of_getElem? (i := 234) rfl), lw_t2 (List.mem_of_getElem? (i := 235) rfl)⟩
theorem lw_p28 : lw_okq (⟨"GleanersForGaps", "isSign", "(I)Z"⟩, 40) := ⟨⟨by decide +kernel, by decide +kernel⟩, lw_t1 (List.mem_of_getElem? (i := 126) rfl), lw_t3 (List.mem_of_getElem? (i := 21) rfl), lw_t3 (List.mem_of_getElem? (i := 22) rfl)⟩
theorem lw_p29 : lw_okq (⟨"java/lang/NullPointerException", "getExtendedNPEMessage", "()Ljava/lang/String;"⟩, 8) := ⟨⟨by decide +kernel, by decide +kernel⟩, lw_t3 (List.mem_of_getElem? (i := 88) rfl), lw_t3 (List.mem_of_getElem? (i := 86) rfl), lw_t3 (List.mem_of_getElem? (i := 87) rfl)⟩
theorem lw_p30 : lw_okq (⟨"java/lang/Throwable", "fillInStackTrace", "(I)Ljava/lang/Throwable;"⟩, 6) := ⟨⟨by decide +kernel, by decide +kernel⟩, lw_t3 (List.mem_of_getElem? (i := 100) rfl), lw_t3 (List.mem_of_getElem? (i := 98) rfl), lw_t3 (List.mem_of_getElem? (i := 99) rfl)⟩
theorem lw_p31 : lw_okq (⟨"GleanersForGaps", "firstText", "(Ljava/lang/String;)V"⟩, 40) := ⟨⟨by decide +kernel, by decide +kernel⟩, lw_t1 (List.mem_of_getElem? (i := 126) rfl), lw_t3 (List.mem_of_getElem? (i := 159) rfl), lw_t3 (List.mem_of_getElem? (i := 160) rfl)⟩
def lw_privs_2 : List (MethodName × Nat) := [(⟨"GleanersForGaps", "word", "()V"⟩, 40), (⟨"GleanersForGaps", "placeIn", "([Ljava/lang/String;)I"⟩, 40), (⟨"GleanersForGaps", "digits", "()V"⟩, 40), (⟨"GleanersForGaps", "isKey", "(I)Z"⟩, 40), (⟨"GleanersForGaps", "need", "(Z)V"⟩, 40), (⟨"GleanersForGaps", "either", "()LGleanersForGaps$Node;"⟩, 40), (⟨"GleanersForGaps", "both", "()LGleanersForGaps$Node;"⟩, 40), (⟨"GleanersForGaps", "not", "()LGleanersForGaps$Node;"⟩, 40), (⟨"GleanersForGaps", "openOne", "()V"⟩, 40), (⟨"GleanersForGaps", "plus", "()LGleanersForGaps$Node;"⟩, 40), (⟨"GleanersForGaps", "times", "()LGleanersForGaps$Node;"⟩, 40), (⟨"GleanersForGaps", "one", "()LGleanersForGaps$Node;"⟩, 40), (⟨"GleanersForGaps", "isSign", "(I)Z"⟩, 40), (⟨"java/lang/NullPointerException", "getExtendedNPEMessage", "()Ljava/lang/String;"⟩, 8), (⟨"java/lang/Throwable", "fillInStackTrace", "(I)Ljava/lang/Throwable;"⟩, 6), (⟨"GleanersForGaps", "firstText", "(Ljava/lang/String;)V"⟩, 40)]
theorem lw_r2 : ∀ q ∈ lw_privs_2, lw_okq q := List.forall_mem_cons.mpr ⟨lw_p16, List.forall_mem_cons.mpr ⟨lw_p17, List.forall_mem_cons.mpr ⟨lw_p18, List.forall_mem_cons.mpr ⟨lw_p19, List.forall_mem_cons.mpr ⟨lw_p20, List.forall_mem_cons.mpr ⟨lw_p21, List.forall_mem_cons.mpr ⟨lw_p22, List.forall_mem_cons.mpr ⟨lw_p23, List.forall_mem_cons.mpr ⟨lw_p24, List.forall_mem_cons.mpr ⟨lw_p25, List.forall_mem_cons.mpr ⟨lw_p26, List.forall_mem_cons.mpr ⟨lw_p27, List.forall_mem_cons.mpr ⟨lw_p28, List.forall_mem_cons.mpr ⟨lw_p29, List.forall_mem_cons.mpr ⟨lw_p30, List.forall_mem_cons.mpr ⟨lw_p31, fun _ h => absurd h List.not_mem_nil⟩⟩⟩⟩⟩⟩⟩⟩⟩⟩⟩⟩⟩⟩⟩⟩
theorem lw_p32 : lw_okq (⟨"GleanersForGaps", "isText", "(I)Z"⟩, 40) := ⟨⟨by decide +kernel, by decide +kernel⟩, lw_t1 (List.mem_of_getElem? (i := 126) rfl), lw_t4 (List.mem_of_getElem? (i := 54) rfl), lw_t4 (List.mem_of_getElem? (i := 55) rfl)⟩
theorem lw_p33 : lw_okq (⟨"GleanersForGaps", "takingOf", "(IIII)I"⟩, 40) := ⟨⟨by decide +kernel, by decide +kernel⟩, lw_t1 (List.mem_of_getElem? (i := 126) rfl), lw_t4 (List.mem_of_getElem? (i := 62) rfl), lw_t4 (List.mem_of_getElem? (i := 63) rfl)⟩
theorem lw_p34 : lw_okq (⟨"GleanersForGaps", "gleans", "(II)I"⟩, 40) := ⟨⟨by decide +kernel, by decide +kernel⟩, lw_t1 (List.mem_of_getElem? (i := 126) rfl), lw_t4 (List.mem_of_getElem? (i := 105) rfl), lw_t4 (List.mem_of_getElem? (i := 106) rfl)⟩
theorem lw_p35 : lw_okq (⟨"GleanersForGaps", "takesRun", "(IIIII)I"⟩, 40) := ⟨⟨by decide +kernel, by decide +kernel⟩, lw_t1 (List.mem_of_getElem? (i := 126) rfl), lw_t4 (List.mem_of_getElem? (i := 109) rfl), lw_t4 (List.mem_of_getElem? (i := 110) rfl)⟩
theorem lw_p36 : lw_okq (⟨"GleanersForGaps", "closes", "(III)V"⟩, 40) := ⟨⟨by decide +kernel, by decide +kernel⟩, lw_t1 (List.mem_of_getElem? (i := 126) rfl), lw_t4 (List.mem_of_getElem? (i := 113) rfl), lw_t4 (List.mem_of_getElem? (i := 114) rfl)⟩
theorem lw_p37 : lw_okq (⟨"GleanersForGaps", "isOrder", "(I)Z"⟩, 40) := ⟨⟨by decide +kernel, by decide +kernel⟩, lw_t1 (List.mem_of_getElem? (i := 126) rfl), lw_t4 (List.mem_of_getElem? (i := 121) rfl), lw_t4 (List.mem_of_getElem? (i := 122) rfl)⟩
theorem lw_p38 : lw_okq (⟨"GleanersForGaps", "passes", "()V"⟩, 40) := ⟨⟨by decide +kernel, by decide +kernel⟩, lw_t1 (List.mem_of_getElem? (i := 126) rfl), lw_t4 (List.mem_of_getElem? (i := 129) rfl), lw_t4 (List.mem_of_getElem? (i := 130) rfl)⟩
theorem lw_p39 : lw_okq (⟨"GleanersForGaps", "gapsAll", "()I"⟩, 40) := ⟨⟨by decide +kernel, by decide +kernel⟩, lw_t1 (List.mem_of_getElem? (i := 126) rfl), lw_t4 (List.mem_of_getElem? (i := 133) rfl), lw_t4 (List.mem_of_getElem? (i := 134) rfl)⟩
theorem lw_p40 : lw_okq (⟨"GleanersForGaps", "triesOf", "(III)I"⟩, 40) := ⟨⟨by decide +kernel, by decide +kernel⟩, lw_t1 (List.mem_of_getElem? (i := 126) rfl), lw_t4 (List.mem_of_getElem? (i := 141) rfl), lw_t4 (List.mem_of_getElem? (i := 142) rfl)⟩
theorem lw_p41 : lw_okq (⟨"GleanersForGaps", "keeps", "(I)V"⟩, 40) := ⟨⟨by decide +kernel, by decide +kernel⟩, lw_t1 (List.mem_of_getElem? (i := 126) rfl), lw_t4 (List.mem_of_getElem? (i := 145) rfl), lw_t4 (List.mem_of_getElem? (i := 146) rfl)⟩
theorem lw_p42 : lw_okq (⟨"GleanersForGaps", "laysBack", "(I)V"⟩, 40) := ⟨⟨by decide +kernel, by decide +kernel⟩, lw_t1 (List.mem_of_getElem? (i := 126) rfl), lw_t4 (List.mem_of_getElem? (i := 152) rfl), lw_t4 (List.mem_of_getElem? (i := 153) rfl)⟩
theorem lw_p43 : lw_okq (⟨"GleanersForGaps", "allGlean", "(I)V"⟩, 40) := ⟨⟨by decide +kernel, by decide +kernel⟩, lw_t1 (List.mem_of_getElem? (i := 126) rfl), lw_t4 (List.mem_of_getElem? (i := 161) rfl), lw_t4 (List.mem_of_getElem? (i := 162) rfl)⟩
theorem lw_p44 : lw_okq (⟨"GleanersForGaps", "goesThrough", "(II)V"⟩, 40) := ⟨⟨by decide +kernel, by decide +kernel⟩, lw_t1 (List.mem_of_getElem? (i := 126) rfl), lw_t4 (List.mem_of_getElem? (i := 169) rfl), lw_t4 (List.mem_of_getElem? (i := 170) rfl)⟩
theorem lw_p45 : lw_okq (⟨"GleanersForGaps", "orders", "(IIIIII)V"⟩, 40) := ⟨⟨by decide +kernel, by decide +kernel⟩, lw_t1 (List.mem_of_getElem? (i := 126) rfl), lw_t4 (List.mem_of_getElem? (i := 173) rfl), lw_t4 (List.mem_of_getElem? (i := 174) rfl)⟩
theorem lw_p46 : lw_okq (⟨"GleanersForGaps", "alone", "(IZ)I"⟩, 40) := ⟨⟨by decide +kernel, by decide +kernel⟩, lw_t1 (List.mem_of_getElem? (i := 126) rfl), lw_t4 (List.mem_of_getElem? (i := 181) rfl), lw_t4 (List.mem_of_getElem? (i := 182) rfl)⟩
theorem lw_p47 : lw_okq (⟨"GleanersForGaps", "bare", "(I)I"⟩, 40) := ⟨⟨by decide +kernel, by decide +kernel⟩, lw_t1 (List.mem_of_getElem? (i := 126) rfl), lw_t4 (List.mem_of_getElem? (i := 185) rfl), lw_t4 (List.mem_of_getElem? (i := 186) rfl)⟩
def lw_privs_3 : List (MethodName × Nat) := [(⟨"GleanersForGaps", "isText", "(I)Z"⟩, 40), (⟨"GleanersForGaps", "takingOf", "(IIII)I"⟩, 40), (⟨"GleanersForGaps", "gleans", "(II)I"⟩, 40), (⟨"GleanersForGaps", "takesRun", "(IIIII)I"⟩, 40), (⟨"GleanersForGaps", "closes", "(III)V"⟩, 40), (⟨"GleanersForGaps", "isOrder", "(I)Z"⟩, 40), (⟨"GleanersForGaps", "passes", "()V"⟩, 40), (⟨"GleanersForGaps", "gapsAll", "()I"⟩, 40), (⟨"GleanersForGaps", "triesOf", "(III)I"⟩, 40), (⟨"GleanersForGaps", "keeps", "(I)V"⟩, 40), (⟨"GleanersForGaps", "laysBack", "(I)V"⟩, 40), (⟨"GleanersForGaps", "allGlean", "(I)V"⟩, 40), (⟨"GleanersForGaps", "goesThrough", "(II)V"⟩, 40), (⟨"GleanersForGaps", "orders", "(IIIIII)V"⟩, 40), (⟨"GleanersForGaps", "alone", "(IZ)I"⟩, 40), (⟨"GleanersForGaps", "bare", "(I)I"⟩, 40)]
theorem lw_r3 : ∀ q ∈ lw_privs_3, lw_okq q := List.forall_mem_cons.mpr ⟨lw_p32, List.forall_mem_cons.mpr ⟨lw_p33, List.forall_mem_cons.mpr ⟨lw_p34, List.forall_mem_cons.mpr ⟨lw_p35, List.forall_mem_cons.mpr ⟨lw_p36, List.forall_mem_cons.mpr ⟨lw_p37, List.forall_mem_cons.mpr ⟨lw_p38, List.forall_mem_cons.mpr ⟨lw_p39, List.forall_mem_cons.mpr ⟨lw_p40, List.forall_mem_cons.mpr ⟨lw_p41, List.forall_mem_cons.mpr ⟨lw_p42, List.forall_mem_cons.mpr ⟨lw_p43, List.forall_mem_cons.mpr ⟨lw_p44, List.forall_mem_cons.mpr ⟨lw_p45, List.forall_mem_cons.mpr ⟨lw_p46, List.forall_mem_cons.mpr ⟨lw_p47, fun _ h => absurd h List.not_mem_nil⟩⟩⟩⟩⟩⟩⟩⟩⟩⟩⟩⟩⟩⟩⟩⟩
theorem lw_p48 : lw_okq (⟨"GleanersForGaps", "otherwise", "(Ljava/lang/Object;II)I"⟩, 40) := ⟨⟨by decide +kernel, by decide +kernel⟩, lw_t1 (List.mem_of_getElem? (i := 126) rfl), lw_t4 (List.mem_of_getElem? (i := 222) rfl), lw_t4 (List.mem_of_getElem? (i := 223) rfl)⟩
theorem lw_p49 : lw_okq (⟨"GleanersForGaps", "kindsOf", "(Ljava/lang/Object;II)I"⟩, 40) := ⟨⟨by decide +kernel, by decide +kernel⟩, lw_t1 (List.mem_of_getElem? (i := 126) rfl), lw_t5 (List.mem_of_getElem? (i := 13) rfl), lw_t5 (List.mem_of_getElem? (i := 14) rfl)⟩
theorem lw_p50 : lw_okq (⟨"GleanersForGaps", "isSoAs", "(Ljava/lang/Object;III)Z"⟩, 40) := ⟨⟨by decide +kernel, by decide +kernel⟩, lw_t1 (List.mem_of_getElem? (i := 126) rfl), lw_t5 (List.mem_of_getElem? (i := 17) rfl), lw_t5 (List.mem_of_getElem? (i := 18) rfl)⟩
theorem lw_p51 : lw_okq (⟨"GleanersForGaps", "numbersOf", "(Ljava/lang/Object;II)I"⟩, 40) := ⟨⟨by decide +kernel, by decide +kernel⟩, lw_t1 (List.mem_of_getElem? (i := 126) rfl), lw_t5 (List.mem_of_getElem? (i := 31) rfl), lw_t5 (List.mem_of_getElem? (i := 32) rfl)⟩
theorem lw_p52 : lw_okq (⟨"GleanersForGaps", "isSoBy", "(Ljava/lang/Object;IIII)Z"⟩, 40) := ⟨⟨by decide +kernel, by decide +kernel⟩, lw_t1 (List.mem_of_getElem? (i := 126) rfl), lw_t5 (List.mem_of_getElem? (i := 35) rfl), lw_t5 (List.mem_of_getElem? (i := 36) rfl)⟩
theorem lw_p53 : lw_okq (⟨"GleanersForGaps", "apronsOf", "(Ljava/lang/Object;IIZ)I"⟩, 40) := ⟨⟨by decide +kernel, by decide +kernel⟩, lw_t1 (List.mem_of_getElem? (i := 126) rfl), lw_t5 (List.mem_of_getElem? (i := 39) rfl), lw_t5 (List.mem_of_getElem? (i := 40) rfl)⟩
theorem lw_p54 : lw_okq (⟨"GleanersForGaps", "textsOf", "(Ljava/lang/Object;II)I"⟩, 40) := ⟨⟨by decide +kernel, by decide +kernel⟩, lw_t1 (List.mem_of_getElem? (i := 126) rfl), lw_t5 (List.mem_of_getElem? (i := 43) rfl), lw_t5 (List.mem_of_getElem? (i := 44) rfl)⟩
theorem lw_p55 : lw_okq (⟨"GleanersForGaps", "whoseOf", "(Ljava/lang/Object;I)I"⟩, 40) := ⟨⟨by decide +kernel, by decide +kernel⟩, lw_t1 (List.mem_of_getElem? (i := 126) rfl), lw_t5 (List.mem_of_getElem? (i := 47) rfl), lw_t5 (List.mem_of_getElem? (i := 48) rfl)⟩
theorem lw_p56 : lw_okq (⟨"GleanersForGaps", "rowsOf", "(Ljava/lang/Object;I)I"⟩, 40) := ⟨⟨by decide +kernel, by decide +kernel⟩, lw_t1 (List.mem_of_getElem? (i := 126) rfl), lw_t5 (List.mem_of_getElem? (i := 51) rfl), lw_t5 (List.mem_of_getElem? (i := 52) rfl)⟩
theorem lw_p57 : lw_okq (⟨"GleanersForGaps", "takenDrawn", "(II)I"⟩, 40) := ⟨⟨by decide +kernel, by decide +kernel⟩, lw_t1 (List.mem_of_getElem? (i := 126) rfl), lw_t5 (List.mem_of_getElem? (i := 144) rfl), lw_t5 (List.mem_of_getElem? (i := 145) rfl)⟩
theorem lw_p58 : lw_okq (⟨"GleanersForGaps", "came", "(Ljava/lang/Object;III)I"⟩, 40) := ⟨⟨by decide +kernel, by decide +kernel⟩, lw_t1 (List.mem_of_getElem? (i := 126) rfl), lw_t5 (List.mem_of_getElem? (i := 189) rfl), lw_t5 (List.mem_of_getElem? (i := 190) rfl)⟩
theorem lw_p59 : lw_okq (⟨"GleanersForGapsModel", "spell", "(IIIIIIIII)V"⟩, 47) := ⟨⟨by decide +kernel, by decide +kernel⟩, lw_t5 (List.mem_of_getElem? (i := 201) rfl), lw_t5 (List.mem_of_getElem? (i := 207) rfl), lw_t5 (List.mem_of_getElem? (i := 208) rfl)⟩
theorem lw_p60 : lw_okq (⟨"GleanersForGapsModel", "leftOf", "(I)I"⟩, 47) := ⟨⟨by decide +kernel, by decide +kernel⟩, lw_t5 (List.mem_of_getElem? (i := 201) rfl), lw_t6 (List.mem_of_getElem? (i := 125) rfl), lw_t6 (List.mem_of_getElem? (i := 126) rfl)⟩
theorem lw_p61 : lw_okq (⟨"GleanersForGapsModel", "isOne", "(I)Z"⟩, 47) := ⟨⟨by decide +kernel, by decide +kernel⟩, lw_t5 (List.mem_of_getElem? (i := 201) rfl), lw_t6 (List.mem_of_getElem? (i := 137) rfl), lw_t6 (List.mem_of_getElem? (i := 138) rfl)⟩
theorem lw_p62 : lw_okq (⟨"GleanersForGapsModel", "keepsOf", "(I)I"⟩, 47) := ⟨⟨by decide +kernel, by decide +kernel⟩, lw_t5 (List.mem_of_getElem? (i := 201) rfl), lw_t6 (List.mem_of_getElem? (i := 149) rfl), lw_t6 (List.mem_of_getElem? (i := 150) rfl)⟩
theorem lw_p63 : lw_okq (⟨"GleanersForGapsModel", "says", "(IIIIII)I"⟩, 47) := ⟨⟨by decide +kernel, by decide +kernel⟩, lw_t5 (List.mem_of_getElem? (i := 201) rfl), lw_t6 (List.mem_of_getElem? (i := 153) rfl), lw_t6 (List.mem_of_getElem? (i := 154) rfl)⟩
def lw_privs_4 : List (MethodName × Nat) := [(⟨"GleanersForGaps", "otherwise", "(Ljava/lang/Object;II)I"⟩, 40), (⟨"GleanersForGaps", "kindsOf", "(Ljava/lang/Object;II)I"⟩, 40), (⟨"GleanersForGaps", "isSoAs", "(Ljava/lang/Object;III)Z"⟩, 40), (⟨"GleanersForGaps", "numbersOf", "(Ljava/lang/Object;II)I"⟩, 40), (⟨"GleanersForGaps", "isSoBy", "(Ljava/lang/Object;IIII)Z"⟩, 40), (⟨"GleanersForGaps", "apronsOf", "(Ljava/lang/Object;IIZ)I"⟩, 40), (⟨"GleanersForGaps", "textsOf", "(Ljava/lang/Object;II)I"⟩, 40), (⟨"GleanersForGaps", "whoseOf", "(Ljava/lang/Object;I)I"⟩, 40), (⟨"GleanersForGaps", "rowsOf", "(Ljava/lang/Object;I)I"⟩, 40), (⟨"GleanersForGaps", "takenDrawn", "(II)I"⟩, 40), (⟨"GleanersForGaps", "came", "(Ljava/lang/Object;III)I"⟩, 40), (⟨"GleanersForGapsModel", "spell", "(IIIIIIIII)V"⟩, 47), (⟨"GleanersForGapsModel", "leftOf", "(I)I"⟩, 47), (⟨"GleanersForGapsModel", "isOne", "(I)Z"⟩, 47), (⟨"GleanersForGapsModel", "keepsOf", "(I)I"⟩, 47), (⟨"GleanersForGapsModel", "says", "(IIIIII)I"⟩, 47)]
theorem lw_r4 : ∀ q ∈ lw_privs_4, lw_okq q := List.forall_mem_cons.mpr ⟨lw_p48, List.forall_mem_cons.mpr ⟨lw_p49, List.forall_mem_cons.mpr ⟨lw_p50, List.forall_mem_cons.mpr ⟨lw_p51, List.forall_mem_cons.mpr ⟨lw_p52, List.forall_mem_cons.mpr ⟨lw_p53, List.forall_mem_cons.mpr ⟨lw_p54, List.forall_mem_cons.mpr ⟨lw_p55, List.forall_mem_cons.mpr ⟨lw_p56, List.forall_mem_cons.mpr ⟨lw_p57, List.forall_mem_cons.mpr ⟨lw_p58, List.forall_mem_cons.mpr ⟨lw_p59, List.forall_mem_cons.mpr ⟨lw_p60, List.forall_mem_cons.mpr ⟨lw_p61, List.forall_mem_cons.mpr ⟨lw_p62, List.forall_mem_cons.mpr ⟨lw_p63, fun _ h => absurd h List.not_mem_nil⟩⟩⟩⟩⟩⟩⟩⟩⟩⟩⟩⟩⟩⟩⟩⟩
theorem lw_p64 : lw_okq (⟨"GleanersForGapsModel", "read", "(II)I"⟩, 47) := ⟨⟨by decide +kernel, by decide +kernel⟩, lw_t5 (List.mem_of_getElem? (i := 201) rfl), lw_t6 (List.mem_of_getElem? (i := 157) rfl), lw_t6 (List.mem_of_getElem? (i := 158) rfl)⟩
theorem lw_p65 : lw_okq (⟨"GleanersForGapsModel", "next", "()V"⟩, 47) := ⟨⟨by decide +kernel, by decide +kernel⟩, lw_t5 (List.mem_of_getElem? (i := 201) rfl), lw_t6 (List.mem_of_getElem? (i := 161) rfl), lw_t6 (List.mem_of_getElem? (i := 162) rfl)⟩
theorem lw_p66 : lw_okq (⟨"GleanersForGapsModel", "byteAt", "(I)I"⟩, 47) := ⟨⟨by decide +kernel, by decide +kernel⟩, lw_t5 (List.mem_of_getElem? (i := 201) rfl), lw_t6 (List.mem_of_getElem? (i := 165) rfl), lw_t6 (List.mem_of_getElem? (i := 166) rfl)⟩
theorem lw_p67 : lw_okq (⟨"GleanersForGapsModel", "isWord", "(IIIIIIII)Z"⟩, 47) := ⟨⟨by decide +kernel, by decide +kernel⟩, lw_t5 (List.mem_of_getElem? (i := 201) rfl), lw_t6 (List.mem_of_getElem? (i := 173) rfl), lw_t6 (List.mem_of_getElem? (i := 174) rfl)⟩
theorem lw_p68 : lw_okq (⟨"GleanersForGapsModel", "isLetter", "(II)Z"⟩, 47) := ⟨⟨by decide +kernel, by decide +kernel⟩, lw_t5 (List.mem_of_getElem? (i := 201) rfl), lw_t6 (List.mem_of_getElem? (i := 177) rfl), lw_t6 (List.mem_of_getElem? (i := 178) rfl)⟩
theorem lw_p69 : lw_okq (⟨"GleanersForGapsModel", "part", "(Z)I"⟩, 47) := ⟨⟨by decide +kernel, by decide +kernel⟩, lw_t5 (List.mem_of_getElem? (i := 201) rfl), lw_t6 (List.mem_of_getElem? (i := 181) rfl), lw_t6 (List.mem_of_getElem? (i := 182) rfl)⟩
theorem lw_p70 : lw_okq (⟨"GleanersForGapsModel", "fail", "()V"⟩, 47) := ⟨⟨by decide +kernel, by decide +kernel⟩, lw_t5 (List.mem_of_getElem? (i := 201) rfl), lw_t6 (List.mem_of_getElem? (i := 185) rfl), lw_t6 (List.mem_of_getElem? (i := 186) rfl)⟩
theorem lw_p71 : lw_okq (⟨"GleanersForGapsModel", "either", "()I"⟩, 47) := ⟨⟨by decide +kernel, by decide +kernel⟩, lw_t5 (List.mem_of_getElem? (i := 201) rfl), lw_t6 (List.mem_of_getElem? (i := 189) rfl), lw_t6 (List.mem_of_getElem? (i := 190) rfl)⟩
theorem lw_p72 : lw_okq (⟨"GleanersForGapsModel", "both", "()I"⟩, 47) := ⟨⟨by decide +kernel, by decide +kernel⟩, lw_t5 (List.mem_of_getElem? (i := 201) rfl), lw_t6 (List.mem_of_getElem? (i := 193) rfl), lw_t6 (List.mem_of_getElem? (i := 194) rfl)⟩
theorem lw_p73 : lw_okq (⟨"GleanersForGapsModel", "not", "()I"⟩, 47) := ⟨⟨by decide +kernel, by decide +kernel⟩, lw_t5 (List.mem_of_getElem? (i := 201) rfl), lw_t6 (List.mem_of_getElem? (i := 197) rfl), lw_t6 (List.mem_of_getElem? (i := 198) rfl)⟩
theorem lw_p74 : lw_okq (⟨"GleanersForGapsModel", "opens", "()Z"⟩, 47) := ⟨⟨by decide +kernel, by decide +kernel⟩, lw_t5 (List.mem_of_getElem? (i := 201) rfl), lw_t6 (List.mem_of_getElem? (i := 201) rfl), lw_t6 (List.mem_of_getElem? (i := 202) rfl)⟩
theorem lw_p75 : lw_okq (⟨"GleanersForGapsModel", "added", "()I"⟩, 47) := ⟨⟨by decide +kernel, by decide +kernel⟩, lw_t5 (List.mem_of_getElem? (i := 201) rfl), lw_t6 (List.mem_of_getElem? (i := 205) rfl), lw_t6 (List.mem_of_getElem? (i := 206) rfl)⟩
theorem lw_p76 : lw_okq (⟨"GleanersForGapsModel", "term", "()I"⟩, 47) := ⟨⟨by decide +kernel, by decide +kernel⟩, lw_t5 (List.mem_of_getElem? (i := 201) rfl), lw_t6 (List.mem_of_getElem? (i := 209) rfl), lw_t6 (List.mem_of_getElem? (i := 210) rfl)⟩
theorem lw_p77 : lw_okq (⟨"GleanersForGapsModel", "atom", "()I"⟩, 47) := ⟨⟨by decide +kernel, by decide +kernel⟩, lw_t5 (List.mem_of_getElem? (i := 201) rfl), lw_t6 (List.mem_of_getElem? (i := 213) rfl), lw_t6 (List.mem_of_getElem? (i := 214) rfl)⟩
theorem lw_p78 : lw_okq (⟨"GleanersForGapsModel", "isSign", "(I)Z"⟩, 47) := ⟨⟨by decide +kernel, by decide +kernel⟩, lw_t5 (List.mem_of_getElem? (i := 201) rfl), lw_t6 (List.mem_of_getElem? (i := 217) rfl), lw_t6 (List.mem_of_getElem? (i := 218) rfl)⟩
theorem lw_p79 : lw_okq (⟨"GleanersForGapsModel", "name", "()I"⟩, 47) := ⟨⟨by decide +kernel, by decide +kernel⟩, lw_t5 (List.mem_of_getElem? (i := 201) rfl), lw_t6 (List.mem_of_getElem? (i := 221) rfl), lw_t6 (List.mem_of_getElem? (i := 222) rfl)⟩
def lw_privs_5 : List (MethodName × Nat) := [(⟨"GleanersForGapsModel", "read", "(II)I"⟩, 47), (⟨"GleanersForGapsModel", "next", "()V"⟩, 47), (⟨"GleanersForGapsModel", "byteAt", "(I)I"⟩, 47), (⟨"GleanersForGapsModel", "isWord", "(IIIIIIII)Z"⟩, 47), (⟨"GleanersForGapsModel", "isLetter", "(II)Z"⟩, 47), (⟨"GleanersForGapsModel", "part", "(Z)I"⟩, 47), (⟨"GleanersForGapsModel", "fail", "()V"⟩, 47), (⟨"GleanersForGapsModel", "either", "()I"⟩, 47), (⟨"GleanersForGapsModel", "both", "()I"⟩, 47), (⟨"GleanersForGapsModel", "not", "()I"⟩, 47), (⟨"GleanersForGapsModel", "opens", "()Z"⟩, 47), (⟨"GleanersForGapsModel", "added", "()I"⟩, 47), (⟨"GleanersForGapsModel", "term", "()I"⟩, 47), (⟨"GleanersForGapsModel", "atom", "()I"⟩, 47), (⟨"GleanersForGapsModel", "isSign", "(I)Z"⟩, 47), (⟨"GleanersForGapsModel", "name", "()I"⟩, 47)]
theorem lw_r5 : ∀ q ∈ lw_privs_5, lw_okq q := List.forall_mem_cons.mpr ⟨lw_p64, List.forall_mem_cons.mpr ⟨lw_p65, List.forall_mem_cons.mpr ⟨lw_p66, List.forall_mem_cons.mpr ⟨lw_p67, List.forall_mem_cons.mpr ⟨lw_p68, List.forall_mem_cons.mpr ⟨lw_p69, List.forall_mem_cons.mpr ⟨lw_p70, List.forall_mem_cons.mpr ⟨lw_p71, List.forall_mem_cons.mpr ⟨lw_p72, List.forall_mem_cons.mpr ⟨lw_p73, List.forall_mem_cons.mpr ⟨lw_p74, List.forall_mem_cons.mpr ⟨lw_p75, List.forall_mem_cons.mpr ⟨lw_p76, List.forall_mem_cons.mpr ⟨lw_p77, List.forall_mem_cons.mpr ⟨lw_p78, List.forall_mem_cons.mpr ⟨lw_p79, fun _ h => absurd h List.not_mem_nil⟩⟩⟩⟩⟩⟩⟩⟩⟩⟩⟩⟩⟩⟩⟩⟩
theorem lw_p80 : lw_okq (⟨"GleanersForGapsModel", "runsOf", "(I)I"⟩, 47) := ⟨⟨by decide +kernel, by decide +kernel⟩, lw_t5 (List.mem_of_getElem? (i := 201) rfl), lw_t6 (List.mem_of_getElem? (i := 230) rfl), lw_t6 (List.mem_of_getElem? (i := 231) rfl)⟩
theorem lw_p81 : lw_okq (⟨"GleanersForGapsModel", "isGap", "(II)Z"⟩, 47) := ⟨⟨by decide +kernel, by decide +kernel⟩, lw_t5 (List.mem_of_getElem? (i := 201) rfl), lw_t6 (List.mem_of_getElem? (i := 234) rfl), lw_t6 (List.mem_of_getElem? (i := 235) rfl)⟩
theorem lw_p82 : lw_okq (⟨"GleanersForGapsModel", "greatestOf", "(I)I"⟩, 47) := ⟨⟨by decide +kernel, by decide +kernel⟩, lw_t5 (List.mem_of_getElem? (i := 201) rfl), lw_t6 (List.mem_of_getElem? (i := 238) rfl), lw_t6 (List.mem_of_getElem? (i := 239) rfl)⟩
theorem lw_p83 : lw_okq (⟨"GleanersForGapsModel", "shakenOf", "(I)I"⟩, 47) := ⟨⟨by decide +kernel, by decide +kernel⟩, lw_t5 (List.mem_of_getElem? (i := 201) rfl), lw_t7 (List.mem_of_getElem? (i := 2) rfl), lw_t7 (List.mem_of_getElem? (i := 3) rfl)⟩
theorem lw_p84 : lw_okq (⟨"GleanersForGapsModel", "lays", "(III)V"⟩, 47) := ⟨⟨by decide +kernel, by decide +kernel⟩, lw_t5 (List.mem_of_getElem? (i := 201) rfl), lw_t7 (List.mem_of_getElem? (i := 6) rfl), lw_t7 (List.mem_of_getElem? (i := 7) rfl)⟩
theorem lw_p85 : lw_okq (⟨"GleanersForGapsModel", "takesOf", "(IIII)I"⟩, 47) := ⟨⟨by decide +kernel, by decide +kernel⟩, lw_t5 (List.mem_of_getElem? (i := 201) rfl), lw_t7 (List.mem_of_getElem? (i := 38) rfl), lw_t7 (List.mem_of_getElem? (i := 39) rfl)⟩
theorem lw_p86 : lw_okq (⟨"GleanersForGapsModel", "gleans", "(II)I"⟩, 47) := ⟨⟨by decide +kernel, by decide +kernel⟩, lw_t5 (List.mem_of_getElem? (i := 201) rfl), lw_t7 (List.mem_of_getElem? (i := 46) rfl), lw_t7 (List.mem_of_getElem? (i := 47) rfl)⟩
theorem lw_p87 : lw_okq (⟨"GleanersForGapsModel", "closes", "(III)V"⟩, 47) := ⟨⟨by decide +kernel, by decide +kernel⟩, lw_t5 (List.mem_of_getElem? (i := 201) rfl), lw_t7 (List.mem_of_getElem? (i := 50) rfl), lw_t7 (List.mem_of_getElem? (i := 51) rfl)⟩
theorem lw_p88 : lw_okq (⟨"GleanersForGapsModel", "isOrder", "(I)Z"⟩, 47) := ⟨⟨by decide +kernel, by decide +kernel⟩, lw_t5 (List.mem_of_getElem? (i := 201) rfl), lw_t7 (List.mem_of_getElem? (i := 58) rfl), lw_t7 (List.mem_of_getElem? (i := 59) rfl)⟩
theorem lw_p89 : lw_okq (⟨"GleanersForGapsModel", "passes", "()V"⟩, 47) := ⟨⟨by decide +kernel, by decide +kernel⟩, lw_t5 (List.mem_of_getElem? (i := 201) rfl), lw_t7 (List.mem_of_getElem? (i := 66) rfl), lw_t7 (List.mem_of_getElem? (i := 67) rfl)⟩
theorem lw_p90 : lw_okq (⟨"GleanersForGapsModel", "gapsAll", "()I"⟩, 47) := ⟨⟨by decide +kernel, by decide +kernel⟩, lw_t5 (List.mem_of_getElem? (i := 201) rfl), lw_t7 (List.mem_of_getElem? (i := 70) rfl), lw_t7 (List.mem_of_getElem? (i := 71) rfl)⟩
theorem lw_p91 : lw_okq (⟨"GleanersForGapsModel", "triesOf", "(III)I"⟩, 47) := ⟨⟨by decide +kernel, by decide +kernel⟩, lw_t5 (List.mem_of_getElem? (i := 201) rfl), lw_t7 (List.mem_of_getElem? (i := 78) rfl), lw_t7 (List.mem_of_getElem? (i := 79) rfl)⟩
theorem lw_p92 : lw_okq (⟨"GleanersForGapsModel", "laysAside", "()V"⟩, 47) := ⟨⟨by decide +kernel, by decide +kernel⟩, lw_t5 (List.mem_of_getElem? (i := 201) rfl), lw_t7 (List.mem_of_getElem? (i := 82) rfl), lw_t7 (List.mem_of_getElem? (i := 83) rfl)⟩
theorem lw_p93 : lw_okq (⟨"GleanersForGapsModel", "laysBack", "()V"⟩, 47) := ⟨⟨by decide +kernel, by decide +kernel⟩, lw_t5 (List.mem_of_getElem? (i := 201) rfl), lw_t7 (List.mem_of_getElem? (i := 86) rfl), lw_t7 (List.mem_of_getElem? (i := 87) rfl)⟩
theorem lw_p94 : lw_okq (⟨"GleanersForGapsModel", "gleanNights", "(II)V"⟩, 47) := ⟨⟨by decide +kernel, by decide +kernel⟩, lw_t5 (List.mem_of_getElem? (i := 201) rfl), lw_t7 (List.mem_of_getElem? (i := 95) rfl), lw_t7 (List.mem_of_getElem? (i := 96) rfl)⟩
theorem lw_p95 : lw_okq (⟨"GleanersForGapsModel", "orders", "(IIIII)V"⟩, 47) := ⟨⟨by decide +kernel, by decide +kernel⟩, lw_t5 (List.mem_of_getElem? (i := 201) rfl), lw_t7 (List.mem_of_getElem? (i := 103) rfl), lw_t7 (List.mem_of_getElem? (i := 104) rfl)⟩
def lw_privs_6 : List (MethodName × Nat) := [(⟨"GleanersForGapsModel", "runsOf", "(I)I"⟩, 47), (⟨"GleanersForGapsModel", "isGap", "(II)Z"⟩, 47), (⟨"GleanersForGapsModel", "greatestOf", "(I)I"⟩, 47), (⟨"GleanersForGapsModel", "shakenOf", "(I)I"⟩, 47), (⟨"GleanersForGapsModel", "lays", "(III)V"⟩, 47), (⟨"GleanersForGapsModel", "takesOf", "(IIII)I"⟩, 47), (⟨"GleanersForGapsModel", "gleans", "(II)I"⟩, 47), (⟨"GleanersForGapsModel", "closes", "(III)V"⟩, 47), (⟨"GleanersForGapsModel", "isOrder", "(I)Z"⟩, 47), (⟨"GleanersForGapsModel", "passes", "()V"⟩, 47), (⟨"GleanersForGapsModel", "gapsAll", "()I"⟩, 47), (⟨"GleanersForGapsModel", "triesOf", "(III)I"⟩, 47), (⟨"GleanersForGapsModel", "laysAside", "()V"⟩, 47), (⟨"GleanersForGapsModel", "laysBack", "()V"⟩, 47), (⟨"GleanersForGapsModel", "gleanNights", "(II)V"⟩, 47), (⟨"GleanersForGapsModel", "orders", "(IIIII)V"⟩, 47)]
theorem lw_r6 : ∀ q ∈ lw_privs_6, lw_okq q := List.forall_mem_cons.mpr ⟨lw_p80, List.forall_mem_cons.mpr ⟨lw_p81, List.forall_mem_cons.mpr ⟨lw_p82, List.forall_mem_cons.mpr ⟨lw_p83, List.forall_mem_cons.mpr ⟨lw_p84, List.forall_mem_cons.mpr ⟨lw_p85, List.forall_mem_cons.mpr ⟨lw_p86, List.forall_mem_cons.mpr ⟨lw_p87, List.forall_mem_cons.mpr ⟨lw_p88, List.forall_mem_cons.mpr ⟨lw_p89, List.forall_mem_cons.mpr ⟨lw_p90, List.forall_mem_cons.mpr ⟨lw_p91, List.forall_mem_cons.mpr ⟨lw_p92, List.forall_mem_cons.mpr ⟨lw_p93, List.forall_mem_cons.mpr ⟨lw_p94, List.forall_mem_cons.mpr ⟨lw_p95, fun _ h => absurd h List.not_mem_nil⟩⟩⟩⟩⟩⟩⟩⟩⟩⟩⟩⟩⟩⟩⟩⟩
theorem lw_p96 : lw_okq (⟨"GleanersForGapsModel", "bareOf", "(I)I"⟩, 47) := ⟨⟨by decide +kernel, by decide +kernel⟩, lw_t5 (List.mem_of_getElem? (i := 201) rfl), lw_t7 (List.mem_of_getElem? (i := 112) rfl), lw_t7 (List.mem_of_getElem? (i := 113) rfl)⟩
theorem lw_p97 : lw_okq (⟨"GleanersForGapsModel", "aloneOf", "(II)I"⟩, 47) := ⟨⟨by decide +kernel, by decide +kernel⟩, lw_t5 (List.mem_of_getElem? (i := 201) rfl), lw_t7 (List.mem_of_getElem? (i := 116) rfl), lw_t7 (List.mem_of_getElem? (i := 117) rfl)⟩
theorem lw_p98 : lw_okq (⟨"GleanersForGapsModel", "firstOther", "(III)I"⟩, 47) := ⟨⟨by decide +kernel, by decide +kernel⟩, lw_t5 (List.mem_of_getElem? (i := 201) rfl), lw_t7 (List.mem_of_getElem? (i := 144) rfl), lw_t7 (List.mem_of_getElem? (i := 145) rfl)⟩
theorem lw_p99 : lw_okq (⟨"GleanersForGapsModel", "likeSet", "(II)I"⟩, 47) := ⟨⟨by decide +kernel, by decide +kernel⟩, lw_t5 (List.mem_of_getElem? (i := 201) rfl), lw_t7 (List.mem_of_getElem? (i := 148) rfl), lw_t7 (List.mem_of_getElem? (i := 149) rfl)⟩
theorem lw_p100 : lw_okq (⟨"GleanersForGapsModel", "rowSet", "(II)I"⟩, 47) := ⟨⟨by decide +kernel, by decide +kernel⟩, lw_t5 (List.mem_of_getElem? (i := 201) rfl), lw_t7 (List.mem_of_getElem? (i := 152) rfl), lw_t7 (List.mem_of_getElem? (i := 153) rfl)⟩
theorem lw_p101 : lw_okq (⟨"GleanersForGapsModel", "takenDrawn", "(II)I"⟩, 47) := ⟨⟨by decide +kernel, by decide +kernel⟩, lw_t5 (List.mem_of_getElem? (i := 201) rfl), lw_t7 (List.mem_of_getElem? (i := 169) rfl), lw_t7 (List.mem_of_getElem? (i := 170) rfl)⟩
def lw_privs_7 : List (MethodName × Nat) := [(⟨"GleanersForGapsModel", "bareOf", "(I)I"⟩, 47), (⟨"GleanersForGapsModel", "aloneOf", "(II)I"⟩, 47), (⟨"GleanersForGapsModel", "firstOther", "(III)I"⟩, 47), (⟨"GleanersForGapsModel", "likeSet", "(II)I"⟩, 47), (⟨"GleanersForGapsModel", "rowSet", "(II)I"⟩, 47), (⟨"GleanersForGapsModel", "takenDrawn", "(II)I"⟩, 47)]
theorem lw_r7 : ∀ q ∈ lw_privs_7, lw_okq q := List.forall_mem_cons.mpr ⟨lw_p96, List.forall_mem_cons.mpr ⟨lw_p97, List.forall_mem_cons.mpr ⟨lw_p98, List.forall_mem_cons.mpr ⟨lw_p99, List.forall_mem_cons.mpr ⟨lw_p100, List.forall_mem_cons.mpr ⟨lw_p101, fun _ h => absurd h List.not_mem_nil⟩⟩⟩⟩⟩⟩
def lw_privs : List (MethodName × Nat) := lw_privs_1 ++ (lw_privs_2 ++ (lw_privs_3 ++ (lw_privs_4 ++ (lw_privs_5 ++ (lw_privs_6 ++ (lw_privs_7))))))
def lw_tbl : List Cond := k2_sels lw_privs ++ tables_1
theorem lw_privs_ok : ∀ q ∈ lw_privs, lw_okq q := by
  show ∀ q ∈ lw_privs_1 ++ (lw_privs_2 ++ (lw_privs_3 ++ (lw_privs_4 ++ (lw_privs_5 ++ (lw_privs_6 ++ (lw_privs_7)))))), lw_okq q
  exact List.forall_mem_append.mpr ⟨lw_r1, List.forall_mem_append.mpr ⟨lw_r2, List.forall_mem_append.mpr ⟨lw_r3, List.forall_mem_append.mpr ⟨lw_r4, List.forall_mem_append.mpr ⟨lw_r5, List.forall_mem_append.mpr ⟨lw_r6, lw_r7⟩⟩⟩⟩⟩⟩
-- ===== ONE list of words for every method: the tables' words that hold all through a run =====
def lw_all : List Cond := lw_tbl.filter goodWord
/-- a word of the tables by its place: claim/WORDS.tsv -/
theorem lw_w {w : Cond} (i : Nat) (h : lw_tbl[i]? = some w) (g : goodWord w = true) : w ∈ lw_all := List.mem_filter.mpr ⟨List.mem_of_getElem? h, g⟩
theorem lw_all_tbl {w : Cond} (h : w ∈ lw_all) : w ∈ lw_tbl := (List.mem_filter.mp h).1
theorem lw_self : GoodIn lw_all lw_all := fun w h => ⟨h, good_of_word (List.mem_filter.mp h).2⟩
/-- a class's field words, by their places -/
theorem lw_in (ws : List Cond) (ps : List Nat) (hp : ws = ps.filterMap (fun i => lw_tbl[i]?)) (hg : ws.all goodWord = true) : ∀ w ∈ ws, w ∈ lw_all := by
  intro w h
  have h1 := List.all_eq_true.mp hg w h
  rw [hp] at h
  obtain ⟨i, -, hi⟩ := List.mem_filterMap.mp h
  exact lw_w i hi h1
/-- the words of a contract for the method y with code b, L locals, answer r -/
abbrev ws_ (y : MethodName) (b : ByteArray) (L : Nat) (r : Option FieldType) : List Cond := Cond.code y b L r :: lw_all
theorem lw_meth {y : MethodName} {b : ByteArray} {L : Nat} {r : Option FieldType} (h : Cond.code y b L r ∈ lw_all) : GoodIn lw_all (ws_ y b L r) := by
  intro w hw
  rcases List.mem_cons.mp hw with e | e
  · rw [e]
    exact lw_self _ h
  · exact lw_self _ e
theorem lw_app {a c : List Cond} (ha : ∀ w ∈ a, w ∈ lw_all) (hc : GoodIn lw_all c) : GoodIn lw_all (a ++ c) := by
  intro w hw
  rcases List.mem_append.mp hw with e | e
  · exact lw_self w (ha w e)
  · exact hc w e
/-- what a call through an object asks: cwV n hts (lw_V ..) -/
theorem lw_V {own : String} {idx : Nat} {C : String} {y : MethodName} {b : ByteArray} {L : Nat} {r : Option FieldType} (h1 : Cond.methodLink own idx y ∈ lw_all) (h2 : Cond.instanceMethod y ∈ lw_all) (h3 : Cond.selects C y y ∈ lw_all) (h4 : Cond.initialized C ∈ lw_all) (h5 : Cond.code y b L r ∈ lw_all) : GoodIn lw_all (wsV own idx C y (ws_ y b L r)) := by
  refine lw_app ?_ (lw_meth h5)
  intro w hw
  simp only [List.mem_cons, List.not_mem_nil, or_false] at hw
  rcases hw with e | e | e | e
  · rw [e]; exact h1
  · rw [e]; exact h2
  · rw [e]; exact h3
  · rw [e]; exact h4
/-- what a static call asks: va_cwS n hts (lw_S ..) -/
theorem lw_S {own : String} {idx : Nat} {y : MethodName} {b : ByteArray} {L : Nat} {r : Option FieldType} (h1 : Cond.methodLink own idx y ∈ lw_all) (h2 : Cond.static y ∈ lw_all) (h3 : Cond.initialized y.cls ∈ lw_all) (h4 : Cond.code y b L r ∈ lw_all) : GoodIn lw_all (va_wsS own idx y (ws_ y b L r)) := by
  refine lw_app ?_ (lw_meth h4)
  intro w hw
  simp only [List.mem_cons, List.not_mem_nil, or_false] at hw
  rcases hw with e | e | e
  · rw [e]; exact h1
  · rw [e]; exact h2
  · rw [e]; exact h3
/-- the words of a contract for a method WITH HANDLERS (hh: its table) -/
abbrev wsW_ (y : MethodName) (b : ByteArray) (L : Nat) (r : Option FieldType) (hh : List (Nat × Nat × Nat × Nat)) : List Cond := Cond.codeWith y b L r hh :: lw_all
theorem lw_methW {y : MethodName} {b : ByteArray} {L : Nat} {r : Option FieldType} {hh : List (Nat × Nat × Nat × Nat)} (h : Cond.codeWith y b L r hh ∈ lw_all) : GoodIn lw_all (wsW_ y b L r hh) := by
  intro w hw
  rcases List.mem_cons.mp hw with e | e
  · rw [e]
    exact lw_self _ h
  · exact lw_self _ e
/-- any list of words by their places (lw_in), good -/
theorem lw_good {ws : List Cond} (h : ∀ w ∈ ws, w ∈ lw_all) : GoodIn lw_all ws := fun w hw => lw_self w (h w hw)
/-- what a call of a method with handlers asks: vx_cwVW n hts (lw_VW ..), vx_cwSW n hts (lw_SW ..) -/
theorem lw_VW {own : String} {idx : Nat} {C : String} {y : MethodName} {b : ByteArray} {L : Nat} {r : Option FieldType} {hh : List (Nat × Nat × Nat × Nat)} (h1 : Cond.methodLink own idx y ∈ lw_all) (h2 : Cond.instanceMethod y ∈ lw_all) (h3 : Cond.selects C y y ∈ lw_all) (h4 : Cond.initialized C ∈ lw_all) (h5 : Cond.codeWith y b L r hh ∈ lw_all) : GoodIn lw_all (wsV own idx C y (wsW_ y b L r hh)) := by
  refine lw_app ?_ (lw_methW h5)
  intro w hw
  simp only [List.mem_cons, List.not_mem_nil, or_false] at hw
  rcases hw with e | e | e | e
  · rw [e]; exact h1
  · rw [e]; exact h2
  · rw [e]; exact h3
  · rw [e]; exact h4
theorem lw_SW {own : String} {idx : Nat} {y : MethodName} {b : ByteArray} {L : Nat} {r : Option FieldType} {hh : List (Nat × Nat × Nat × Nat)} (h1 : Cond.methodLink own idx y ∈ lw_all) (h2 : Cond.static y ∈ lw_all) (h3 : Cond.initialized y.cls ∈ lw_all) (h4 : Cond.codeWith y b L r hh ∈ lw_all) : GoodIn lw_all (va_wsS own idx y (wsW_ y b L r hh)) := by
  refine lw_app ?_ (lw_methW h4)
  intro w hw
  simp only [List.mem_cons, List.not_mem_nil, or_false] at hw
  rcases hw with e | e | e
  · rw [e]; exact h1
  · rw [e]; exact h2
  · rw [e]; exact h3
/-- a word by its place in its run of the tables -/
theorem lw_at {r : List Cond} (hr : ∀ w ∈ r, w ∈ lw_tbl) {w : Cond} (i : Nat) (h : r[i]? = some w) : w ∈ lw_tbl := hr w (List.mem_of_getElem? h)
theorem lw_g {w : Cond} (h : w ∈ lw_tbl) (g : goodWord w = true) : w ∈ lw_all := List.mem_filter.mpr ⟨h, g⟩
theorem lw_ms : ∀ w ∈ k2_sels lw_privs, w ∈ lw_tbl := fun w h => show w ∈ k2_sels lw_privs ++ tables_1 from List.mem_append_left _ h
theorem lw_m1 : ∀ w ∈ tables_1_1, w ∈ lw_tbl := fun w h => show w ∈ k2_sels lw_privs ++ tables_1 from List.mem_append_right (k2_sels lw_privs) (show w ∈ tables_1 from List.mem_append_left _ h)
theorem lw_m2 : ∀ w ∈ tables_1_2, w ∈ lw_tbl := fun w h => show w ∈ k2_sels lw_privs ++ tables_1 from List.mem_append_right (k2_sels lw_privs) (show w ∈ tables_1 from List.mem_append_right _ (List.mem_append_left _ h))
theorem lw_m3 : ∀ w ∈ tables_1_3, w ∈ lw_tbl := fun w h => show w ∈ k2_sels lw_privs ++ tables_1 from List.mem_append_right (k2_sels lw_privs) (show w ∈ tables_1 from List.mem_append_right _ (List.mem_append_right _ (List.mem_append_left _ h)))
theorem lw_m4 : ∀ w ∈ tables_1_4, w ∈ lw_tbl := fun w h => show w ∈ k2_sels lw_privs ++ tables_1 from List.mem_append_right (k2_sels lw_privs) (show w ∈ tables_1 from List.mem_append_right _ (List.mem_append_right _ (List.mem_append_right _ (List.mem_append_left _ h))))
theorem lw_m5 : ∀ w ∈ tables_1_5, w ∈ lw_tbl := fun w h => show w ∈ k2_sels lw_privs ++ tables_1 from List.mem_append_right (k2_sels lw_privs) (show w ∈ tables_1 from List.mem_append_right _ (List.mem_append_right _ (List.mem_append_right _ (List.mem_append_right _ (List.mem_append_left _ h)))))
theorem lw_m6 : ∀ w ∈ tables_1_6, w ∈ lw_tbl := fun w h => show w ∈ k2_sels lw_privs ++ tables_1 from List.mem_append_right (k2_sels lw_privs) (show w ∈ tables_1 from List.mem_append_right _ (List.mem_append_right _ (List.mem_append_right _ (List.mem_append_right _ (List.mem_append_right _ (List.mem_append_left _ h))))))
theorem lw_m7 : ∀ w ∈ tables_1_7, w ∈ lw_tbl := fun w h => show w ∈ k2_sels lw_privs ++ tables_1 from List.mem_append_right (k2_sels lw_privs) (show w ∈ tables_1 from List.mem_append_right _ (List.mem_append_right _ (List.mem_append_right _ (List.mem_append_right _ (List.mem_append_right _ (List.mem_append_right _ h))))))
theorem qs0 : (Cond.selects "GleanersForGaps" ⟨"GleanersForGaps", "gapsOf", "(I)I"⟩ ⟨"GleanersForGaps", "gapsOf", "(I)I"⟩) ∈ lw_all := lw_g (lw_at lw_ms 0 rfl) rfl
theorem qs1 : (Cond.selects "GleanersForGaps" ⟨"GleanersForGaps", "isSo", "(III)Z"⟩ ⟨"GleanersForGaps", "isSo", "(III)Z"⟩) ∈ lw_all := lw_g (lw_at lw_ms 1 rfl) rfl
theorem qs2 : (Cond.selects "GleanersForGaps" ⟨"GleanersForGaps", "isOne", "(I)Z"⟩ ⟨"GleanersForGaps", "isOne", "(I)Z"⟩) ∈ lw_all := lw_g (lw_at lw_ms 2 rfl) rfl
theorem qs3 : (Cond.selects "GleanersForGaps" ⟨"GleanersForGaps", "toldRow", "(II)I"⟩ ⟨"GleanersForGaps", "toldRow", "(II)I"⟩) ∈ lw_all := lw_g (lw_at lw_ms 3 rfl) rfl
theorem qs4 : (Cond.selects "GleanersForGaps" ⟨"GleanersForGaps", "runsOf", "(I)I"⟩ ⟨"GleanersForGaps", "runsOf", "(I)I"⟩) ∈ lw_all := lw_g (lw_at lw_ms 4 rfl) rfl
theorem qs5 : (Cond.selects "GleanersForGaps" ⟨"GleanersForGaps", "tellsRuns", "(I)I"⟩ ⟨"GleanersForGaps", "tellsRuns", "(I)I"⟩) ∈ lw_all := lw_g (lw_at lw_ms 5 rfl) rfl
theorem qs6 : (Cond.selects "GleanersForGaps" ⟨"GleanersForGaps", "greatest", "(I)I"⟩ ⟨"GleanersForGaps", "greatest", "(I)I"⟩) ∈ lw_all := lw_g (lw_at lw_ms 6 rfl) rfl
theorem qs7 : (Cond.selects "GleanersForGaps" ⟨"GleanersForGaps", "shakesOf", "(I)I"⟩ ⟨"GleanersForGaps", "shakesOf", "(I)I"⟩) ∈ lw_all := lw_g (lw_at lw_ms 7 rfl) rfl
theorem qs8 : (Cond.selects "GleanersForGaps" ⟨"GleanersForGaps", "looksAt", "(I)V"⟩ ⟨"GleanersForGaps", "looksAt", "(I)V"⟩) ∈ lw_all := lw_g (lw_at lw_ms 8 rfl) rfl
theorem qs9 : (Cond.selects "GleanersForGaps" ⟨"GleanersForGaps", "says", "(IIII)I"⟩ ⟨"GleanersForGaps", "says", "(IIII)I"⟩) ∈ lw_all := lw_g (lw_at lw_ms 9 rfl) rfl
theorem qs10 : (Cond.selects "GleanersForGaps" ⟨"GleanersForGaps", "toldOf", "(II)I"⟩ ⟨"GleanersForGaps", "toldOf", "(II)I"⟩) ∈ lw_all := lw_g (lw_at lw_ms 10 rfl) rfl
theorem qs11 : (Cond.selects "GleanersForGaps" ⟨"GleanersForGaps", "keepsOf", "(I)I"⟩ ⟨"GleanersForGaps", "keepsOf", "(I)I"⟩) ∈ lw_all := lw_g (lw_at lw_ms 11 rfl) rfl
theorem qs12 : (Cond.selects "GleanersForGaps" ⟨"GleanersForGaps", "becomes", "(III)V"⟩ ⟨"GleanersForGaps", "becomes", "(III)V"⟩) ∈ lw_all := lw_g (lw_at lw_ms 12 rfl) rfl
theorem qs13 : (Cond.selects "GleanersForGaps" ⟨"GleanersForGaps", "newText", "()I"⟩ ⟨"GleanersForGaps", "newText", "()I"⟩) ∈ lw_all := lw_g (lw_at lw_ms 13 rfl) rfl
theorem qs14 : (Cond.selects "GleanersForGaps" ⟨"GleanersForGaps", "next", "()V"⟩ ⟨"GleanersForGaps", "next", "()V"⟩) ∈ lw_all := lw_g (lw_at lw_ms 14 rfl) rfl
theorem qs15 : (Cond.selects "GleanersForGaps" ⟨"GleanersForGaps", "byteAt", "(I)I"⟩ ⟨"GleanersForGaps", "byteAt", "(I)I"⟩) ∈ lw_all := lw_g (lw_at lw_ms 15 rfl) rfl
theorem qs16 : (Cond.selects "GleanersForGaps" ⟨"GleanersForGaps", "word", "()V"⟩ ⟨"GleanersForGaps", "word", "()V"⟩) ∈ lw_all := lw_g (lw_at lw_ms 16 rfl) rfl
theorem qs17 : (Cond.selects "GleanersForGaps" ⟨"GleanersForGaps", "placeIn", "([Ljava/lang/String;)I"⟩ ⟨"GleanersForGaps", "placeIn", "([Ljava/lang/String;)I"⟩) ∈ lw_all := lw_g (lw_at lw_ms 17 rfl) rfl
theorem qs18 : (Cond.selects "GleanersForGaps" ⟨"GleanersForGaps", "digits", "()V"⟩ ⟨"GleanersForGaps", "digits", "()V"⟩) ∈ lw_all := lw_g (lw_at lw_ms 18 rfl) rfl
theorem qs19 : (Cond.selects "GleanersForGaps" ⟨"GleanersForGaps", "isKey", "(I)Z"⟩ ⟨"GleanersForGaps", "isKey", "(I)Z"⟩) ∈ lw_all := lw_g (lw_at lw_ms 19 rfl) rfl
theorem qs20 : (Cond.selects "GleanersForGaps" ⟨"GleanersForGaps", "need", "(Z)V"⟩ ⟨"GleanersForGaps", "need", "(Z)V"⟩) ∈ lw_all := lw_g (lw_at lw_ms 20 rfl) rfl
theorem qs21 : (Cond.selects "GleanersForGaps" ⟨"GleanersForGaps", "either", "()LGleanersForGaps$Node;"⟩ ⟨"GleanersForGaps", "either", "()LGleanersForGaps$Node;"⟩) ∈ lw_all := lw_g (lw_at lw_ms 21 rfl) rfl
theorem qs22 : (Cond.selects "GleanersForGaps" ⟨"GleanersForGaps", "both", "()LGleanersForGaps$Node;"⟩ ⟨"GleanersForGaps", "both", "()LGleanersForGaps$Node;"⟩) ∈ lw_all := lw_g (lw_at lw_ms 22 rfl) rfl
theorem qs23 : (Cond.selects "GleanersForGaps" ⟨"GleanersForGaps", "not", "()LGleanersForGaps$Node;"⟩ ⟨"GleanersForGaps", "not", "()LGleanersForGaps$Node;"⟩) ∈ lw_all := lw_g (lw_at lw_ms 23 rfl) rfl
theorem qs24 : (Cond.selects "GleanersForGaps" ⟨"GleanersForGaps", "openOne", "()V"⟩ ⟨"GleanersForGaps", "openOne", "()V"⟩) ∈ lw_all := lw_g (lw_at lw_ms 24 rfl) rfl
theorem qs25 : (Cond.selects "GleanersForGaps" ⟨"GleanersForGaps", "plus", "()LGleanersForGaps$Node;"⟩ ⟨"GleanersForGaps", "plus", "()LGleanersForGaps$Node;"⟩) ∈ lw_all := lw_g (lw_at lw_ms 25 rfl) rfl
theorem qs26 : (Cond.selects "GleanersForGaps" ⟨"GleanersForGaps", "times", "()LGleanersForGaps$Node;"⟩ ⟨"GleanersForGaps", "times", "()LGleanersForGaps$Node;"⟩) ∈ lw_all := lw_g (lw_at lw_ms 26 rfl) rfl
theorem qs27 : (Cond.selects "GleanersForGaps" ⟨"GleanersForGaps", "one", "()LGleanersForGaps$Node;"⟩ ⟨"GleanersForGaps", "one", "()LGleanersForGaps$Node;"⟩) ∈ lw_all := lw_g (lw_at lw_ms 27 rfl) rfl
theorem qs28 : (Cond.selects "GleanersForGaps" ⟨"GleanersForGaps", "isSign", "(I)Z"⟩ ⟨"GleanersForGaps", "isSign", "(I)Z"⟩) ∈ lw_all := lw_g (lw_at lw_ms 28 rfl) rfl
theorem qs29 : (Cond.selects "java/lang/NullPointerException" ⟨"java/lang/NullPointerException", "getExtendedNPEMessage", "()Ljava/lang/String;"⟩ ⟨"java/lang/NullPointerException", "getExtendedNPEMessage", "()Ljava/lang/String;"⟩) ∈ lw_all := lw_g (lw_at lw_ms 29 rfl) rfl
theorem qs30 : (Cond.selects "java/lang/Throwable" ⟨"java/lang/Throwable", "fillInStackTrace", "(I)Ljava/lang/Throwable;"⟩ ⟨"java/lang/Throwable", "fillInStackTrace", "(I)Ljava/lang/Throwable;"⟩) ∈ lw_all := lw_g (lw_at lw_ms 30 rfl) rfl
theorem qs31 : (Cond.selects "GleanersForGaps" ⟨"GleanersForGaps", "firstText", "(Ljava/lang/String;)V"⟩ ⟨"GleanersForGaps", "firstText", "(Ljava/lang/String;)V"⟩) ∈ lw_all := lw_g (lw_at lw_ms 31 rfl) rfl
theorem qs32 : (Cond.selects "GleanersForGaps" ⟨"GleanersForGaps", "isText", "(I)Z"⟩ ⟨"GleanersForGaps", "isText", "(I)Z"⟩) ∈ lw_all := lw_g (lw_at lw_ms 32 rfl) rfl
theorem qs33 : (Cond.selects "GleanersForGaps" ⟨"GleanersForGaps", "takingOf", "(IIII)I"⟩ ⟨"GleanersForGaps", "takingOf", "(IIII)I"⟩) ∈ lw_all := lw_g (lw_at lw_ms 33 rfl) rfl
theorem qs34 : (Cond.selects "GleanersForGaps" ⟨"GleanersForGaps", "gleans", "(II)I"⟩ ⟨"GleanersForGaps", "gleans", "(II)I"⟩) ∈ lw_all := lw_g (lw_at lw_ms 34 rfl) rfl
theorem qs35 : (Cond.selects "GleanersForGaps" ⟨"GleanersForGaps", "takesRun", "(IIIII)I"⟩ ⟨"GleanersForGaps", "takesRun", "(IIIII)I"⟩) ∈ lw_all := lw_g (lw_at lw_ms 35 rfl) rfl
theorem qs36 : (Cond.selects "GleanersForGaps" ⟨"GleanersForGaps", "closes", "(III)V"⟩ ⟨"GleanersForGaps", "closes", "(III)V"⟩) ∈ lw_all := lw_g (lw_at lw_ms 36 rfl) rfl
theorem qs37 : (Cond.selects "GleanersForGaps" ⟨"GleanersForGaps", "isOrder", "(I)Z"⟩ ⟨"GleanersForGaps", "isOrder", "(I)Z"⟩) ∈ lw_all := lw_g (lw_at lw_ms 37 rfl) rfl
theorem qs38 : (Cond.selects "GleanersForGaps" ⟨"GleanersForGaps", "passes", "()V"⟩ ⟨"GleanersForGaps", "passes", "()V"⟩) ∈ lw_all := lw_g (lw_at lw_ms 38 rfl) rfl
theorem qs39 : (Cond.selects "GleanersForGaps" ⟨"GleanersForGaps", "gapsAll", "()I"⟩ ⟨"GleanersForGaps", "gapsAll", "()I"⟩) ∈ lw_all := lw_g (lw_at lw_ms 39 rfl) rfl
theorem qs40 : (Cond.selects "GleanersForGaps" ⟨"GleanersForGaps", "triesOf", "(III)I"⟩ ⟨"GleanersForGaps", "triesOf", "(III)I"⟩) ∈ lw_all := lw_g (lw_at lw_ms 40 rfl) rfl
theorem qs41 : (Cond.selects "GleanersForGaps" ⟨"GleanersForGaps", "keeps", "(I)V"⟩ ⟨"GleanersForGaps", "keeps", "(I)V"⟩) ∈ lw_all := lw_g (lw_at lw_ms 41 rfl) rfl
theorem qs42 : (Cond.selects "GleanersForGaps" ⟨"GleanersForGaps", "laysBack", "(I)V"⟩ ⟨"GleanersForGaps", "laysBack", "(I)V"⟩) ∈ lw_all := lw_g (lw_at lw_ms 42 rfl) rfl
theorem qs43 : (Cond.selects "GleanersForGaps" ⟨"GleanersForGaps", "allGlean", "(I)V"⟩ ⟨"GleanersForGaps", "allGlean", "(I)V"⟩) ∈ lw_all := lw_g (lw_at lw_ms 43 rfl) rfl
theorem qs44 : (Cond.selects "GleanersForGaps" ⟨"GleanersForGaps", "goesThrough", "(II)V"⟩ ⟨"GleanersForGaps", "goesThrough", "(II)V"⟩) ∈ lw_all := lw_g (lw_at lw_ms 44 rfl) rfl
theorem qs45 : (Cond.selects "GleanersForGaps" ⟨"GleanersForGaps", "orders", "(IIIIII)V"⟩ ⟨"GleanersForGaps", "orders", "(IIIIII)V"⟩) ∈ lw_all := lw_g (lw_at lw_ms 45 rfl) rfl
theorem qs46 : (Cond.selects "GleanersForGaps" ⟨"GleanersForGaps", "alone", "(IZ)I"⟩ ⟨"GleanersForGaps", "alone", "(IZ)I"⟩) ∈ lw_all := lw_g (lw_at lw_ms 46 rfl) rfl
theorem qs47 : (Cond.selects "GleanersForGaps" ⟨"GleanersForGaps", "bare", "(I)I"⟩ ⟨"GleanersForGaps", "bare", "(I)I"⟩) ∈ lw_all := lw_g (lw_at lw_ms 47 rfl) rfl
theorem qs48 : (Cond.selects "GleanersForGaps" ⟨"GleanersForGaps", "otherwise", "(Ljava/lang/Object;II)I"⟩ ⟨"GleanersForGaps", "otherwise", "(Ljava/lang/Object;II)I"⟩) ∈ lw_all := lw_g (lw_at lw_ms 48 rfl) rfl
theorem qs49 : (Cond.selects "GleanersForGaps" ⟨"GleanersForGaps", "kindsOf", "(Ljava/lang/Object;II)I"⟩ ⟨"GleanersForGaps", "kindsOf", "(Ljava/lang/Object;II)I"⟩) ∈ lw_all := lw_g (lw_at lw_ms 49 rfl) rfl
theorem qs50 : (Cond.selects "GleanersForGaps" ⟨"GleanersForGaps", "isSoAs", "(Ljava/lang/Object;III)Z"⟩ ⟨"GleanersForGaps", "isSoAs", "(Ljava/lang/Object;III)Z"⟩) ∈ lw_all := lw_g (lw_at lw_ms 50 rfl) rfl
theorem qs51 : (Cond.selects "GleanersForGaps" ⟨"GleanersForGaps", "numbersOf", "(Ljava/lang/Object;II)I"⟩ ⟨"GleanersForGaps", "numbersOf", "(Ljava/lang/Object;II)I"⟩) ∈ lw_all := lw_g (lw_at lw_ms 51 rfl) rfl
theorem qs52 : (Cond.selects "GleanersForGaps" ⟨"GleanersForGaps", "isSoBy", "(Ljava/lang/Object;IIII)Z"⟩ ⟨"GleanersForGaps", "isSoBy", "(Ljava/lang/Object;IIII)Z"⟩) ∈ lw_all := lw_g (lw_at lw_ms 52 rfl) rfl
theorem qs53 : (Cond.selects "GleanersForGaps" ⟨"GleanersForGaps", "apronsOf", "(Ljava/lang/Object;IIZ)I"⟩ ⟨"GleanersForGaps", "apronsOf", "(Ljava/lang/Object;IIZ)I"⟩) ∈ lw_all := lw_g (lw_at lw_ms 53 rfl) rfl
theorem qs54 : (Cond.selects "GleanersForGaps" ⟨"GleanersForGaps", "textsOf", "(Ljava/lang/Object;II)I"⟩ ⟨"GleanersForGaps", "textsOf", "(Ljava/lang/Object;II)I"⟩) ∈ lw_all := lw_g (lw_at lw_ms 54 rfl) rfl
theorem qs55 : (Cond.selects "GleanersForGaps" ⟨"GleanersForGaps", "whoseOf", "(Ljava/lang/Object;I)I"⟩ ⟨"GleanersForGaps", "whoseOf", "(Ljava/lang/Object;I)I"⟩) ∈ lw_all := lw_g (lw_at lw_ms 55 rfl) rfl
theorem qs56 : (Cond.selects "GleanersForGaps" ⟨"GleanersForGaps", "rowsOf", "(Ljava/lang/Object;I)I"⟩ ⟨"GleanersForGaps", "rowsOf", "(Ljava/lang/Object;I)I"⟩) ∈ lw_all := lw_g (lw_at lw_ms 56 rfl) rfl
theorem qs57 : (Cond.selects "GleanersForGaps" ⟨"GleanersForGaps", "takenDrawn", "(II)I"⟩ ⟨"GleanersForGaps", "takenDrawn", "(II)I"⟩) ∈ lw_all := lw_g (lw_at lw_ms 57 rfl) rfl
theorem qs58 : (Cond.selects "GleanersForGaps" ⟨"GleanersForGaps", "came", "(Ljava/lang/Object;III)I"⟩ ⟨"GleanersForGaps", "came", "(Ljava/lang/Object;III)I"⟩) ∈ lw_all := lw_g (lw_at lw_ms 58 rfl) rfl
theorem qs59 : (Cond.selects "GleanersForGapsModel" ⟨"GleanersForGapsModel", "spell", "(IIIIIIIII)V"⟩ ⟨"GleanersForGapsModel", "spell", "(IIIIIIIII)V"⟩) ∈ lw_all := lw_g (lw_at lw_ms 59 rfl) rfl
theorem qs60 : (Cond.selects "GleanersForGapsModel" ⟨"GleanersForGapsModel", "leftOf", "(I)I"⟩ ⟨"GleanersForGapsModel", "leftOf", "(I)I"⟩) ∈ lw_all := lw_g (lw_at lw_ms 60 rfl) rfl
theorem qs61 : (Cond.selects "GleanersForGapsModel" ⟨"GleanersForGapsModel", "isOne", "(I)Z"⟩ ⟨"GleanersForGapsModel", "isOne", "(I)Z"⟩) ∈ lw_all := lw_g (lw_at lw_ms 61 rfl) rfl
theorem qs62 : (Cond.selects "GleanersForGapsModel" ⟨"GleanersForGapsModel", "keepsOf", "(I)I"⟩ ⟨"GleanersForGapsModel", "keepsOf", "(I)I"⟩) ∈ lw_all := lw_g (lw_at lw_ms 62 rfl) rfl
theorem qs63 : (Cond.selects "GleanersForGapsModel" ⟨"GleanersForGapsModel", "says", "(IIIIII)I"⟩ ⟨"GleanersForGapsModel", "says", "(IIIIII)I"⟩) ∈ lw_all := lw_g (lw_at lw_ms 63 rfl) rfl
theorem qs64 : (Cond.selects "GleanersForGapsModel" ⟨"GleanersForGapsModel", "read", "(II)I"⟩ ⟨"GleanersForGapsModel", "read", "(II)I"⟩) ∈ lw_all := lw_g (lw_at lw_ms 64 rfl) rfl
theorem qs65 : (Cond.selects "GleanersForGapsModel" ⟨"GleanersForGapsModel", "next", "()V"⟩ ⟨"GleanersForGapsModel", "next", "()V"⟩) ∈ lw_all := lw_g (lw_at lw_ms 65 rfl) rfl
theorem qs66 : (Cond.selects "GleanersForGapsModel" ⟨"GleanersForGapsModel", "byteAt", "(I)I"⟩ ⟨"GleanersForGapsModel", "byteAt", "(I)I"⟩) ∈ lw_all := lw_g (lw_at lw_ms 66 rfl) rfl
theorem qs67 : (Cond.selects "GleanersForGapsModel" ⟨"GleanersForGapsModel", "isWord", "(IIIIIIII)Z"⟩ ⟨"GleanersForGapsModel", "isWord", "(IIIIIIII)Z"⟩) ∈ lw_all := lw_g (lw_at lw_ms 67 rfl) rfl
theorem qs68 : (Cond.selects "GleanersForGapsModel" ⟨"GleanersForGapsModel", "isLetter", "(II)Z"⟩ ⟨"GleanersForGapsModel", "isLetter", "(II)Z"⟩) ∈ lw_all := lw_g (lw_at lw_ms 68 rfl) rfl
theorem qs69 : (Cond.selects "GleanersForGapsModel" ⟨"GleanersForGapsModel", "part", "(Z)I"⟩ ⟨"GleanersForGapsModel", "part", "(Z)I"⟩) ∈ lw_all := lw_g (lw_at lw_ms 69 rfl) rfl
theorem qs70 : (Cond.selects "GleanersForGapsModel" ⟨"GleanersForGapsModel", "fail", "()V"⟩ ⟨"GleanersForGapsModel", "fail", "()V"⟩) ∈ lw_all := lw_g (lw_at lw_ms 70 rfl) rfl
theorem qs71 : (Cond.selects "GleanersForGapsModel" ⟨"GleanersForGapsModel", "either", "()I"⟩ ⟨"GleanersForGapsModel", "either", "()I"⟩) ∈ lw_all := lw_g (lw_at lw_ms 71 rfl) rfl
theorem qs72 : (Cond.selects "GleanersForGapsModel" ⟨"GleanersForGapsModel", "both", "()I"⟩ ⟨"GleanersForGapsModel", "both", "()I"⟩) ∈ lw_all := lw_g (lw_at lw_ms 72 rfl) rfl
theorem qs73 : (Cond.selects "GleanersForGapsModel" ⟨"GleanersForGapsModel", "not", "()I"⟩ ⟨"GleanersForGapsModel", "not", "()I"⟩) ∈ lw_all := lw_g (lw_at lw_ms 73 rfl) rfl
theorem qs74 : (Cond.selects "GleanersForGapsModel" ⟨"GleanersForGapsModel", "opens", "()Z"⟩ ⟨"GleanersForGapsModel", "opens", "()Z"⟩) ∈ lw_all := lw_g (lw_at lw_ms 74 rfl) rfl
theorem qs75 : (Cond.selects "GleanersForGapsModel" ⟨"GleanersForGapsModel", "added", "()I"⟩ ⟨"GleanersForGapsModel", "added", "()I"⟩) ∈ lw_all := lw_g (lw_at lw_ms 75 rfl) rfl
theorem qs76 : (Cond.selects "GleanersForGapsModel" ⟨"GleanersForGapsModel", "term", "()I"⟩ ⟨"GleanersForGapsModel", "term", "()I"⟩) ∈ lw_all := lw_g (lw_at lw_ms 76 rfl) rfl
theorem qs77 : (Cond.selects "GleanersForGapsModel" ⟨"GleanersForGapsModel", "atom", "()I"⟩ ⟨"GleanersForGapsModel", "atom", "()I"⟩) ∈ lw_all := lw_g (lw_at lw_ms 77 rfl) rfl
theorem qs78 : (Cond.selects "GleanersForGapsModel" ⟨"GleanersForGapsModel", "isSign", "(I)Z"⟩ ⟨"GleanersForGapsModel", "isSign", "(I)Z"⟩) ∈ lw_all := lw_g (lw_at lw_ms 78 rfl) rfl
theorem qs79 : (Cond.selects "GleanersForGapsModel" ⟨"GleanersForGapsModel", "name", "()I"⟩ ⟨"GleanersForGapsModel", "name", "()I"⟩) ∈ lw_all := lw_g (lw_at lw_ms 79 rfl) rfl
theorem qs80 : (Cond.selects "GleanersForGapsModel" ⟨"GleanersForGapsModel", "runsOf", "(I)I"⟩ ⟨"GleanersForGapsModel", "runsOf", "(I)I"⟩) ∈ lw_all := lw_g (lw_at lw_ms 80 rfl) rfl
theorem qs81 : (Cond.selects "GleanersForGapsModel" ⟨"GleanersForGapsModel", "isGap", "(II)Z"⟩ ⟨"GleanersForGapsModel", "isGap", "(II)Z"⟩) ∈ lw_all := lw_g (lw_at lw_ms 81 rfl) rfl
theorem qs82 : (Cond.selects "GleanersForGapsModel" ⟨"GleanersForGapsModel", "greatestOf", "(I)I"⟩ ⟨"GleanersForGapsModel", "greatestOf", "(I)I"⟩) ∈ lw_all := lw_g (lw_at lw_ms 82 rfl) rfl
theorem qs83 : (Cond.selects "GleanersForGapsModel" ⟨"GleanersForGapsModel", "shakenOf", "(I)I"⟩ ⟨"GleanersForGapsModel", "shakenOf", "(I)I"⟩) ∈ lw_all := lw_g (lw_at lw_ms 83 rfl) rfl
theorem qs84 : (Cond.selects "GleanersForGapsModel" ⟨"GleanersForGapsModel", "lays", "(III)V"⟩ ⟨"GleanersForGapsModel", "lays", "(III)V"⟩) ∈ lw_all := lw_g (lw_at lw_ms 84 rfl) rfl
theorem qs85 : (Cond.selects "GleanersForGapsModel" ⟨"GleanersForGapsModel", "takesOf", "(IIII)I"⟩ ⟨"GleanersForGapsModel", "takesOf", "(IIII)I"⟩) ∈ lw_all := lw_g (lw_at lw_ms 85 rfl) rfl
theorem qs86 : (Cond.selects "GleanersForGapsModel" ⟨"GleanersForGapsModel", "gleans", "(II)I"⟩ ⟨"GleanersForGapsModel", "gleans", "(II)I"⟩) ∈ lw_all := lw_g (lw_at lw_ms 86 rfl) rfl
theorem qs87 : (Cond.selects "GleanersForGapsModel" ⟨"GleanersForGapsModel", "closes", "(III)V"⟩ ⟨"GleanersForGapsModel", "closes", "(III)V"⟩) ∈ lw_all := lw_g (lw_at lw_ms 87 rfl) rfl
theorem qs88 : (Cond.selects "GleanersForGapsModel" ⟨"GleanersForGapsModel", "isOrder", "(I)Z"⟩ ⟨"GleanersForGapsModel", "isOrder", "(I)Z"⟩) ∈ lw_all := lw_g (lw_at lw_ms 88 rfl) rfl
theorem qs89 : (Cond.selects "GleanersForGapsModel" ⟨"GleanersForGapsModel", "passes", "()V"⟩ ⟨"GleanersForGapsModel", "passes", "()V"⟩) ∈ lw_all := lw_g (lw_at lw_ms 89 rfl) rfl
theorem qs90 : (Cond.selects "GleanersForGapsModel" ⟨"GleanersForGapsModel", "gapsAll", "()I"⟩ ⟨"GleanersForGapsModel", "gapsAll", "()I"⟩) ∈ lw_all := lw_g (lw_at lw_ms 90 rfl) rfl
theorem qs91 : (Cond.selects "GleanersForGapsModel" ⟨"GleanersForGapsModel", "triesOf", "(III)I"⟩ ⟨"GleanersForGapsModel", "triesOf", "(III)I"⟩) ∈ lw_all := lw_g (lw_at lw_ms 91 rfl) rfl
theorem qs92 : (Cond.selects "GleanersForGapsModel" ⟨"GleanersForGapsModel", "laysAside", "()V"⟩ ⟨"GleanersForGapsModel", "laysAside", "()V"⟩) ∈ lw_all := lw_g (lw_at lw_ms 92 rfl) rfl
theorem qs93 : (Cond.selects "GleanersForGapsModel" ⟨"GleanersForGapsModel", "laysBack", "()V"⟩ ⟨"GleanersForGapsModel", "laysBack", "()V"⟩) ∈ lw_all := lw_g (lw_at lw_ms 93 rfl) rfl
theorem qs94 : (Cond.selects "GleanersForGapsModel" ⟨"GleanersForGapsModel", "gleanNights", "(II)V"⟩ ⟨"GleanersForGapsModel", "gleanNights", "(II)V"⟩) ∈ lw_all := lw_g (lw_at lw_ms 94 rfl) rfl
theorem qs95 : (Cond.selects "GleanersForGapsModel" ⟨"GleanersForGapsModel", "orders", "(IIIII)V"⟩ ⟨"GleanersForGapsModel", "orders", "(IIIII)V"⟩) ∈ lw_all := lw_g (lw_at lw_ms 95 rfl) rfl
theorem qs96 : (Cond.selects "GleanersForGapsModel" ⟨"GleanersForGapsModel", "bareOf", "(I)I"⟩ ⟨"GleanersForGapsModel", "bareOf", "(I)I"⟩) ∈ lw_all := lw_g (lw_at lw_ms 96 rfl) rfl
theorem qs97 : (Cond.selects "GleanersForGapsModel" ⟨"GleanersForGapsModel", "aloneOf", "(II)I"⟩ ⟨"GleanersForGapsModel", "aloneOf", "(II)I"⟩) ∈ lw_all := lw_g (lw_at lw_ms 97 rfl) rfl
theorem qs98 : (Cond.selects "GleanersForGapsModel" ⟨"GleanersForGapsModel", "firstOther", "(III)I"⟩ ⟨"GleanersForGapsModel", "firstOther", "(III)I"⟩) ∈ lw_all := lw_g (lw_at lw_ms 98 rfl) rfl
theorem qs99 : (Cond.selects "GleanersForGapsModel" ⟨"GleanersForGapsModel", "likeSet", "(II)I"⟩ ⟨"GleanersForGapsModel", "likeSet", "(II)I"⟩) ∈ lw_all := lw_g (lw_at lw_ms 99 rfl) rfl
theorem qs100 : (Cond.selects "GleanersForGapsModel" ⟨"GleanersForGapsModel", "rowSet", "(II)I"⟩ ⟨"GleanersForGapsModel", "rowSet", "(II)I"⟩) ∈ lw_all := lw_g (lw_at lw_ms 100 rfl) rfl
theorem qs101 : (Cond.selects "GleanersForGapsModel" ⟨"GleanersForGapsModel", "takenDrawn", "(II)I"⟩ ⟨"GleanersForGapsModel", "takenDrawn", "(II)I"⟩) ∈ lw_all := lw_g (lw_at lw_ms 101 rfl) rfl
