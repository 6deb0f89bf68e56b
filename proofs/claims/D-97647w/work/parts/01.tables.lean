-- ===== PART A: goes FIRST, ahead of the names: the tables' words, and 'selects' of the private methods out of them =====
/-- a private method of a class that the tables say can be made, by its rows of tables_1 -/
def lw_okq (q : MethodName × Nat) : Prop := (q.1.cls ≠ "java/lang/invoke/MethodHandle" ∧ q.1.cls ≠ "java/lang/invoke/VarHandle") ∧ Cond.instantiable q.1.cls q.2 ∈ tables_1 ∧ Cond.privateMethod q.1 ∈ tables_1 ∧ Cond.instanceMethod q.1 ∈ tables_1
set_option maxRecDepth 100000
theorem lw_t1 {w : Cond} (h : w ∈ tables_1_1) : w ∈ tables_1 := List.mem_append_left _ h
theorem lw_t2 {w : Cond} (h : w ∈ tables_1_2) : w ∈ tables_1 := List.mem_append_right _ (List.mem_append_left _ h)
theorem lw_t3 {w : Cond} (h : w ∈ tables_1_3) : w ∈ tables_1 := List.mem_append_right _ (List.mem_append_right _ (List.mem_append_left _ h))
theorem lw_t4 {w : Cond} (h : w ∈ tables_1_4) : w ∈ tables_1 := List.mem_append_right _ (List.mem_append_right _ (List.mem_append_right _ (List.mem_append_left _ h)))
theorem lw_t5 {w : Cond} (h : w ∈ tables_1_5) : w ∈ tables_1 := List.mem_append_right _ (List.mem_append_right _ (List.mem_append_right _ (List.mem_append_right _ (List.mem_append_left _ h))))
theorem lw_t6 {w : Cond} (h : w ∈ tables_1_6) : w ∈ tables_1 := List.mem_append_right _ (List.mem_append_right _ (List.mem_append_right _ (List.mem_append_right _ (List.mem_append_right _ (List.mem_append_left _ h)))))
theorem lw_t7 {w : Cond} (h : w ∈ tables_1_7) : w ∈ tables_1 := List.mem_append_right _ (List.mem_append_right _ (List.mem_append_right _ (List.mem_append_right _ (List.mem_append_right _ (List.mem_append_right _ h)))))
theorem lw_p0 : lw_okq (⟨"java/lang/NullPointerException", "getExtendedNPEMessage", "()Ljava/lang/String;"⟩, 8) := ⟨⟨by decide +kernel, by decide +kernel⟩, lw_t1 (List.mem_of_getElem? (i := 160) rfl), lw_t1 (List.mem_of_getElem? (i := 158) rfl), lw_t1 (List.mem_of_getElem? (i := 159) rfl)⟩
theorem lw_p1 : lw_okq (⟨"java/lang/Throwable", "fillInStackTrace", "(I)Ljava/lang/Throwable;"⟩, 6) := ⟨⟨by decide +kernel, by decide +kernel⟩, lw_t1 (List.mem_of_getElem? (i := 172) rfl), lw_t1 (List.mem_of_getElem? (i := 170) rfl), lw_t1 (List.mem_of_getElem? (i := 171) rfl)⟩
theorem lw_p2 : lw_okq (⟨"NeitherBare", "found", "(I)I"⟩, 23) := ⟨⟨by decide +kernel, by decide +kernel⟩, lw_t1 (List.mem_of_getElem? (i := 28) rfl), lw_t1 (List.mem_of_getElem? (i := 222) rfl), lw_t1 (List.mem_of_getElem? (i := 223) rfl)⟩
theorem lw_p3 : lw_okq (⟨"NeitherBare", "say", "(II)I"⟩, 23) := ⟨⟨by decide +kernel, by decide +kernel⟩, lw_t1 (List.mem_of_getElem? (i := 28) rfl), lw_t2 (List.mem_of_getElem? (i := 34) rfl), lw_t2 (List.mem_of_getElem? (i := 35) rfl)⟩
theorem lw_p4 : lw_okq (⟨"NeitherBare", "read", "([B)I"⟩, 23) := ⟨⟨by decide +kernel, by decide +kernel⟩, lw_t1 (List.mem_of_getElem? (i := 28) rfl), lw_t2 (List.mem_of_getElem? (i := 86) rfl), lw_t2 (List.mem_of_getElem? (i := 87) rfl)⟩
theorem lw_p5 : lw_okq (⟨"NeitherBare", "readThing", "([B)Z"⟩, 23) := ⟨⟨by decide +kernel, by decide +kernel⟩, lw_t1 (List.mem_of_getElem? (i := 28) rfl), lw_t2 (List.mem_of_getElem? (i := 90) rfl), lw_t2 (List.mem_of_getElem? (i := 91) rfl)⟩
theorem lw_p6 : lw_okq (⟨"NeitherBare", "readClause", "([B)Z"⟩, 23) := ⟨⟨by decide +kernel, by decide +kernel⟩, lw_t1 (List.mem_of_getElem? (i := 28) rfl), lw_t2 (List.mem_of_getElem? (i := 97) rfl), lw_t2 (List.mem_of_getElem? (i := 98) rfl)⟩
theorem lw_p7 : lw_okq (⟨"NeitherBare", "make", "(III)LNeitherBare$Clause;"⟩, 23) := ⟨⟨by decide +kernel, by decide +kernel⟩, lw_t1 (List.mem_of_getElem? (i := 28) rfl), lw_t2 (List.mem_of_getElem? (i := 114) rfl), lw_t2 (List.mem_of_getElem? (i := 115) rfl)⟩
theorem lw_p8 : lw_okq (⟨"NeitherBare", "isThing", "(I)Z"⟩, 23) := ⟨⟨by decide +kernel, by decide +kernel⟩, lw_t1 (List.mem_of_getElem? (i := 28) rfl), lw_t2 (List.mem_of_getElem? (i := 213) rfl), lw_t2 (List.mem_of_getElem? (i := 214) rfl)⟩
theorem lw_p9 : lw_okq (⟨"NeitherBare", "isClause", "(I)Z"⟩, 23) := ⟨⟨by decide +kernel, by decide +kernel⟩, lw_t1 (List.mem_of_getElem? (i := 28) rfl), lw_t2 (List.mem_of_getElem? (i := 221) rfl), lw_t2 (List.mem_of_getElem? (i := 222) rfl)⟩
theorem lw_p10 : lw_okq (⟨"NeitherBare", "clauseTells", "(II)I"⟩, 23) := ⟨⟨by decide +kernel, by decide +kernel⟩, lw_t1 (List.mem_of_getElem? (i := 28) rfl), lw_t2 (List.mem_of_getElem? (i := 225) rfl), lw_t2 (List.mem_of_getElem? (i := 226) rfl)⟩
theorem lw_p11 : lw_okq (⟨"NeitherBare", "isOn", "(I)Z"⟩, 23) := ⟨⟨by decide +kernel, by decide +kernel⟩, lw_t1 (List.mem_of_getElem? (i := 28) rfl), lw_t3 (List.mem_of_getElem? (i := 38) rfl), lw_t3 (List.mem_of_getElem? (i := 39) rfl)⟩
theorem lw_p12 : lw_okq (⟨"NeitherBare", "waysOf", "(LNeitherBare$Clause;)J"⟩, 23) := ⟨⟨by decide +kernel, by decide +kernel⟩, lw_t1 (List.mem_of_getElem? (i := 28) rfl), lw_t3 (List.mem_of_getElem? (i := 45) rfl), lw_t3 (List.mem_of_getElem? (i := 46) rfl)⟩
theorem lw_p13 : lw_okq (⟨"NeitherBare", "ways", "()I"⟩, 23) := ⟨⟨by decide +kernel, by decide +kernel⟩, lw_t1 (List.mem_of_getElem? (i := 28) rfl), lw_t3 (List.mem_of_getElem? (i := 49) rfl), lw_t3 (List.mem_of_getElem? (i := 50) rfl)⟩
theorem lw_p14 : lw_okq (⟨"NeitherBare", "isMuch", "(II)Z"⟩, 23) := ⟨⟨by decide +kernel, by decide +kernel⟩, lw_t1 (List.mem_of_getElem? (i := 28) rfl), lw_t3 (List.mem_of_getElem? (i := 65) rfl), lw_t3 (List.mem_of_getElem? (i := 66) rfl)⟩
theorem lw_p15 : lw_okq (⟨"NeitherBare", "valueOf", "(II)I"⟩, 23) := ⟨⟨by decide +kernel, by decide +kernel⟩, lw_t1 (List.mem_of_getElem? (i := 28) rfl), lw_t3 (List.mem_of_getElem? (i := 69) rfl), lw_t3 (List.mem_of_getElem? (i := 70) rfl)⟩
def lw_privs_1 : List (MethodName × Nat) := [(⟨"java/lang/NullPointerException", "getExtendedNPEMessage", "()Ljava/lang/String;"⟩, 8), (⟨"java/lang/Throwable", "fillInStackTrace", "(I)Ljava/lang/Throwable;"⟩, 6), (⟨"NeitherBare", "found", "(I)I"⟩, 23), (⟨"NeitherBare", "say", "(II)I"⟩, 23), (⟨"NeitherBare", "read", "([B)I"⟩, 23), (⟨"NeitherBare", "readThing", "([B)Z"⟩, 23), (⟨"NeitherBare", "readClause", "([B)Z"⟩, 23), (⟨"NeitherBare", "make", "(III)LNeitherBare$Clause;"⟩, 23), (⟨"NeitherBare", "isThing", "(I)Z"⟩, 23), (⟨"NeitherBare", "isClause", "(I)Z"⟩, 23), (⟨"NeitherBare", "clauseTells", "(II)I"⟩, 23), (⟨"NeitherBare", "isOn", "(I)Z"⟩, 23), (⟨"NeitherBare", "waysOf", "(LNeitherBare$Clause;)J"⟩, 23), (⟨"NeitherBare", "ways", "()I"⟩, 23), (⟨"NeitherBare", "isMuch", "(II)Z"⟩, 23), (⟨"NeitherBare", "valueOf", "(II)I"⟩, 23)]
theorem lw_r1 : ∀ q ∈ lw_privs_1, lw_okq q := List.forall_mem_cons.mpr ⟨lw_p0, List.forall_mem_cons.mpr ⟨lw_p1, List.forall_mem_cons.mpr ⟨lw_p2, List.forall_mem_cons.mpr ⟨lw_p3, List.forall_mem_cons.mpr ⟨lw_p4, List.forall_mem_cons.mpr ⟨lw_p5, List.forall_mem_cons.mpr ⟨lw_p6, List.forall_mem_cons.mpr ⟨lw_p7, List.forall_mem_cons.mpr ⟨lw_p8, List.forall_mem_cons.mpr ⟨lw_p9, List.forall_mem_cons.mpr ⟨lw_p10, List.forall_mem_cons.mpr ⟨lw_p11, List.forall_mem_cons.mpr ⟨lw_p12, List.forall_mem_cons.mpr ⟨lw_p13, List.forall_mem_cons.mpr ⟨lw_p14, List.forall_mem_cons.mpr ⟨lw_p15, fun _ h => absurd h List.not_mem_nil⟩⟩⟩⟩⟩⟩⟩⟩⟩⟩⟩⟩⟩⟩⟩⟩
theorem lw_p16 : lw_okq (⟨"NeitherBare", "isLittle", "(II)Z"⟩, 23) := ⟨⟨by decide +kernel, by decide +kernel⟩, lw_t1 (List.mem_of_getElem? (i := 28) rfl), lw_t3 (List.mem_of_getElem? (i := 83) rfl), lw_t3 (List.mem_of_getElem? (i := 84) rfl)⟩
theorem lw_p17 : lw_okq (⟨"NeitherBare$Half", "middle", "()I"⟩, 4) := ⟨⟨by decide +kernel, by decide +kernel⟩, lw_t2 (List.mem_of_getElem? (i := 182) rfl), lw_t3 (List.mem_of_getElem? (i := 101) rfl), lw_t3 (List.mem_of_getElem? (i := 102) rfl)⟩
theorem lw_p18 : lw_okq (⟨"NeitherBare", "remember", "()V"⟩, 23) := ⟨⟨by decide +kernel, by decide +kernel⟩, lw_t1 (List.mem_of_getElem? (i := 28) rfl), lw_t3 (List.mem_of_getElem? (i := 180) rfl), lw_t3 (List.mem_of_getElem? (i := 181) rfl)⟩
theorem lw_p19 : lw_okq (⟨"NeitherBare", "onSet", "()I"⟩, 23) := ⟨⟨by decide +kernel, by decide +kernel⟩, lw_t1 (List.mem_of_getElem? (i := 28) rfl), lw_t3 (List.mem_of_getElem? (i := 184) rfl), lw_t3 (List.mem_of_getElem? (i := 185) rfl)⟩
theorem lw_p20 : lw_okq (⟨"NeitherBare", "isBelow", "(III)Z"⟩, 23) := ⟨⟨by decide +kernel, by decide +kernel⟩, lw_t1 (List.mem_of_getElem? (i := 28) rfl), lw_t3 (List.mem_of_getElem? (i := 201) rfl), lw_t3 (List.mem_of_getElem? (i := 202) rfl)⟩
theorem lw_p21 : lw_okq (⟨"NeitherBare", "isWay", "(I)Z"⟩, 23) := ⟨⟨by decide +kernel, by decide +kernel⟩, lw_t1 (List.mem_of_getElem? (i := 28) rfl), lw_t3 (List.mem_of_getElem? (i := 221) rfl), lw_t3 (List.mem_of_getElem? (i := 222) rfl)⟩
theorem lw_p22 : lw_okq (⟨"NeitherBare", "costOf", "(I)I"⟩, 23) := ⟨⟨by decide +kernel, by decide +kernel⟩, lw_t1 (List.mem_of_getElem? (i := 28) rfl), lw_t3 (List.mem_of_getElem? (i := 229) rfl), lw_t3 (List.mem_of_getElem? (i := 230) rfl)⟩
theorem lw_p23 : lw_okq (⟨"NeitherBare", "isGood", "(I)Z"⟩, 23) := ⟨⟨by decide +kernel, by decide +kernel⟩, lw_t1 (List.mem_of_getElem? (i := 28) rfl), lw_t3 (List.mem_of_getElem? (i := 237) rfl), lw_t3 (List.mem_of_getElem? (i := 238) rfl)⟩
theorem lw_p24 : lw_okq (⟨"NeitherBare", "holdSet", "(I)I"⟩, 23) := ⟨⟨by decide +kernel, by decide +kernel⟩, lw_t1 (List.mem_of_getElem? (i := 28) rfl), lw_t4 (List.mem_of_getElem? (i := 1) rfl), lw_t4 (List.mem_of_getElem? (i := 2) rfl)⟩
theorem lw_p25 : lw_okq (⟨"NeitherBare", "goodWays", "()J"⟩, 23) := ⟨⟨by decide +kernel, by decide +kernel⟩, lw_t1 (List.mem_of_getElem? (i := 28) rfl), lw_t4 (List.mem_of_getElem? (i := 9) rfl), lw_t4 (List.mem_of_getElem? (i := 10) rfl)⟩
theorem lw_p26 : lw_okq (⟨"NeitherBare", "laySets", "()V"⟩, 23) := ⟨⟨by decide +kernel, by decide +kernel⟩, lw_t1 (List.mem_of_getElem? (i := 28) rfl), lw_t4 (List.mem_of_getElem? (i := 13) rfl), lw_t4 (List.mem_of_getElem? (i := 14) rfl)⟩
theorem lw_p27 : lw_okq (⟨"NeitherBare", "common", "(I)J"⟩, 23) := ⟨⟨by decide +kernel, by decide +kernel⟩, lw_t1 (List.mem_of_getElem? (i := 28) rfl), lw_t4 (List.mem_of_getElem? (i := 17) rfl), lw_t4 (List.mem_of_getElem? (i := 18) rfl)⟩
theorem lw_p28 : lw_okq (⟨"NeitherBare", "allWays", "()J"⟩, 23) := ⟨⟨by decide +kernel, by decide +kernel⟩, lw_t1 (List.mem_of_getElem? (i := 28) rfl), lw_t4 (List.mem_of_getElem? (i := 21) rfl), lw_t4 (List.mem_of_getElem? (i := 22) rfl)⟩
theorem lw_p29 : lw_okq (⟨"NeitherBare", "bestOf", "(JZ)I"⟩, 23) := ⟨⟨by decide +kernel, by decide +kernel⟩, lw_t1 (List.mem_of_getElem? (i := 28) rfl), lw_t4 (List.mem_of_getElem? (i := 37) rfl), lw_t4 (List.mem_of_getElem? (i := 38) rfl)⟩
theorem lw_p30 : lw_okq (⟨"NeitherBare", "needGame", "(II)I"⟩, 23) := ⟨⟨by decide +kernel, by decide +kernel⟩, lw_t1 (List.mem_of_getElem? (i := 28) rfl), lw_t4 (List.mem_of_getElem? (i := 78) rfl), lw_t4 (List.mem_of_getElem? (i := 79) rfl)⟩
theorem lw_p31 : lw_okq (⟨"NeitherBare", "winsShe", "(III)Z"⟩, 23) := ⟨⟨by decide +kernel, by decide +kernel⟩, lw_t1 (List.mem_of_getElem? (i := 28) rfl), lw_t4 (List.mem_of_getElem? (i := 82) rfl), lw_t4 (List.mem_of_getElem? (i := 83) rfl)⟩
def lw_privs_2 : List (MethodName × Nat) := [(⟨"NeitherBare", "isLittle", "(II)Z"⟩, 23), (⟨"NeitherBare$Half", "middle", "()I"⟩, 4), (⟨"NeitherBare", "remember", "()V"⟩, 23), (⟨"NeitherBare", "onSet", "()I"⟩, 23), (⟨"NeitherBare", "isBelow", "(III)Z"⟩, 23), (⟨"NeitherBare", "isWay", "(I)Z"⟩, 23), (⟨"NeitherBare", "costOf", "(I)I"⟩, 23), (⟨"NeitherBare", "isGood", "(I)Z"⟩, 23), (⟨"NeitherBare", "holdSet", "(I)I"⟩, 23), (⟨"NeitherBare", "goodWays", "()J"⟩, 23), (⟨"NeitherBare", "laySets", "()V"⟩, 23), (⟨"NeitherBare", "common", "(I)J"⟩, 23), (⟨"NeitherBare", "allWays", "()J"⟩, 23), (⟨"NeitherBare", "bestOf", "(JZ)I"⟩, 23), (⟨"NeitherBare", "needGame", "(II)I"⟩, 23), (⟨"NeitherBare", "winsShe", "(III)Z"⟩, 23)]
theorem lw_r2 : ∀ q ∈ lw_privs_2, lw_okq q := List.forall_mem_cons.mpr ⟨lw_p16, List.forall_mem_cons.mpr ⟨lw_p17, List.forall_mem_cons.mpr ⟨lw_p18, List.forall_mem_cons.mpr ⟨lw_p19, List.forall_mem_cons.mpr ⟨lw_p20, List.forall_mem_cons.mpr ⟨lw_p21, List.forall_mem_cons.mpr ⟨lw_p22, List.forall_mem_cons.mpr ⟨lw_p23, List.forall_mem_cons.mpr ⟨lw_p24, List.forall_mem_cons.mpr ⟨lw_p25, List.forall_mem_cons.mpr ⟨lw_p26, List.forall_mem_cons.mpr ⟨lw_p27, List.forall_mem_cons.mpr ⟨lw_p28, List.forall_mem_cons.mpr ⟨lw_p29, List.forall_mem_cons.mpr ⟨lw_p30, List.forall_mem_cons.mpr ⟨lw_p31, fun _ h => absurd h List.not_mem_nil⟩⟩⟩⟩⟩⟩⟩⟩⟩⟩⟩⟩⟩⟩⟩⟩
theorem lw_p32 : lw_okq (⟨"NeitherBare", "answers", "(III)Z"⟩, 23) := ⟨⟨by decide +kernel, by decide +kernel⟩, lw_t1 (List.mem_of_getElem? (i := 28) rfl), lw_t4 (List.mem_of_getElem? (i := 86) rfl), lw_t4 (List.mem_of_getElem? (i := 87) rfl)⟩
theorem lw_p33 : lw_okq (⟨"NeitherBare", "needRulings", "(IZ)I"⟩, 23) := ⟨⟨by decide +kernel, by decide +kernel⟩, lw_t1 (List.mem_of_getElem? (i := 28) rfl), lw_t4 (List.mem_of_getElem? (i := 98) rfl), lw_t4 (List.mem_of_getElem? (i := 99) rfl)⟩
theorem lw_p34 : lw_okq (⟨"NeitherBare", "isJudged", "(I[I)Z"⟩, 23) := ⟨⟨by decide +kernel, by decide +kernel⟩, lw_t1 (List.mem_of_getElem? (i := 28) rfl), lw_t4 (List.mem_of_getElem? (i := 136) rfl), lw_t4 (List.mem_of_getElem? (i := 137) rfl)⟩
theorem lw_p35 : lw_okq (⟨"NeitherBare", "fraction", "(JJ)I"⟩, 23) := ⟨⟨by decide +kernel, by decide +kernel⟩, lw_t1 (List.mem_of_getElem? (i := 28) rfl), lw_t4 (List.mem_of_getElem? (i := 145) rfl), lw_t4 (List.mem_of_getElem? (i := 146) rfl)⟩
theorem lw_p36 : lw_okq (⟨"NeitherBare", "counted", "(I)I"⟩, 23) := ⟨⟨by decide +kernel, by decide +kernel⟩, lw_t1 (List.mem_of_getElem? (i := 28) rfl), lw_t4 (List.mem_of_getElem? (i := 165) rfl), lw_t4 (List.mem_of_getElem? (i := 166) rfl)⟩
theorem lw_p37 : lw_okq (⟨"NeitherBare", "add", "(J)V"⟩, 23) := ⟨⟨by decide +kernel, by decide +kernel⟩, lw_t1 (List.mem_of_getElem? (i := 28) rfl), lw_t4 (List.mem_of_getElem? (i := 182) rfl), lw_t4 (List.mem_of_getElem? (i := 183) rfl)⟩
theorem lw_p38 : lw_okq (⟨"NeitherBare", "addCourt", "()V"⟩, 23) := ⟨⟨by decide +kernel, by decide +kernel⟩, lw_t1 (List.mem_of_getElem? (i := 28) rfl), lw_t4 (List.mem_of_getElem? (i := 187) rfl), lw_t4 (List.mem_of_getElem? (i := 188) rfl)⟩
theorem lw_p39 : lw_okq (⟨"NeitherBareModel", "begin", "()V"⟩, 25) := ⟨⟨by decide +kernel, by decide +kernel⟩, lw_t4 (List.mem_of_getElem? (i := 191) rfl), lw_t4 (List.mem_of_getElem? (i := 197) rfl), lw_t4 (List.mem_of_getElem? (i := 198) rfl)⟩
theorem lw_p40 : lw_okq (⟨"NeitherBareModel", "find", "(I)I"⟩, 25) := ⟨⟨by decide +kernel, by decide +kernel⟩, lw_t4 (List.mem_of_getElem? (i := 191) rfl), lw_t5 (List.mem_of_getElem? (i := 49) rfl), lw_t5 (List.mem_of_getElem? (i := 50) rfl)⟩
theorem lw_p41 : lw_okq (⟨"NeitherBareModel", "makeRow", "(II)V"⟩, 25) := ⟨⟨by decide +kernel, by decide +kernel⟩, lw_t4 (List.mem_of_getElem? (i := 191) rfl), lw_t5 (List.mem_of_getElem? (i := 53) rfl), lw_t5 (List.mem_of_getElem? (i := 54) rfl)⟩
theorem lw_p42 : lw_okq (⟨"NeitherBareModel", "refused", "(II)I"⟩, 25) := ⟨⟨by decide +kernel, by decide +kernel⟩, lw_t4 (List.mem_of_getElem? (i := 191) rfl), lw_t5 (List.mem_of_getElem? (i := 61) rfl), lw_t5 (List.mem_of_getElem? (i := 62) rfl)⟩
theorem lw_p43 : lw_okq (⟨"NeitherBareModel", "tell", "(I)I"⟩, 25) := ⟨⟨by decide +kernel, by decide +kernel⟩, lw_t4 (List.mem_of_getElem? (i := 191) rfl), lw_t5 (List.mem_of_getElem? (i := 65) rfl), lw_t5 (List.mem_of_getElem? (i := 66) rfl)⟩
theorem lw_p44 : lw_okq (⟨"NeitherBareModel", "isSpan", "(III)Z"⟩, 25) := ⟨⟨by decide +kernel, by decide +kernel⟩, lw_t4 (List.mem_of_getElem? (i := 191) rfl), lw_t5 (List.mem_of_getElem? (i := 81) rfl), lw_t5 (List.mem_of_getElem? (i := 82) rfl)⟩
theorem lw_p45 : lw_okq (⟨"NeitherBareModel", "faultOf", "(I)I"⟩, 25) := ⟨⟨by decide +kernel, by decide +kernel⟩, lw_t4 (List.mem_of_getElem? (i := 191) rfl), lw_t5 (List.mem_of_getElem? (i := 105) rfl), lw_t5 (List.mem_of_getElem? (i := 106) rfl)⟩
theorem lw_p46 : lw_okq (⟨"NeitherBareModel", "skip", "()V"⟩, 25) := ⟨⟨by decide +kernel, by decide +kernel⟩, lw_t4 (List.mem_of_getElem? (i := 191) rfl), lw_t5 (List.mem_of_getElem? (i := 109) rfl), lw_t5 (List.mem_of_getElem? (i := 110) rfl)⟩
theorem lw_p47 : lw_okq (⟨"NeitherBareModel", "here", "()I"⟩, 25) := ⟨⟨by decide +kernel, by decide +kernel⟩, lw_t4 (List.mem_of_getElem? (i := 191) rfl), lw_t5 (List.mem_of_getElem? (i := 113) rfl), lw_t5 (List.mem_of_getElem? (i := 114) rfl)⟩
def lw_privs_3 : List (MethodName × Nat) := [(⟨"NeitherBare", "answers", "(III)Z"⟩, 23), (⟨"NeitherBare", "needRulings", "(IZ)I"⟩, 23), (⟨"NeitherBare", "isJudged", "(I[I)Z"⟩, 23), (⟨"NeitherBare", "fraction", "(JJ)I"⟩, 23), (⟨"NeitherBare", "counted", "(I)I"⟩, 23), (⟨"NeitherBare", "add", "(J)V"⟩, 23), (⟨"NeitherBare", "addCourt", "()V"⟩, 23), (⟨"NeitherBareModel", "begin", "()V"⟩, 25), (⟨"NeitherBareModel", "find", "(I)I"⟩, 25), (⟨"NeitherBareModel", "makeRow", "(II)V"⟩, 25), (⟨"NeitherBareModel", "refused", "(II)I"⟩, 25), (⟨"NeitherBareModel", "tell", "(I)I"⟩, 25), (⟨"NeitherBareModel", "isSpan", "(III)Z"⟩, 25), (⟨"NeitherBareModel", "faultOf", "(I)I"⟩, 25), (⟨"NeitherBareModel", "skip", "()V"⟩, 25), (⟨"NeitherBareModel", "here", "()I"⟩, 25)]
theorem lw_r3 : ∀ q ∈ lw_privs_3, lw_okq q := List.forall_mem_cons.mpr ⟨lw_p32, List.forall_mem_cons.mpr ⟨lw_p33, List.forall_mem_cons.mpr ⟨lw_p34, List.forall_mem_cons.mpr ⟨lw_p35, List.forall_mem_cons.mpr ⟨lw_p36, List.forall_mem_cons.mpr ⟨lw_p37, List.forall_mem_cons.mpr ⟨lw_p38, List.forall_mem_cons.mpr ⟨lw_p39, List.forall_mem_cons.mpr ⟨lw_p40, List.forall_mem_cons.mpr ⟨lw_p41, List.forall_mem_cons.mpr ⟨lw_p42, List.forall_mem_cons.mpr ⟨lw_p43, List.forall_mem_cons.mpr ⟨lw_p44, List.forall_mem_cons.mpr ⟨lw_p45, List.forall_mem_cons.mpr ⟨lw_p46, List.forall_mem_cons.mpr ⟨lw_p47, fun _ h => absurd h List.not_mem_nil⟩⟩⟩⟩⟩⟩⟩⟩⟩⟩⟩⟩⟩⟩⟩⟩
theorem lw_p48 : lw_okq (⟨"NeitherBareModel", "readsThing", "()Z"⟩, 25) := ⟨⟨by decide +kernel, by decide +kernel⟩, lw_t4 (List.mem_of_getElem? (i := 191) rfl), lw_t5 (List.mem_of_getElem? (i := 117) rfl), lw_t5 (List.mem_of_getElem? (i := 118) rfl)⟩
theorem lw_p49 : lw_okq (⟨"NeitherBareModel", "figure", "(II)I"⟩, 25) := ⟨⟨by decide +kernel, by decide +kernel⟩, lw_t4 (List.mem_of_getElem? (i := 191) rfl), lw_t5 (List.mem_of_getElem? (i := 121) rfl), lw_t5 (List.mem_of_getElem? (i := 122) rfl)⟩
theorem lw_p50 : lw_okq (⟨"NeitherBareModel", "readsClause", "()Z"⟩, 25) := ⟨⟨by decide +kernel, by decide +kernel⟩, lw_t4 (List.mem_of_getElem? (i := 191) rfl), lw_t5 (List.mem_of_getElem? (i := 126) rfl), lw_t5 (List.mem_of_getElem? (i := 127) rfl)⟩
theorem lw_p51 : lw_okq (⟨"NeitherBareModel", "isClause", "(I)Z"⟩, 25) := ⟨⟨by decide +kernel, by decide +kernel⟩, lw_t4 (List.mem_of_getElem? (i := 191) rfl), lw_t5 (List.mem_of_getElem? (i := 149) rfl), lw_t5 (List.mem_of_getElem? (i := 150) rfl)⟩
theorem lw_p52 : lw_okq (⟨"NeitherBareModel", "toldOf", "(II)I"⟩, 25) := ⟨⟨by decide +kernel, by decide +kernel⟩, lw_t4 (List.mem_of_getElem? (i := 191) rfl), lw_t5 (List.mem_of_getElem? (i := 153) rfl), lw_t5 (List.mem_of_getElem? (i := 154) rfl)⟩
theorem lw_p53 : lw_okq (⟨"NeitherBareModel", "heldMany", "(III)I"⟩, 25) := ⟨⟨by decide +kernel, by decide +kernel⟩, lw_t4 (List.mem_of_getElem? (i := 191) rfl), lw_t5 (List.mem_of_getElem? (i := 157) rfl), lw_t5 (List.mem_of_getElem? (i := 158) rfl)⟩
theorem lw_p54 : lw_okq (⟨"NeitherBareModel", "ways", "()I"⟩, 25) := ⟨⟨by decide +kernel, by decide +kernel⟩, lw_t4 (List.mem_of_getElem? (i := 191) rfl), lw_t5 (List.mem_of_getElem? (i := 161) rfl), lw_t5 (List.mem_of_getElem? (i := 162) rfl)⟩
theorem lw_p55 : lw_okq (⟨"NeitherBareModel", "holdsOf", "(IIII)Z"⟩, 25) := ⟨⟨by decide +kernel, by decide +kernel⟩, lw_t4 (List.mem_of_getElem? (i := 191) rfl), lw_t5 (List.mem_of_getElem? (i := 165) rfl), lw_t5 (List.mem_of_getElem? (i := 166) rfl)⟩
theorem lw_p56 : lw_okq (⟨"NeitherBareModel", "valueOf", "(II)I"⟩, 25) := ⟨⟨by decide +kernel, by decide +kernel⟩, lw_t4 (List.mem_of_getElem? (i := 191) rfl), lw_t5 (List.mem_of_getElem? (i := 169) rfl), lw_t5 (List.mem_of_getElem? (i := 170) rfl)⟩
theorem lw_p57 : lw_okq (⟨"NeitherBareModel", "isBetween", "(II)Z"⟩, 25) := ⟨⟨by decide +kernel, by decide +kernel⟩, lw_t4 (List.mem_of_getElem? (i := 191) rfl), lw_t5 (List.mem_of_getElem? (i := 176) rfl), lw_t5 (List.mem_of_getElem? (i := 177) rfl)⟩
theorem lw_p58 : lw_okq (⟨"NeitherBareModel", "lowerOf", "(I)I"⟩, 25) := ⟨⟨by decide +kernel, by decide +kernel⟩, lw_t4 (List.mem_of_getElem? (i := 191) rfl), lw_t5 (List.mem_of_getElem? (i := 180) rfl), lw_t5 (List.mem_of_getElem? (i := 181) rfl)⟩
theorem lw_p59 : lw_okq (⟨"NeitherBareModel", "upperOf", "(I)I"⟩, 25) := ⟨⟨by decide +kernel, by decide +kernel⟩, lw_t4 (List.mem_of_getElem? (i := 191) rfl), lw_t5 (List.mem_of_getElem? (i := 184) rfl), lw_t5 (List.mem_of_getElem? (i := 185) rfl)⟩
theorem lw_p60 : lw_okq (⟨"NeitherBareModel", "isMuch", "(II)Z"⟩, 25) := ⟨⟨by decide +kernel, by decide +kernel⟩, lw_t4 (List.mem_of_getElem? (i := 191) rfl), lw_t5 (List.mem_of_getElem? (i := 188) rfl), lw_t5 (List.mem_of_getElem? (i := 189) rfl)⟩
theorem lw_p61 : lw_okq (⟨"NeitherBareModel", "half", "(I)I"⟩, 25) := ⟨⟨by decide +kernel, by decide +kernel⟩, lw_t4 (List.mem_of_getElem? (i := 191) rfl), lw_t5 (List.mem_of_getElem? (i := 192) rfl), lw_t5 (List.mem_of_getElem? (i := 193) rfl)⟩
theorem lw_p62 : lw_okq (⟨"NeitherBareModel", "isLittle", "(II)Z"⟩, 25) := ⟨⟨by decide +kernel, by decide +kernel⟩, lw_t4 (List.mem_of_getElem? (i := 191) rfl), lw_t5 (List.mem_of_getElem? (i := 196) rfl), lw_t5 (List.mem_of_getElem? (i := 197) rfl)⟩
theorem lw_p63 : lw_okq (⟨"NeitherBareModel", "isOf", "(II)Z"⟩, 25) := ⟨⟨by decide +kernel, by decide +kernel⟩, lw_t4 (List.mem_of_getElem? (i := 191) rfl), lw_t5 (List.mem_of_getElem? (i := 204) rfl), lw_t5 (List.mem_of_getElem? (i := 205) rfl)⟩
def lw_privs_4 : List (MethodName × Nat) := [(⟨"NeitherBareModel", "readsThing", "()Z"⟩, 25), (⟨"NeitherBareModel", "figure", "(II)I"⟩, 25), (⟨"NeitherBareModel", "readsClause", "()Z"⟩, 25), (⟨"NeitherBareModel", "isClause", "(I)Z"⟩, 25), (⟨"NeitherBareModel", "toldOf", "(II)I"⟩, 25), (⟨"NeitherBareModel", "heldMany", "(III)I"⟩, 25), (⟨"NeitherBareModel", "ways", "()I"⟩, 25), (⟨"NeitherBareModel", "holdsOf", "(IIII)Z"⟩, 25), (⟨"NeitherBareModel", "valueOf", "(II)I"⟩, 25), (⟨"NeitherBareModel", "isBetween", "(II)Z"⟩, 25), (⟨"NeitherBareModel", "lowerOf", "(I)I"⟩, 25), (⟨"NeitherBareModel", "upperOf", "(I)I"⟩, 25), (⟨"NeitherBareModel", "isMuch", "(II)Z"⟩, 25), (⟨"NeitherBareModel", "half", "(I)I"⟩, 25), (⟨"NeitherBareModel", "isLittle", "(II)Z"⟩, 25), (⟨"NeitherBareModel", "isOf", "(II)Z"⟩, 25)]
theorem lw_r4 : ∀ q ∈ lw_privs_4, lw_okq q := List.forall_mem_cons.mpr ⟨lw_p48, List.forall_mem_cons.mpr ⟨lw_p49, List.forall_mem_cons.mpr ⟨lw_p50, List.forall_mem_cons.mpr ⟨lw_p51, List.forall_mem_cons.mpr ⟨lw_p52, List.forall_mem_cons.mpr ⟨lw_p53, List.forall_mem_cons.mpr ⟨lw_p54, List.forall_mem_cons.mpr ⟨lw_p55, List.forall_mem_cons.mpr ⟨lw_p56, List.forall_mem_cons.mpr ⟨lw_p57, List.forall_mem_cons.mpr ⟨lw_p58, List.forall_mem_cons.mpr ⟨lw_p59, List.forall_mem_cons.mpr ⟨lw_p60, List.forall_mem_cons.mpr ⟨lw_p61, List.forall_mem_cons.mpr ⟨lw_p62, List.forall_mem_cons.mpr ⟨lw_p63, fun _ h => absurd h List.not_mem_nil⟩⟩⟩⟩⟩⟩⟩⟩⟩⟩⟩⟩⟩⟩⟩⟩
theorem lw_p64 : lw_okq (⟨"NeitherBareModel", "muchAlone", "(I)I"⟩, 25) := ⟨⟨by decide +kernel, by decide +kernel⟩, lw_t4 (List.mem_of_getElem? (i := 191) rfl), lw_t5 (List.mem_of_getElem? (i := 208) rfl), lw_t5 (List.mem_of_getElem? (i := 209) rfl)⟩
theorem lw_p65 : lw_okq (⟨"NeitherBareModel", "littleMany", "(I)I"⟩, 25) := ⟨⟨by decide +kernel, by decide +kernel⟩, lw_t4 (List.mem_of_getElem? (i := 191) rfl), lw_t5 (List.mem_of_getElem? (i := 212) rfl), lw_t5 (List.mem_of_getElem? (i := 213) rfl)⟩
theorem lw_p66 : lw_okq (⟨"NeitherBareModel", "keepPast", "()V"⟩, 25) := ⟨⟨by decide +kernel, by decide +kernel⟩, lw_t4 (List.mem_of_getElem? (i := 191) rfl), lw_t5 (List.mem_of_getElem? (i := 227) rfl), lw_t5 (List.mem_of_getElem? (i := 228) rfl)⟩
theorem lw_p67 : lw_okq (⟨"NeitherBareModel", "isBelow", "(III)Z"⟩, 25) := ⟨⟨by decide +kernel, by decide +kernel⟩, lw_t4 (List.mem_of_getElem? (i := 191) rfl), lw_t6 (List.mem_of_getElem? (i := 1) rfl), lw_t6 (List.mem_of_getElem? (i := 2) rfl)⟩
theorem lw_p68 : lw_okq (⟨"NeitherBareModel", "copyCourt", "(II)V"⟩, 25) := ⟨⟨by decide +kernel, by decide +kernel⟩, lw_t4 (List.mem_of_getElem? (i := 191) rfl), lw_t6 (List.mem_of_getElem? (i := 14) rfl), lw_t6 (List.mem_of_getElem? (i := 15) rfl)⟩
theorem lw_p69 : lw_okq (⟨"NeitherBareModel", "isWay", "(I)Z"⟩, 25) := ⟨⟨by decide +kernel, by decide +kernel⟩, lw_t4 (List.mem_of_getElem? (i := 191) rfl), lw_t6 (List.mem_of_getElem? (i := 26) rfl), lw_t6 (List.mem_of_getElem? (i := 27) rfl)⟩
theorem lw_p70 : lw_okq (⟨"NeitherBareModel", "costOf", "(I)I"⟩, 25) := ⟨⟨by decide +kernel, by decide +kernel⟩, lw_t4 (List.mem_of_getElem? (i := 191) rfl), lw_t6 (List.mem_of_getElem? (i := 34) rfl), lw_t6 (List.mem_of_getElem? (i := 35) rfl)⟩
theorem lw_p71 : lw_okq (⟨"NeitherBareModel", "isGood", "(I)Z"⟩, 25) := ⟨⟨by decide +kernel, by decide +kernel⟩, lw_t4 (List.mem_of_getElem? (i := 191) rfl), lw_t6 (List.mem_of_getElem? (i := 42) rfl), lw_t6 (List.mem_of_getElem? (i := 43) rfl)⟩
theorem lw_p72 : lw_okq (⟨"NeitherBareModel", "heldBy", "(I)I"⟩, 25) := ⟨⟨by decide +kernel, by decide +kernel⟩, lw_t4 (List.mem_of_getElem? (i := 191) rfl), lw_t6 (List.mem_of_getElem? (i := 46) rfl), lw_t6 (List.mem_of_getElem? (i := 47) rfl)⟩
theorem lw_p73 : lw_okq (⟨"NeitherBareModel", "holdsIn", "(II)Z"⟩, 25) := ⟨⟨by decide +kernel, by decide +kernel⟩, lw_t4 (List.mem_of_getElem? (i := 191) rfl), lw_t6 (List.mem_of_getElem? (i := 50) rfl), lw_t6 (List.mem_of_getElem? (i := 51) rfl)⟩
theorem lw_p74 : lw_okq (⟨"NeitherBareModel", "goodMany", "()I"⟩, 25) := ⟨⟨by decide +kernel, by decide +kernel⟩, lw_t4 (List.mem_of_getElem? (i := 191) rfl), lw_t6 (List.mem_of_getElem? (i := 58) rfl), lw_t6 (List.mem_of_getElem? (i := 59) rfl)⟩
theorem lw_p75 : lw_okq (⟨"NeitherBareModel", "best", "(Z)I"⟩, 25) := ⟨⟨by decide +kernel, by decide +kernel⟩, lw_t4 (List.mem_of_getElem? (i := 191) rfl), lw_t6 (List.mem_of_getElem? (i := 66) rfl), lw_t6 (List.mem_of_getElem? (i := 67) rfl)⟩
theorem lw_p76 : lw_okq (⟨"NeitherBareModel", "clashes", "(I)Z"⟩, 25) := ⟨⟨by decide +kernel, by decide +kernel⟩, lw_t4 (List.mem_of_getElem? (i := 191) rfl), lw_t6 (List.mem_of_getElem? (i := 86) rfl), lw_t6 (List.mem_of_getElem? (i := 87) rfl)⟩
theorem lw_p77 : lw_okq (⟨"NeitherBareModel", "layGame", "(I)V"⟩, 25) := ⟨⟨by decide +kernel, by decide +kernel⟩, lw_t4 (List.mem_of_getElem? (i := 191) rfl), lw_t6 (List.mem_of_getElem? (i := 106) rfl), lw_t6 (List.mem_of_getElem? (i := 107) rfl)⟩
theorem lw_p78 : lw_okq (⟨"NeitherBareModel", "layTurn", "()V"⟩, 25) := ⟨⟨by decide +kernel, by decide +kernel⟩, lw_t4 (List.mem_of_getElem? (i := 191) rfl), lw_t6 (List.mem_of_getElem? (i := 110) rfl), lw_t6 (List.mem_of_getElem? (i := 111) rfl)⟩
theorem lw_p79 : lw_okq (⟨"NeitherBareModel", "withstands", "(II)Z"⟩, 25) := ⟨⟨by decide +kernel, by decide +kernel⟩, lw_t4 (List.mem_of_getElem? (i := 191) rfl), lw_t6 (List.mem_of_getElem? (i := 114) rfl), lw_t6 (List.mem_of_getElem? (i := 115) rfl)⟩
def lw_privs_5 : List (MethodName × Nat) := [(⟨"NeitherBareModel", "muchAlone", "(I)I"⟩, 25), (⟨"NeitherBareModel", "littleMany", "(I)I"⟩, 25), (⟨"NeitherBareModel", "keepPast", "()V"⟩, 25), (⟨"NeitherBareModel", "isBelow", "(III)Z"⟩, 25), (⟨"NeitherBareModel", "copyCourt", "(II)V"⟩, 25), (⟨"NeitherBareModel", "isWay", "(I)Z"⟩, 25), (⟨"NeitherBareModel", "costOf", "(I)I"⟩, 25), (⟨"NeitherBareModel", "isGood", "(I)Z"⟩, 25), (⟨"NeitherBareModel", "heldBy", "(I)I"⟩, 25), (⟨"NeitherBareModel", "holdsIn", "(II)Z"⟩, 25), (⟨"NeitherBareModel", "goodMany", "()I"⟩, 25), (⟨"NeitherBareModel", "best", "(Z)I"⟩, 25), (⟨"NeitherBareModel", "clashes", "(I)Z"⟩, 25), (⟨"NeitherBareModel", "layGame", "(I)V"⟩, 25), (⟨"NeitherBareModel", "layTurn", "()V"⟩, 25), (⟨"NeitherBareModel", "withstands", "(II)Z"⟩, 25)]
theorem lw_r5 : ∀ q ∈ lw_privs_5, lw_okq q := List.forall_mem_cons.mpr ⟨lw_p64, List.forall_mem_cons.mpr ⟨lw_p65, List.forall_mem_cons.mpr ⟨lw_p66, List.forall_mem_cons.mpr ⟨lw_p67, List.forall_mem_cons.mpr ⟨lw_p68, List.forall_mem_cons.mpr ⟨lw_p69, List.forall_mem_cons.mpr ⟨lw_p70, List.forall_mem_cons.mpr ⟨lw_p71, List.forall_mem_cons.mpr ⟨lw_p72, List.forall_mem_cons.mpr ⟨lw_p73, List.forall_mem_cons.mpr ⟨lw_p74, List.forall_mem_cons.mpr ⟨lw_p75, List.forall_mem_cons.mpr ⟨lw_p76, List.forall_mem_cons.mpr ⟨lw_p77, List.forall_mem_cons.mpr ⟨lw_p78, List.forall_mem_cons.mpr ⟨lw_p79, fun _ h => absurd h List.not_mem_nil⟩⟩⟩⟩⟩⟩⟩⟩⟩⟩⟩⟩⟩⟩⟩⟩
theorem lw_p80 : lw_okq (⟨"NeitherBareModel", "answers", "(II)Z"⟩, 25) := ⟨⟨by decide +kernel, by decide +kernel⟩, lw_t4 (List.mem_of_getElem? (i := 191) rfl), lw_t6 (List.mem_of_getElem? (i := 118) rfl), lw_t6 (List.mem_of_getElem? (i := 119) rfl)⟩
theorem lw_p81 : lw_okq (⟨"NeitherBareModel", "noRulings", "(I)I"⟩, 25) := ⟨⟨by decide +kernel, by decide +kernel⟩, lw_t4 (List.mem_of_getElem? (i := 191) rfl), lw_t6 (List.mem_of_getElem? (i := 130) rfl), lw_t6 (List.mem_of_getElem? (i := 131) rfl)⟩
theorem lw_p82 : lw_okq (⟨"NeitherBareModel", "rule", "(III)I"⟩, 25) := ⟨⟨by decide +kernel, by decide +kernel⟩, lw_t4 (List.mem_of_getElem? (i := 191) rfl), lw_t6 (List.mem_of_getElem? (i := 134) rfl), lw_t6 (List.mem_of_getElem? (i := 135) rfl)⟩
theorem lw_p83 : lw_okq (⟨"NeitherBareModel", "against", "(III)Z"⟩, 25) := ⟨⟨by decide +kernel, by decide +kernel⟩, lw_t4 (List.mem_of_getElem? (i := 191) rfl), lw_t6 (List.mem_of_getElem? (i := 138) rfl), lw_t6 (List.mem_of_getElem? (i := 139) rfl)⟩
theorem lw_p84 : lw_okq (⟨"NeitherBareModel", "isFixed", "(II)Z"⟩, 25) := ⟨⟨by decide +kernel, by decide +kernel⟩, lw_t4 (List.mem_of_getElem? (i := 191) rfl), lw_t6 (List.mem_of_getElem? (i := 146) rfl), lw_t6 (List.mem_of_getElem? (i := 147) rfl)⟩
theorem lw_p85 : lw_okq (⟨"NeitherBareModel", "areJudged", "(I)Z"⟩, 25) := ⟨⟨by decide +kernel, by decide +kernel⟩, lw_t4 (List.mem_of_getElem? (i := 191) rfl), lw_t6 (List.mem_of_getElem? (i := 175) rfl), lw_t6 (List.mem_of_getElem? (i := 176) rfl)⟩
theorem lw_p86 : lw_okq (⟨"NeitherBareModel", "isJudged", "(II)Z"⟩, 25) := ⟨⟨by decide +kernel, by decide +kernel⟩, lw_t4 (List.mem_of_getElem? (i := 191) rfl), lw_t6 (List.mem_of_getElem? (i := 179) rfl), lw_t6 (List.mem_of_getElem? (i := 180) rfl)⟩
theorem lw_p87 : lw_okq (⟨"NeitherBareModel", "tellParts", "(JJ)I"⟩, 25) := ⟨⟨by decide +kernel, by decide +kernel⟩, lw_t4 (List.mem_of_getElem? (i := 191) rfl), lw_t6 (List.mem_of_getElem? (i := 188) rfl), lw_t6 (List.mem_of_getElem? (i := 189) rfl)⟩
theorem lw_p88 : lw_okq (⟨"NeitherBareModel", "countOf", "(I)I"⟩, 25) := ⟨⟨by decide +kernel, by decide +kernel⟩, lw_t4 (List.mem_of_getElem? (i := 191) rfl), lw_t6 (List.mem_of_getElem? (i := 222) rfl), lw_t6 (List.mem_of_getElem? (i := 223) rfl)⟩
theorem lw_p89 : lw_okq (⟨"NeitherBareModel", "kindMany", "(I)I"⟩, 25) := ⟨⟨by decide +kernel, by decide +kernel⟩, lw_t4 (List.mem_of_getElem? (i := 191) rfl), lw_t6 (List.mem_of_getElem? (i := 226) rfl), lw_t6 (List.mem_of_getElem? (i := 227) rfl)⟩
theorem lw_p90 : lw_okq (⟨"NeitherBareModel", "thereOf", "(I)I"⟩, 25) := ⟨⟨by decide +kernel, by decide +kernel⟩, lw_t4 (List.mem_of_getElem? (i := 191) rfl), lw_t6 (List.mem_of_getElem? (i := 230) rfl), lw_t6 (List.mem_of_getElem? (i := 231) rfl)⟩
def lw_privs_6 : List (MethodName × Nat) := [(⟨"NeitherBareModel", "answers", "(II)Z"⟩, 25), (⟨"NeitherBareModel", "noRulings", "(I)I"⟩, 25), (⟨"NeitherBareModel", "rule", "(III)I"⟩, 25), (⟨"NeitherBareModel", "against", "(III)Z"⟩, 25), (⟨"NeitherBareModel", "isFixed", "(II)Z"⟩, 25), (⟨"NeitherBareModel", "areJudged", "(I)Z"⟩, 25), (⟨"NeitherBareModel", "isJudged", "(II)Z"⟩, 25), (⟨"NeitherBareModel", "tellParts", "(JJ)I"⟩, 25), (⟨"NeitherBareModel", "countOf", "(I)I"⟩, 25), (⟨"NeitherBareModel", "kindMany", "(I)I"⟩, 25), (⟨"NeitherBareModel", "thereOf", "(I)I"⟩, 25)]
theorem lw_r6 : ∀ q ∈ lw_privs_6, lw_okq q := List.forall_mem_cons.mpr ⟨lw_p80, List.forall_mem_cons.mpr ⟨lw_p81, List.forall_mem_cons.mpr ⟨lw_p82, List.forall_mem_cons.mpr ⟨lw_p83, List.forall_mem_cons.mpr ⟨lw_p84, List.forall_mem_cons.mpr ⟨lw_p85, List.forall_mem_cons.mpr ⟨lw_p86, List.forall_mem_cons.mpr ⟨lw_p87, List.forall_mem_cons.mpr ⟨lw_p88, List.forall_mem_cons.mpr ⟨lw_p89, List.forall_mem_cons.mpr ⟨lw_p90, fun _ h => absurd h List.not_mem_nil⟩⟩⟩⟩⟩⟩⟩⟩⟩⟩⟩
def lw_privs : List (MethodName × Nat) := lw_privs_1 ++ (lw_privs_2 ++ (lw_privs_3 ++ (lw_privs_4 ++ (lw_privs_5 ++ (lw_privs_6)))))
def lw_tbl : List Cond := k2_sels lw_privs ++ tables_1
theorem lw_privs_ok : ∀ q ∈ lw_privs, lw_okq q := by
  show ∀ q ∈ lw_privs_1 ++ (lw_privs_2 ++ (lw_privs_3 ++ (lw_privs_4 ++ (lw_privs_5 ++ (lw_privs_6))))), lw_okq q
  exact List.forall_mem_append.mpr ⟨lw_r1, List.forall_mem_append.mpr ⟨lw_r2, List.forall_mem_append.mpr ⟨lw_r3, List.forall_mem_append.mpr ⟨lw_r4, List.forall_mem_append.mpr ⟨lw_r5, lw_r6⟩⟩⟩⟩⟩
-- ===== ONE list of words for every method: the tables' words that hold all through a run =====
def lw_all : List Cond := lw_tbl.filter goodWord
/-- a word of the tables by its place: claim/WORDS.tsv -/
theorem lw_w {w : Cond} (i : Nat) (h : lw_tbl[i]? = some w) (g : goodWord w = true) : w ∈ lw_all := List.mem_filter.mpr ⟨List.mem_of_getElem? h, g⟩
theorem lw_all_tbl {w : Cond} (h : w ∈ lw_all) : w ∈ lw_tbl := (List.mem_filter.mp h).1
theorem lw_self : GoodIn lw_all lw_all := fun w h => ⟨h, good_of_word (List.mem_filter.mp h).2⟩
/-- a class's field words, by their places -/
theorem lw_in (ws : List Cond) (ps : List Nat) (hp : ws = ps.filterMap (fun i => lw_tbl[i]?)) (hg : ws.all goodWord = true) : ∀ w ∈ ws, w ∈ lw_all := by
  intro w h
  have h1 := List.all_eq_true.mp hg w h
  rw [hp] at h
  obtain ⟨i, -, hi⟩ := List.mem_filterMap.mp h
  exact lw_w i hi h1
/-- the words of a contract for the method y with code b, L locals, answer r -/
abbrev ws_ (y : MethodName) (b : ByteArray) (L : Nat) (r : Option FieldType) : List Cond := Cond.code y b L r :: lw_all
theorem lw_meth {y : MethodName} {b : ByteArray} {L : Nat} {r : Option FieldType} (h : Cond.code y b L r ∈ lw_all) : GoodIn lw_all (ws_ y b L r) := by
  intro w hw
  rcases List.mem_cons.mp hw with e | e
  · rw [e]
    exact lw_self _ h
  · exact lw_self _ e
theorem lw_app {a c : List Cond} (ha : ∀ w ∈ a, w ∈ lw_all) (hc : GoodIn lw_all c) : GoodIn lw_all (a ++ c) := by
  intro w hw
  rcases List.mem_append.mp hw with e | e
  · exact lw_self w (ha w e)
  · exact hc w e
/-- what a call through an object asks: cwV n hts (lw_V ..) -/
theorem lw_V {own : String} {idx : Nat} {C : String} {y : MethodName} {b : ByteArray} {L : Nat} {r : Option FieldType} (h1 : Cond.methodLink own idx y ∈ lw_all) (h2 : Cond.instanceMethod y ∈ lw_all) (h3 : Cond.selects C y y ∈ lw_all) (h4 : Cond.initialized C ∈ lw_all) (h5 : Cond.code y b L r ∈ lw_all) : GoodIn lw_all (wsV own idx C y (ws_ y b L r)) := by
  refine lw_app ?_ (lw_meth h5)
  intro w hw
  simp only [List.mem_cons, List.not_mem_nil, or_false] at hw
  rcases hw with e | e | e | e
  · rw [e]; exact h1
  · rw [e]; exact h2
  · rw [e]; exact h3
  · rw [e]; exact h4
/-- what a static call asks: va_cwS n hts (lw_S ..) -/
theorem lw_S {own : String} {idx : Nat} {y : MethodName} {b : ByteArray} {L : Nat} {r : Option FieldType} (h1 : Cond.methodLink own idx y ∈ lw_all) (h2 : Cond.static y ∈ lw_all) (h3 : Cond.initialized y.cls ∈ lw_all) (h4 : Cond.code y b L r ∈ lw_all) : GoodIn lw_all (va_wsS own idx y (ws_ y b L r)) := by
  refine lw_app ?_ (lw_meth h4)
  intro w hw
  simp only [List.mem_cons, List.not_mem_nil, or_false] at hw
  rcases hw with e | e | e
  · rw [e]; exact h1
  · rw [e]; exact h2
  · rw [e]; exact h3
/-- the words of a contract for a method WITH HANDLERS (hh: its table) -/
abbrev wsW_ (y : MethodName) (b : ByteArray) (L : Nat) (r : Option FieldType) (hh : List (Nat × Nat × Nat × Nat)) : List Cond := Cond.codeWith y b L r hh :: lw_all
theorem lw_methW {y : MethodName} {b : ByteArray} {L : Nat} {r : Option FieldType} {hh : List (Nat × Nat × Nat × Nat)} (h : Cond.codeWith y b L r hh ∈ lw_all) : GoodIn lw_all (wsW_ y b L r hh) := by
  intro w hw
  rcases List.mem_cons.mp hw with e | e
  · rw [e]
    exact lw_self _ h
  · exact lw_self _ e
/-- any list of words by their places (lw_in), good -/
theorem lw_good {ws : List Cond} (h : ∀ w ∈ ws, w ∈ lw_all) : GoodIn lw_all ws := fun w hw => lw_self w (h w hw)
/-- what a call of a method with handlers asks: vx_cwVW n hts (lw_VW ..), vx_cwSW n hts (lw_SW ..) -/
theorem lw_VW {own : String} {idx : Nat} {C : String} {y : MethodName} {b : ByteArray} {L : Nat} {r : Option FieldType} {hh : List (Nat × Nat × Nat × Nat)} (h1 : Cond.methodLink own idx y ∈ lw_all) (h2 : Cond.instanceMethod y ∈ lw_all) (h3 : Cond.selects C y y ∈ lw_all) (h4 : Cond.initialized C ∈ lw_all) (h5 : Cond.codeWith y b L r hh ∈ lw_all) : GoodIn lw_all (wsV own idx C y (wsW_ y b L r hh)) := by
  refine lw_app ?_ (lw_methW h5)
  intro w hw
  simp only [List.mem_cons, List.not_mem_nil, or_false] at hw
  rcases hw with e | e | e | e
  · rw [e]; exact h1
  · rw [e]; exact h2
  · rw [e]; exact h3
  · rw [e]; exact h4
theorem lw_SW {own : String} {idx : Nat} {y : MethodName} {b : ByteArray} {L : Nat} {r : Option FieldType} {hh : List (Nat × Nat × Nat × Nat)} (h1 : Cond.methodLink own idx y ∈ lw_all) (h2 : Cond.static y ∈ lw_all) (h3 : Cond.initialized y.cls ∈ lw_all) (h4 : Cond.codeWith y b L r hh ∈ lw_all) : GoodIn lw_all (va_wsS own idx y (wsW_ y b L r hh)) := by
  refine lw_app ?_ (lw_methW h4)
  intro w hw
  simp only [List.mem_cons, List.not_mem_nil, or_false] at hw
  rcases hw with e | e | e
  · rw [e]; exact h1
  · rw [e]; exact h2
  · rw [e]; exact h3
/-- a word by its place in its run of the tables -/
theorem lw_at {r : List Cond} (hr : ∀ w ∈ r, w ∈ lw_tbl) {w : Cond} (i : Nat) (h : r[i]? = some w) : w ∈ lw_tbl := hr w (List.mem_of_getElem? h)
theorem lw_g {w : Cond} (h : w ∈ lw_tbl) (g : goodWord w = true) : w ∈ lw_all := List.mem_filter.mpr ⟨h, g⟩
theorem lw_ms : ∀ w ∈ k2_sels lw_privs, w ∈ lw_tbl := fun w h => show w ∈ k2_sels lw_privs ++ tables_1 from List.mem_append_left _ h
theorem lw_m1 : ∀ w ∈ tables_1_1, w ∈ lw_tbl := fun w h => show w ∈ k2_sels lw_privs ++ tables_1 from List.mem_append_right (k2_sels lw_privs) (show w ∈ tables_1 from List.mem_append_left _ h)
theorem lw_m2 : ∀ w ∈ tables_1_2, w ∈ lw_tbl := fun w h => show w ∈ k2_sels lw_privs ++ tables_1 from List.mem_append_right (k2_sels lw_privs) (show w ∈ tables_1 from List.mem_append_right _ (List.mem_append_left _ h))
theorem lw_m3 : ∀ w ∈ tables_1_3, w ∈ lw_tbl := fun w h => show w ∈ k2_sels lw_privs ++ tables_1 from List.mem_append_right (k2_sels lw_privs) (show w ∈ tables_1 from List.mem_append_right _ (List.mem_append_right _ (List.mem_append_left _ h)))
theorem lw_m4 : ∀ w ∈ tables_1_4, w ∈ lw_tbl := fun w h => show w ∈ k2_sels lw_privs ++ tables_1 from List.mem_append_right (k2_sels lw_privs) (show w ∈ tables_1 from List.mem_append_right _ (List.mem_append_right _ (List.mem_append_right _ (List.mem_append_left _ h))))
theorem lw_m5 : ∀ w ∈ tables_1_5, w ∈ lw_tbl := fun w h => show w ∈ k2_sels lw_privs ++ tables_1 from List.mem_append_right (k2_sels lw_privs) (show w ∈ tables_1 from List.mem_append_right _ (List.mem_append_right _ (List.mem_append_right _ (List.mem_append_right _ (List.mem_append_left _ h)))))
theorem lw_m6 : ∀ w ∈ tables_1_6, w ∈ lw_tbl := fun w h => show w ∈ k2_sels lw_privs ++ tables_1 from List.mem_append_right (k2_sels lw_privs) (show w ∈ tables_1 from List.mem_append_right _ (List.mem_append_right _ (List.mem_append_right _ (List.mem_append_right _ (List.mem_append_right _ (List.mem_append_left _ h))))))
theorem lw_m7 : ∀ w ∈ tables_1_7, w ∈ lw_tbl := fun w h => show w ∈ k2_sels lw_privs ++ tables_1 from List.mem_append_right (k2_sels lw_privs) (show w ∈ tables_1 from List.mem_append_right _ (List.mem_append_right _ (List.mem_append_right _ (List.mem_append_right _ (List.mem_append_right _ (List.mem_append_right _ h))))))
theorem qs0 : (Cond.selects "java/lang/NullPointerException" ⟨"java/lang/NullPointerException", "getExtendedNPEMessage", "()Ljava/lang/String;"⟩ ⟨"java/lang/NullPointerException", "getExtendedNPEMessage", "()Ljava/lang/String;"⟩) ∈ lw_all := lw_g (lw_at lw_ms 0 rfl) rfl
theorem qs1 : (Cond.selects "java/lang/Throwable" ⟨"java/lang/Throwable", "fillInStackTrace", "(I)Ljava/lang/Throwable;"⟩ ⟨"java/lang/Throwable", "fillInStackTrace", "(I)Ljava/lang/Throwable;"⟩) ∈ lw_all := lw_g (lw_at lw_ms 1 rfl) rfl
theorem qs2 : (Cond.selects "NeitherBare" ⟨"NeitherBare", "found", "(I)I"⟩ ⟨"NeitherBare", "found", "(I)I"⟩) ∈ lw_all := lw_g (lw_at lw_ms 2 rfl) rfl
theorem qs3 : (Cond.selects "NeitherBare" ⟨"NeitherBare", "say", "(II)I"⟩ ⟨"NeitherBare", "say", "(II)I"⟩) ∈ lw_all := lw_g (lw_at lw_ms 3 rfl) rfl
theorem qs4 : (Cond.selects "NeitherBare" ⟨"NeitherBare", "read", "([B)I"⟩ ⟨"NeitherBare", "read", "([B)I"⟩) ∈ lw_all := lw_g (lw_at lw_ms 4 rfl) rfl
theorem qs5 : (Cond.selects "NeitherBare" ⟨"NeitherBare", "readThing", "([B)Z"⟩ ⟨"NeitherBare", "readThing", "([B)Z"⟩) ∈ lw_all := lw_g (lw_at lw_ms 5 rfl) rfl
theorem qs6 : (Cond.selects "NeitherBare" ⟨"NeitherBare", "readClause", "([B)Z"⟩ ⟨"NeitherBare", "readClause", "([B)Z"⟩) ∈ lw_all := lw_g (lw_at lw_ms 6 rfl) rfl
theorem qs7 : (Cond.selects "NeitherBare" ⟨"NeitherBare", "make", "(III)LNeitherBare$Clause;"⟩ ⟨"NeitherBare", "make", "(III)LNeitherBare$Clause;"⟩) ∈ lw_all := lw_g (lw_at lw_ms 7 rfl) rfl
theorem qs8 : (Cond.selects "NeitherBare" ⟨"NeitherBare", "isThing", "(I)Z"⟩ ⟨"NeitherBare", "isThing", "(I)Z"⟩) ∈ lw_all := lw_g (lw_at lw_ms 8 rfl) rfl
theorem qs9 : (Cond.selects "NeitherBare" ⟨"NeitherBare", "isClause", "(I)Z"⟩ ⟨"NeitherBare", "isClause", "(I)Z"⟩) ∈ lw_all := lw_g (lw_at lw_ms 9 rfl) rfl
theorem qs10 : (Cond.selects "NeitherBare" ⟨"NeitherBare", "clauseTells", "(II)I"⟩ ⟨"NeitherBare", "clauseTells", "(II)I"⟩) ∈ lw_all := lw_g (lw_at lw_ms 10 rfl) rfl
theorem qs11 : (Cond.selects "NeitherBare" ⟨"NeitherBare", "isOn", "(I)Z"⟩ ⟨"NeitherBare", "isOn", "(I)Z"⟩) ∈ lw_all := lw_g (lw_at lw_ms 11 rfl) rfl
theorem qs12 : (Cond.selects "NeitherBare" ⟨"NeitherBare", "waysOf", "(LNeitherBare$Clause;)J"⟩ ⟨"NeitherBare", "waysOf", "(LNeitherBare$Clause;)J"⟩) ∈ lw_all := lw_g (lw_at lw_ms 12 rfl) rfl
theorem qs13 : (Cond.selects "NeitherBare" ⟨"NeitherBare", "ways", "()I"⟩ ⟨"NeitherBare", "ways", "()I"⟩) ∈ lw_all := lw_g (lw_at lw_ms 13 rfl) rfl
theorem qs14 : (Cond.selects "NeitherBare" ⟨"NeitherBare", "isMuch", "(II)Z"⟩ ⟨"NeitherBare", "isMuch", "(II)Z"⟩) ∈ lw_all := lw_g (lw_at lw_ms 14 rfl) rfl
theorem qs15 : (Cond.selects "NeitherBare" ⟨"NeitherBare", "valueOf", "(II)I"⟩ ⟨"NeitherBare", "valueOf", "(II)I"⟩) ∈ lw_all := lw_g (lw_at lw_ms 15 rfl) rfl
theorem qs16 : (Cond.selects "NeitherBare" ⟨"NeitherBare", "isLittle", "(II)Z"⟩ ⟨"NeitherBare", "isLittle", "(II)Z"⟩) ∈ lw_all := lw_g (lw_at lw_ms 16 rfl) rfl
theorem qs17 : (Cond.selects "NeitherBare$Half" ⟨"NeitherBare$Half", "middle", "()I"⟩ ⟨"NeitherBare$Half", "middle", "()I"⟩) ∈ lw_all := lw_g (lw_at lw_ms 17 rfl) rfl
theorem qs18 : (Cond.selects "NeitherBare" ⟨"NeitherBare", "remember", "()V"⟩ ⟨"NeitherBare", "remember", "()V"⟩) ∈ lw_all := lw_g (lw_at lw_ms 18 rfl) rfl
theorem qs19 : (Cond.selects "NeitherBare" ⟨"NeitherBare", "onSet", "()I"⟩ ⟨"NeitherBare", "onSet", "()I"⟩) ∈ lw_all := lw_g (lw_at lw_ms 19 rfl) rfl
theorem qs20 : (Cond.selects "NeitherBare" ⟨"NeitherBare", "isBelow", "(III)Z"⟩ ⟨"NeitherBare", "isBelow", "(III)Z"⟩) ∈ lw_all := lw_g (lw_at lw_ms 20 rfl) rfl
theorem qs21 : (Cond.selects "NeitherBare" ⟨"NeitherBare", "isWay", "(I)Z"⟩ ⟨"NeitherBare", "isWay", "(I)Z"⟩) ∈ lw_all := lw_g (lw_at lw_ms 21 rfl) rfl
theorem qs22 : (Cond.selects "NeitherBare" ⟨"NeitherBare", "costOf", "(I)I"⟩ ⟨"NeitherBare", "costOf", "(I)I"⟩) ∈ lw_all := lw_g (lw_at lw_ms 22 rfl) rfl
theorem qs23 : (Cond.selects "NeitherBare" ⟨"NeitherBare", "isGood", "(I)Z"⟩ ⟨"NeitherBare", "isGood", "(I)Z"⟩) ∈ lw_all := lw_g (lw_at lw_ms 23 rfl) rfl
theorem qs24 : (Cond.selects "NeitherBare" ⟨"NeitherBare", "holdSet", "(I)I"⟩ ⟨"NeitherBare", "holdSet", "(I)I"⟩) ∈ lw_all := lw_g (lw_at lw_ms 24 rfl) rfl
theorem qs25 : (Cond.selects "NeitherBare" ⟨"NeitherBare", "goodWays", "()J"⟩ ⟨"NeitherBare", "goodWays", "()J"⟩) ∈ lw_all := lw_g (lw_at lw_ms 25 rfl) rfl
theorem qs26 : (Cond.selects "NeitherBare" ⟨"NeitherBare", "laySets", "()V"⟩ ⟨"NeitherBare", "laySets", "()V"⟩) ∈ lw_all := lw_g (lw_at lw_ms 26 rfl) rfl
theorem qs27 : (Cond.selects "NeitherBare" ⟨"NeitherBare", "common", "(I)J"⟩ ⟨"NeitherBare", "common", "(I)J"⟩) ∈ lw_all := lw_g (lw_at lw_ms 27 rfl) rfl
theorem qs28 : (Cond.selects "NeitherBare" ⟨"NeitherBare", "allWays", "()J"⟩ ⟨"NeitherBare", "allWays", "()J"⟩) ∈ lw_all := lw_g (lw_at lw_ms 28 rfl) rfl
theorem qs29 : (Cond.selects "NeitherBare" ⟨"NeitherBare", "bestOf", "(JZ)I"⟩ ⟨"NeitherBare", "bestOf", "(JZ)I"⟩) ∈ lw_all := lw_g (lw_at lw_ms 29 rfl) rfl
theorem qs30 : (Cond.selects "NeitherBare" ⟨"NeitherBare", "needGame", "(II)I"⟩ ⟨"NeitherBare", "needGame", "(II)I"⟩) ∈ lw_all := lw_g (lw_at lw_ms 30 rfl) rfl
theorem qs31 : (Cond.selects "NeitherBare" ⟨"NeitherBare", "winsShe", "(III)Z"⟩ ⟨"NeitherBare", "winsShe", "(III)Z"⟩) ∈ lw_all := lw_g (lw_at lw_ms 31 rfl) rfl
theorem qs32 : (Cond.selects "NeitherBare" ⟨"NeitherBare", "answers", "(III)Z"⟩ ⟨"NeitherBare", "answers", "(III)Z"⟩) ∈ lw_all := lw_g (lw_at lw_ms 32 rfl) rfl
theorem qs33 : (Cond.selects "NeitherBare" ⟨"NeitherBare", "needRulings", "(IZ)I"⟩ ⟨"NeitherBare", "needRulings", "(IZ)I"⟩) ∈ lw_all := lw_g (lw_at lw_ms 33 rfl) rfl
theorem qs34 : (Cond.selects "NeitherBare" ⟨"NeitherBare", "isJudged", "(I[I)Z"⟩ ⟨"NeitherBare", "isJudged", "(I[I)Z"⟩) ∈ lw_all := lw_g (lw_at lw_ms 34 rfl) rfl
theorem qs35 : (Cond.selects "NeitherBare" ⟨"NeitherBare", "fraction", "(JJ)I"⟩ ⟨"NeitherBare", "fraction", "(JJ)I"⟩) ∈ lw_all := lw_g (lw_at lw_ms 35 rfl) rfl
theorem qs36 : (Cond.selects "NeitherBare" ⟨"NeitherBare", "counted", "(I)I"⟩ ⟨"NeitherBare", "counted", "(I)I"⟩) ∈ lw_all := lw_g (lw_at lw_ms 36 rfl) rfl
theorem qs37 : (Cond.selects "NeitherBare" ⟨"NeitherBare", "add", "(J)V"⟩ ⟨"NeitherBare", "add", "(J)V"⟩) ∈ lw_all := lw_g (lw_at lw_ms 37 rfl) rfl
theorem qs38 : (Cond.selects "NeitherBare" ⟨"NeitherBare", "addCourt", "()V"⟩ ⟨"NeitherBare", "addCourt", "()V"⟩) ∈ lw_all := lw_g (lw_at lw_ms 38 rfl) rfl
theorem qs39 : (Cond.selects "NeitherBareModel" ⟨"NeitherBareModel", "begin", "()V"⟩ ⟨"NeitherBareModel", "begin", "()V"⟩) ∈ lw_all := lw_g (lw_at lw_ms 39 rfl) rfl
theorem qs40 : (Cond.selects "NeitherBareModel" ⟨"NeitherBareModel", "find", "(I)I"⟩ ⟨"NeitherBareModel", "find", "(I)I"⟩) ∈ lw_all := lw_g (lw_at lw_ms 40 rfl) rfl
theorem qs41 : (Cond.selects "NeitherBareModel" ⟨"NeitherBareModel", "makeRow", "(II)V"⟩ ⟨"NeitherBareModel", "makeRow", "(II)V"⟩) ∈ lw_all := lw_g (lw_at lw_ms 41 rfl) rfl
theorem qs42 : (Cond.selects "NeitherBareModel" ⟨"NeitherBareModel", "refused", "(II)I"⟩ ⟨"NeitherBareModel", "refused", "(II)I"⟩) ∈ lw_all := lw_g (lw_at lw_ms 42 rfl) rfl
theorem qs43 : (Cond.selects "NeitherBareModel" ⟨"NeitherBareModel", "tell", "(I)I"⟩ ⟨"NeitherBareModel", "tell", "(I)I"⟩) ∈ lw_all := lw_g (lw_at lw_ms 43 rfl) rfl
theorem qs44 : (Cond.selects "NeitherBareModel" ⟨"NeitherBareModel", "isSpan", "(III)Z"⟩ ⟨"NeitherBareModel", "isSpan", "(III)Z"⟩) ∈ lw_all := lw_g (lw_at lw_ms 44 rfl) rfl
theorem qs45 : (Cond.selects "NeitherBareModel" ⟨"NeitherBareModel", "faultOf", "(I)I"⟩ ⟨"NeitherBareModel", "faultOf", "(I)I"⟩) ∈ lw_all := lw_g (lw_at lw_ms 45 rfl) rfl
theorem qs46 : (Cond.selects "NeitherBareModel" ⟨"NeitherBareModel", "skip", "()V"⟩ ⟨"NeitherBareModel", "skip", "()V"⟩) ∈ lw_all := lw_g (lw_at lw_ms 46 rfl) rfl
theorem qs47 : (Cond.selects "NeitherBareModel" ⟨"NeitherBareModel", "here", "()I"⟩ ⟨"NeitherBareModel", "here", "()I"⟩) ∈ lw_all := lw_g (lw_at lw_ms 47 rfl) rfl
theorem qs48 : (Cond.selects "NeitherBareModel" ⟨"NeitherBareModel", "readsThing", "()Z"⟩ ⟨"NeitherBareModel", "readsThing", "()Z"⟩) ∈ lw_all := lw_g (lw_at lw_ms 48 rfl) rfl
theorem qs49 : (Cond.selects "NeitherBareModel" ⟨"NeitherBareModel", "figure", "(II)I"⟩ ⟨"NeitherBareModel", "figure", "(II)I"⟩) ∈ lw_all := lw_g (lw_at lw_ms 49 rfl) rfl
theorem qs50 : (Cond.selects "NeitherBareModel" ⟨"NeitherBareModel", "readsClause", "()Z"⟩ ⟨"NeitherBareModel", "readsClause", "()Z"⟩) ∈ lw_all := lw_g (lw_at lw_ms 50 rfl) rfl
theorem qs51 : (Cond.selects "NeitherBareModel" ⟨"NeitherBareModel", "isClause", "(I)Z"⟩ ⟨"NeitherBareModel", "isClause", "(I)Z"⟩) ∈ lw_all := lw_g (lw_at lw_ms 51 rfl) rfl
theorem qs52 : (Cond.selects "NeitherBareModel" ⟨"NeitherBareModel", "toldOf", "(II)I"⟩ ⟨"NeitherBareModel", "toldOf", "(II)I"⟩) ∈ lw_all := lw_g (lw_at lw_ms 52 rfl) rfl
theorem qs53 : (Cond.selects "NeitherBareModel" ⟨"NeitherBareModel", "heldMany", "(III)I"⟩ ⟨"NeitherBareModel", "heldMany", "(III)I"⟩) ∈ lw_all := lw_g (lw_at lw_ms 53 rfl) rfl
theorem qs54 : (Cond.selects "NeitherBareModel" ⟨"NeitherBareModel", "ways", "()I"⟩ ⟨"NeitherBareModel", "ways", "()I"⟩) ∈ lw_all := lw_g (lw_at lw_ms 54 rfl) rfl
theorem qs55 : (Cond.selects "NeitherBareModel" ⟨"NeitherBareModel", "holdsOf", "(IIII)Z"⟩ ⟨"NeitherBareModel", "holdsOf", "(IIII)Z"⟩) ∈ lw_all := lw_g (lw_at lw_ms 55 rfl) rfl
theorem qs56 : (Cond.selects "NeitherBareModel" ⟨"NeitherBareModel", "valueOf", "(II)I"⟩ ⟨"NeitherBareModel", "valueOf", "(II)I"⟩) ∈ lw_all := lw_g (lw_at lw_ms 56 rfl) rfl
theorem qs57 : (Cond.selects "NeitherBareModel" ⟨"NeitherBareModel", "isBetween", "(II)Z"⟩ ⟨"NeitherBareModel", "isBetween", "(II)Z"⟩) ∈ lw_all := lw_g (lw_at lw_ms 57 rfl) rfl
theorem qs58 : (Cond.selects "NeitherBareModel" ⟨"NeitherBareModel", "lowerOf", "(I)I"⟩ ⟨"NeitherBareModel", "lowerOf", "(I)I"⟩) ∈ lw_all := lw_g (lw_at lw_ms 58 rfl) rfl
theorem qs59 : (Cond.selects "NeitherBareModel" ⟨"NeitherBareModel", "upperOf", "(I)I"⟩ ⟨"NeitherBareModel", "upperOf", "(I)I"⟩) ∈ lw_all := lw_g (lw_at lw_ms 59 rfl) rfl
theorem qs60 : (Cond.selects "NeitherBareModel" ⟨"NeitherBareModel", "isMuch", "(II)Z"⟩ ⟨"NeitherBareModel", "isMuch", "(II)Z"⟩) ∈ lw_all := lw_g (lw_at lw_ms 60 rfl) rfl
theorem qs61 : (Cond.selects "NeitherBareModel" ⟨"NeitherBareModel", "half", "(I)I"⟩ ⟨"NeitherBareModel", "half", "(I)I"⟩) ∈ lw_all := lw_g (lw_at lw_ms 61 rfl) rfl
theorem qs62 : (Cond.selects "NeitherBareModel" ⟨"NeitherBareModel", "isLittle", "(II)Z"⟩ ⟨"NeitherBareModel", "isLittle", "(II)Z"⟩) ∈ lw_all := lw_g (lw_at lw_ms 62 rfl) rfl
theorem qs63 : (Cond.selects "NeitherBareModel" ⟨"NeitherBareModel", "isOf", "(II)Z"⟩ ⟨"NeitherBareModel", "isOf", "(II)Z"⟩) ∈ lw_all := lw_g (lw_at lw_ms 63 rfl) rfl
theorem qs64 : (Cond.selects "NeitherBareModel" ⟨"NeitherBareModel", "muchAlone", "(I)I"⟩ ⟨"NeitherBareModel", "muchAlone", "(I)I"⟩) ∈ lw_all := lw_g (lw_at lw_ms 64 rfl) rfl
theorem qs65 : (Cond.selects "NeitherBareModel" ⟨"NeitherBareModel", "littleMany", "(I)I"⟩ ⟨"NeitherBareModel", "littleMany", "(I)I"⟩) ∈ lw_all := lw_g (lw_at lw_ms 65 rfl) rfl
theorem qs66 : (Cond.selects "NeitherBareModel" ⟨"NeitherBareModel", "keepPast", "()V"⟩ ⟨"NeitherBareModel", "keepPast", "()V"⟩) ∈ lw_all := lw_g (lw_at lw_ms 66 rfl) rfl
theorem qs67 : (Cond.selects "NeitherBareModel" ⟨"NeitherBareModel", "isBelow", "(III)Z"⟩ ⟨"NeitherBareModel", "isBelow", "(III)Z"⟩) ∈ lw_all := lw_g (lw_at lw_ms 67 rfl) rfl
theorem qs68 : (Cond.selects "NeitherBareModel" ⟨"NeitherBareModel", "copyCourt", "(II)V"⟩ ⟨"NeitherBareModel", "copyCourt", "(II)V"⟩) ∈ lw_all := lw_g (lw_at lw_ms 68 rfl) rfl
theorem qs69 : (Cond.selects "NeitherBareModel" ⟨"NeitherBareModel", "isWay", "(I)Z"⟩ ⟨"NeitherBareModel", "isWay", "(I)Z"⟩) ∈ lw_all := lw_g (lw_at lw_ms 69 rfl) rfl
theorem qs70 : (Cond.selects "NeitherBareModel" ⟨"NeitherBareModel", "costOf", "(I)I"⟩ ⟨"NeitherBareModel", "costOf", "(I)I"⟩) ∈ lw_all := lw_g (lw_at lw_ms 70 rfl) rfl
theorem qs71 : (Cond.selects "NeitherBareModel" ⟨"NeitherBareModel", "isGood", "(I)Z"⟩ ⟨"NeitherBareModel", "isGood", "(I)Z"⟩) ∈ lw_all := lw_g (lw_at lw_ms 71 rfl) rfl
theorem qs72 : (Cond.selects "NeitherBareModel" ⟨"NeitherBareModel", "heldBy", "(I)I"⟩ ⟨"NeitherBareModel", "heldBy", "(I)I"⟩) ∈ lw_all := lw_g (lw_at lw_ms 72 rfl) rfl
theorem qs73 : (Cond.selects "NeitherBareModel" ⟨"NeitherBareModel", "holdsIn", "(II)Z"⟩ ⟨"NeitherBareModel", "holdsIn", "(II)Z"⟩) ∈ lw_all := lw_g (lw_at lw_ms 73 rfl) rfl
theorem qs74 : (Cond.selects "NeitherBareModel" ⟨"NeitherBareModel", "goodMany", "()I"⟩ ⟨"NeitherBareModel", "goodMany", "()I"⟩) ∈ lw_all := lw_g (lw_at lw_ms 74 rfl) rfl
theorem qs75 : (Cond.selects "NeitherBareModel" ⟨"NeitherBareModel", "best", "(Z)I"⟩ ⟨"NeitherBareModel", "best", "(Z)I"⟩) ∈ lw_all := lw_g (lw_at lw_ms 75 rfl) rfl
theorem qs76 : (Cond.selects "NeitherBareModel" ⟨"NeitherBareModel", "clashes", "(I)Z"⟩ ⟨"NeitherBareModel", "clashes", "(I)Z"⟩) ∈ lw_all := lw_g (lw_at lw_ms 76 rfl) rfl
theorem qs77 : (Cond.selects "NeitherBareModel" ⟨"NeitherBareModel", "layGame", "(I)V"⟩ ⟨"NeitherBareModel", "layGame", "(I)V"⟩) ∈ lw_all := lw_g (lw_at lw_ms 77 rfl) rfl
theorem qs78 : (Cond.selects "NeitherBareModel" ⟨"NeitherBareModel", "layTurn", "()V"⟩ ⟨"NeitherBareModel", "layTurn", "()V"⟩) ∈ lw_all := lw_g (lw_at lw_ms 78 rfl) rfl
theorem qs79 : (Cond.selects "NeitherBareModel" ⟨"NeitherBareModel", "withstands", "(II)Z"⟩ ⟨"NeitherBareModel", "withstands", "(II)Z"⟩) ∈ lw_all := lw_g (lw_at lw_ms 79 rfl) rfl
theorem qs80 : (Cond.selects "NeitherBareModel" ⟨"NeitherBareModel", "answers", "(II)Z"⟩ ⟨"NeitherBareModel", "answers", "(II)Z"⟩) ∈ lw_all := lw_g (lw_at lw_ms 80 rfl) rfl
theorem qs81 : (Cond.selects "NeitherBareModel" ⟨"NeitherBareModel", "noRulings", "(I)I"⟩ ⟨"NeitherBareModel", "noRulings", "(I)I"⟩) ∈ lw_all := lw_g (lw_at lw_ms 81 rfl) rfl
theorem qs82 : (Cond.selects "NeitherBareModel" ⟨"NeitherBareModel", "rule", "(III)I"⟩ ⟨"NeitherBareModel", "rule", "(III)I"⟩) ∈ lw_all := lw_g (lw_at lw_ms 82 rfl) rfl
theorem qs83 : (Cond.selects "NeitherBareModel" ⟨"NeitherBareModel", "against", "(III)Z"⟩ ⟨"NeitherBareModel", "against", "(III)Z"⟩) ∈ lw_all := lw_g (lw_at lw_ms 83 rfl) rfl
theorem qs84 : (Cond.selects "NeitherBareModel" ⟨"NeitherBareModel", "isFixed", "(II)Z"⟩ ⟨"NeitherBareModel", "isFixed", "(II)Z"⟩) ∈ lw_all := lw_g (lw_at lw_ms 84 rfl) rfl
theorem qs85 : (Cond.selects "NeitherBareModel" ⟨"NeitherBareModel", "areJudged", "(I)Z"⟩ ⟨"NeitherBareModel", "areJudged", "(I)Z"⟩) ∈ lw_all := lw_g (lw_at lw_ms 85 rfl) rfl
theorem qs86 : (Cond.selects "NeitherBareModel" ⟨"NeitherBareModel", "isJudged", "(II)Z"⟩ ⟨"NeitherBareModel", "isJudged", "(II)Z"⟩) ∈ lw_all := lw_g (lw_at lw_ms 86 rfl) rfl
theorem qs87 : (Cond.selects "NeitherBareModel" ⟨"NeitherBareModel", "tellParts", "(JJ)I"⟩ ⟨"NeitherBareModel", "tellParts", "(JJ)I"⟩) ∈ lw_all := lw_g (lw_at lw_ms 87 rfl) rfl
theorem qs88 : (Cond.selects "NeitherBareModel" ⟨"NeitherBareModel", "countOf", "(I)I"⟩ ⟨"NeitherBareModel", "countOf", "(I)I"⟩) ∈ lw_all := lw_g (lw_at lw_ms 88 rfl) rfl
theorem qs89 : (Cond.selects "NeitherBareModel" ⟨"NeitherBareModel", "kindMany", "(I)I"⟩ ⟨"NeitherBareModel", "kindMany", "(I)I"⟩) ∈ lw_all := lw_g (lw_at lw_ms 89 rfl) rfl
theorem qs90 : (Cond.selects "NeitherBareModel" ⟨"NeitherBareModel", "thereOf", "(I)I"⟩ ⟨"NeitherBareModel", "thereOf", "(I)I"⟩) ∈ lw_all := lw_g (lw_at lw_ms 90 rfl) rfl
