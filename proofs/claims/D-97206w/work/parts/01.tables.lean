-- ===== PART A: goes FIRST, ahead of the names: the tables' words, and 'selects' of the private methods out of them =====
/-- a private method of a class that the tables say can be made, by its rows of tables_1 -/
def lw_okq (q : MethodName × Nat) : Prop := (q.1.cls ≠ "java/lang/invoke/MethodHandle" ∧ q.1.cls ≠ "java/lang/invoke/VarHandle") ∧ Cond.instantiable q.1.cls q.2 ∈ tables_1 ∧ Cond.privateMethod q.1 ∈ tables_1 ∧ Cond.instanceMethod q.1 ∈ tables_1
set_option maxRecDepth 100000
theorem lw_t1 {w : Cond} (h : w ∈ tables_1_1) : w ∈ tables_1 := List.mem_append_left _ h
theorem lw_t2 {w : Cond} (h : w ∈ tables_1_2) : w ∈ tables_1 := List.mem_append_right _ (List.mem_append_left _ h)
theorem lw_t3 {w : Cond} (h : w ∈ tables_1_3) : w ∈ tables_1 := List.mem_append_right _ (List.mem_append_right _ (List.mem_append_left _ h))
theorem lw_t4 {w : Cond} (h : w ∈ tables_1_4) : w ∈ tables_1 := List.mem_append_right _ (List.mem_append_right _ (List.mem_append_right _ (List.mem_append_left _ h)))
theorem lw_t5 {w : Cond} (h : w ∈ tables_1_5) : w ∈ tables_1 := List.mem_append_right _ (List.mem_append_right _ (List.mem_append_right _ (List.mem_append_right _ (List.mem_append_left _ h))))
theorem lw_t6 {w : Cond} (h : w ∈ tables_1_6) : w ∈ tables_1 := List.mem_append_right _ (List.mem_append_right _ (List.mem_append_right _ (List.mem_append_right _ (List.mem_append_right _ (List.mem_append_left _ h)))))
theorem lw_t7 {w : Cond} (h : w ∈ tables_1_7) : w ∈ tables_1 := List.mem_append_right _ (List.mem_append_right _ (List.mem_append_right _ (List.mem_append_right _ (List.mem_append_right _ (List.mem_append_right _ h)))))
theorem lw_p0 : lw_okq (⟨"java/lang/Throwable", "fillInStackTrace", "(I)Ljava/lang/Throwable;"⟩, 6) := ⟨⟨by decide +kernel, by decide +kernel⟩, lw_t2 (List.mem_of_getElem? (i := 18) rfl), lw_t2 (List.mem_of_getElem? (i := 16) rfl), lw_t2 (List.mem_of_getElem? (i := 17) rfl)⟩
theorem lw_p1 : lw_okq (⟨"YoungerBack", "well", "(I)I"⟩, 12) := ⟨⟨by decide +kernel, by decide +kernel⟩, lw_t1 (List.mem_of_getElem? (i := 39) rfl), lw_t2 (List.mem_of_getElem? (i := 61) rfl), lw_t2 (List.mem_of_getElem? (i := 62) rfl)⟩
theorem lw_p2 : lw_okq (⟨"YoungerBack", "found", "(LYoungerBack$Finding;)I"⟩, 12) := ⟨⟨by decide +kernel, by decide +kernel⟩, lw_t1 (List.mem_of_getElem? (i := 39) rfl), lw_t2 (List.mem_of_getElem? (i := 65) rfl), lw_t2 (List.mem_of_getElem? (i := 66) rfl)⟩
theorem lw_p3 : lw_okq (⟨"YoungerBack", "rowAt", "(I)LYoungerBack$Row;"⟩, 12) := ⟨⟨by decide +kernel, by decide +kernel⟩, lw_t1 (List.mem_of_getElem? (i := 39) rfl), lw_t2 (List.mem_of_getElem? (i := 74) rfl), lw_t2 (List.mem_of_getElem? (i := 75) rfl)⟩
theorem lw_p4 : lw_okq (⟨"YoungerBack$Reader", "next", "()V"⟩, 8) := ⟨⟨by decide +kernel, by decide +kernel⟩, lw_t2 (List.mem_of_getElem? (i := 138) rfl), lw_t2 (List.mem_of_getElem? (i := 177) rfl), lw_t2 (List.mem_of_getElem? (i := 178) rfl)⟩
theorem lw_p5 : lw_okq (⟨"YoungerBack$Reader", "look", "()I"⟩, 8) := ⟨⟨by decide +kernel, by decide +kernel⟩, lw_t2 (List.mem_of_getElem? (i := 138) rfl), lw_t2 (List.mem_of_getElem? (i := 181) rfl), lw_t2 (List.mem_of_getElem? (i := 182) rfl)⟩
theorem lw_p6 : lw_okq (⟨"YoungerBack$Reader", "isWord", "(Ljava/lang/String;)Z"⟩, 8) := ⟨⟨by decide +kernel, by decide +kernel⟩, lw_t2 (List.mem_of_getElem? (i := 138) rfl), lw_t3 (List.mem_of_getElem? (i := 132) rfl), lw_t3 (List.mem_of_getElem? (i := 133) rfl)⟩
theorem lw_p7 : lw_okq (⟨"YoungerBack$Reader", "must", "(ZI)V"⟩, 8) := ⟨⟨by decide +kernel, by decide +kernel⟩, lw_t2 (List.mem_of_getElem? (i := 138) rfl), lw_t3 (List.mem_of_getElem? (i := 144) rfl), lw_t3 (List.mem_of_getElem? (i := 145) rfl)⟩
theorem lw_p8 : lw_okq (⟨"YoungerBack$Reader", "figure", "(II)I"⟩, 8) := ⟨⟨by decide +kernel, by decide +kernel⟩, lw_t2 (List.mem_of_getElem? (i := 138) rfl), lw_t3 (List.mem_of_getElem? (i := 171) rfl), lw_t3 (List.mem_of_getElem? (i := 172) rfl)⟩
theorem lw_p9 : lw_okq (⟨"YoungerBack$Reader", "sign", "()V"⟩, 8) := ⟨⟨by decide +kernel, by decide +kernel⟩, lw_t2 (List.mem_of_getElem? (i := 138) rfl), lw_t3 (List.mem_of_getElem? (i := 175) rfl), lw_t3 (List.mem_of_getElem? (i := 176) rfl)⟩
theorem lw_p10 : lw_okq (⟨"YoungerBack$Reader", "way", "()V"⟩, 8) := ⟨⟨by decide +kernel, by decide +kernel⟩, lw_t2 (List.mem_of_getElem? (i := 138) rfl), lw_t3 (List.mem_of_getElem? (i := 180) rfl), lw_t3 (List.mem_of_getElem? (i := 181) rfl)⟩
theorem lw_p11 : lw_okq (⟨"YoungerBack$Reader", "begin", "(II)V"⟩, 8) := ⟨⟨by decide +kernel, by decide +kernel⟩, lw_t2 (List.mem_of_getElem? (i := 138) rfl), lw_t3 (List.mem_of_getElem? (i := 184) rfl), lw_t3 (List.mem_of_getElem? (i := 185) rfl)⟩
theorem lw_p12 : lw_okq (⟨"YoungerBack$Reader", "person", "()V"⟩, 8) := ⟨⟨by decide +kernel, by decide +kernel⟩, lw_t2 (List.mem_of_getElem? (i := 138) rfl), lw_t3 (List.mem_of_getElem? (i := 189) rfl), lw_t3 (List.mem_of_getElem? (i := 190) rfl)⟩
theorem lw_p13 : lw_okq (⟨"java/util/ArrayList", "add", "(Ljava/lang/Object;[Ljava/lang/Object;I)V"⟩, 3) := ⟨⟨by decide +kernel, by decide +kernel⟩, lw_t1 (List.mem_of_getElem? (i := 55) rfl), lw_t4 (List.mem_of_getElem? (i := 34) rfl), lw_t4 (List.mem_of_getElem? (i := 35) rfl)⟩
theorem lw_p14 : lw_okq (⟨"java/util/ArrayList", "grow", "()[Ljava/lang/Object;"⟩, 3) := ⟨⟨by decide +kernel, by decide +kernel⟩, lw_t1 (List.mem_of_getElem? (i := 55) rfl), lw_t4 (List.mem_of_getElem? (i := 38) rfl), lw_t4 (List.mem_of_getElem? (i := 39) rfl)⟩
theorem lw_p15 : lw_okq (⟨"java/util/ArrayList", "grow", "(I)[Ljava/lang/Object;"⟩, 3) := ⟨⟨by decide +kernel, by decide +kernel⟩, lw_t1 (List.mem_of_getElem? (i := 55) rfl), lw_t4 (List.mem_of_getElem? (i := 42) rfl), lw_t4 (List.mem_of_getElem? (i := 43) rfl)⟩
def lw_privs_1 : List (MethodName × Nat) := [(⟨"java/lang/Throwable", "fillInStackTrace", "(I)Ljava/lang/Throwable;"⟩, 6), (⟨"YoungerBack", "well", "(I)I"⟩, 12), (⟨"YoungerBack", "found", "(LYoungerBack$Finding;)I"⟩, 12), (⟨"YoungerBack", "rowAt", "(I)LYoungerBack$Row;"⟩, 12), (⟨"YoungerBack$Reader", "next", "()V"⟩, 8), (⟨"YoungerBack$Reader", "look", "()I"⟩, 8), (⟨"YoungerBack$Reader", "isWord", "(Ljava/lang/String;)Z"⟩, 8), (⟨"YoungerBack$Reader", "must", "(ZI)V"⟩, 8), (⟨"YoungerBack$Reader", "figure", "(II)I"⟩, 8), (⟨"YoungerBack$Reader", "sign", "()V"⟩, 8), (⟨"YoungerBack$Reader", "way", "()V"⟩, 8), (⟨"YoungerBack$Reader", "begin", "(II)V"⟩, 8), (⟨"YoungerBack$Reader", "person", "()V"⟩, 8), (⟨"java/util/ArrayList", "add", "(Ljava/lang/Object;[Ljava/lang/Object;I)V"⟩, 3), (⟨"java/util/ArrayList", "grow", "()[Ljava/lang/Object;"⟩, 3), (⟨"java/util/ArrayList", "grow", "(I)[Ljava/lang/Object;"⟩, 3)]
theorem lw_r1 : ∀ q ∈ lw_privs_1, lw_okq q := List.forall_mem_cons.mpr ⟨lw_p0, List.forall_mem_cons.mpr ⟨lw_p1, List.forall_mem_cons.mpr ⟨lw_p2, List.forall_mem_cons.mpr ⟨lw_p3, List.forall_mem_cons.mpr ⟨lw_p4, List.forall_mem_cons.mpr ⟨lw_p5, List.forall_mem_cons.mpr ⟨lw_p6, List.forall_mem_cons.mpr ⟨lw_p7, List.forall_mem_cons.mpr ⟨lw_p8, List.forall_mem_cons.mpr ⟨lw_p9, List.forall_mem_cons.mpr ⟨lw_p10, List.forall_mem_cons.mpr ⟨lw_p11, List.forall_mem_cons.mpr ⟨lw_p12, List.forall_mem_cons.mpr ⟨lw_p13, List.forall_mem_cons.mpr ⟨lw_p14, List.forall_mem_cons.mpr ⟨lw_p15, fun _ h => absurd h List.not_mem_nil⟩⟩⟩⟩⟩⟩⟩⟩⟩⟩⟩⟩⟩⟩⟩⟩
theorem lw_p16 : lw_okq (⟨"YoungerBack", "isPerson", "(I)Z"⟩, 12) := ⟨⟨by decide +kernel, by decide +kernel⟩, lw_t1 (List.mem_of_getElem? (i := 39) rfl), lw_t4 (List.mem_of_getElem? (i := 95) rfl), lw_t4 (List.mem_of_getElem? (i := 96) rfl)⟩
theorem lw_p17 : lw_okq (⟨"YoungerBack", "isWay", "(I)Z"⟩, 12) := ⟨⟨by decide +kernel, by decide +kernel⟩, lw_t1 (List.mem_of_getElem? (i := 39) rfl), lw_t4 (List.mem_of_getElem? (i := 99) rfl), lw_t4 (List.mem_of_getElem? (i := 100) rfl)⟩
theorem lw_p18 : lw_okq (⟨"YoungerBack", "canSail", "(II)Z"⟩, 12) := ⟨⟨by decide +kernel, by decide +kernel⟩, lw_t1 (List.mem_of_getElem? (i := 39) rfl), lw_t4 (List.mem_of_getElem? (i := 103) rfl), lw_t4 (List.mem_of_getElem? (i := 104) rfl)⟩
theorem lw_p19 : lw_okq (⟨"YoungerBack", "isTooLate", "(II)Z"⟩, 12) := ⟨⟨by decide +kernel, by decide +kernel⟩, lw_t1 (List.mem_of_getElem? (i := 39) rfl), lw_t4 (List.mem_of_getElem? (i := 143) rfl), lw_t4 (List.mem_of_getElem? (i := 144) rfl)⟩
theorem lw_p20 : lw_okq (⟨"YoungerBack", "keep", "()V"⟩, 12) := ⟨⟨by decide +kernel, by decide +kernel⟩, lw_t1 (List.mem_of_getElem? (i := 39) rfl), lw_t4 (List.mem_of_getElem? (i := 147) rfl), lw_t4 (List.mem_of_getElem? (i := 148) rfl)⟩
theorem lw_p21 : lw_okq (⟨"YoungerBack", "areTwo", "(II)Z"⟩, 12) := ⟨⟨by decide +kernel, by decide +kernel⟩, lw_t1 (List.mem_of_getElem? (i := 39) rfl), lw_t4 (List.mem_of_getElem? (i := 204) rfl), lw_t4 (List.mem_of_getElem? (i := 205) rfl)⟩
theorem lw_p22 : lw_okq (⟨"YoungerBack", "isHarbour", "(I)Z"⟩, 12) := ⟨⟨by decide +kernel, by decide +kernel⟩, lw_t1 (List.mem_of_getElem? (i := 39) rfl), lw_t5 (List.mem_of_getElem? (i := 5) rfl), lw_t5 (List.mem_of_getElem? (i := 6) rfl)⟩
theorem lw_p23 : lw_okq (⟨"YoungerBack", "lay", "(I[J)V"⟩, 12) := ⟨⟨by decide +kernel, by decide +kernel⟩, lw_t1 (List.mem_of_getElem? (i := 39) rfl), lw_t5 (List.mem_of_getElem? (i := 10) rfl), lw_t5 (List.mem_of_getElem? (i := 11) rfl)⟩
theorem lw_p24 : lw_okq (⟨"YoungerBack", "ageAt", "(II)I"⟩, 12) := ⟨⟨by decide +kernel, by decide +kernel⟩, lw_t1 (List.mem_of_getElem? (i := 39) rfl), lw_t5 (List.mem_of_getElem? (i := 48) rfl), lw_t5 (List.mem_of_getElem? (i := 49) rfl)⟩
theorem lw_p25 : lw_okq (⟨"YoungerBack", "gainsAt", "([JIII)J"⟩, 12) := ⟨⟨by decide +kernel, by decide +kernel⟩, lw_t1 (List.mem_of_getElem? (i := 39) rfl), lw_t5 (List.mem_of_getElem? (i := 53) rfl), lw_t5 (List.mem_of_getElem? (i := 54) rfl)⟩
theorem lw_p26 : lw_okq (⟨"YoungerBack", "isLeague", "()Z"⟩, 12) := ⟨⟨by decide +kernel, by decide +kernel⟩, lw_t1 (List.mem_of_getElem? (i := 39) rfl), lw_t5 (List.mem_of_getElem? (i := 71) rfl), lw_t5 (List.mem_of_getElem? (i := 72) rfl)⟩
theorem lw_p27 : lw_okq (⟨"YoungerBackModel", "finding", "(I)I"⟩, 25) := ⟨⟨by decide +kernel, by decide +kernel⟩, lw_t5 (List.mem_of_getElem? (i := 234) rfl), lw_t6 (List.mem_of_getElem? (i := 90) rfl), lw_t6 (List.mem_of_getElem? (i := 91) rfl)⟩
theorem lw_p28 : lw_okq (⟨"YoungerBackModel", "begin", "()V"⟩, 25) := ⟨⟨by decide +kernel, by decide +kernel⟩, lw_t5 (List.mem_of_getElem? (i := 234) rfl), lw_t6 (List.mem_of_getElem? (i := 118) rfl), lw_t6 (List.mem_of_getElem? (i := 119) rfl)⟩
theorem lw_p29 : lw_okq (⟨"YoungerBackModel", "next", "()V"⟩, 25) := ⟨⟨by decide +kernel, by decide +kernel⟩, lw_t5 (List.mem_of_getElem? (i := 234) rfl), lw_t6 (List.mem_of_getElem? (i := 122) rfl), lw_t6 (List.mem_of_getElem? (i := 123) rfl)⟩
theorem lw_p30 : lw_okq (⟨"YoungerBackModel", "byteAt", "(I)I"⟩, 25) := ⟨⟨by decide +kernel, by decide +kernel⟩, lw_t5 (List.mem_of_getElem? (i := 234) rfl), lw_t6 (List.mem_of_getElem? (i := 126) rfl), lw_t6 (List.mem_of_getElem? (i := 127) rfl)⟩
theorem lw_p31 : lw_okq (⟨"YoungerBackModel", "name", "()J"⟩, 25) := ⟨⟨by decide +kernel, by decide +kernel⟩, lw_t5 (List.mem_of_getElem? (i := 234) rfl), lw_t6 (List.mem_of_getElem? (i := 137) rfl), lw_t6 (List.mem_of_getElem? (i := 138) rfl)⟩
def lw_privs_2 : List (MethodName × Nat) := [(⟨"YoungerBack", "isPerson", "(I)Z"⟩, 12), (⟨"YoungerBack", "isWay", "(I)Z"⟩, 12), (⟨"YoungerBack", "canSail", "(II)Z"⟩, 12), (⟨"YoungerBack", "isTooLate", "(II)Z"⟩, 12), (⟨"YoungerBack", "keep", "()V"⟩, 12), (⟨"YoungerBack", "areTwo", "(II)Z"⟩, 12), (⟨"YoungerBack", "isHarbour", "(I)Z"⟩, 12), (⟨"YoungerBack", "lay", "(I[J)V"⟩, 12), (⟨"YoungerBack", "ageAt", "(II)I"⟩, 12), (⟨"YoungerBack", "gainsAt", "([JIII)J"⟩, 12), (⟨"YoungerBack", "isLeague", "()Z"⟩, 12), (⟨"YoungerBackModel", "finding", "(I)I"⟩, 25), (⟨"YoungerBackModel", "begin", "()V"⟩, 25), (⟨"YoungerBackModel", "next", "()V"⟩, 25), (⟨"YoungerBackModel", "byteAt", "(I)I"⟩, 25), (⟨"YoungerBackModel", "name", "()J"⟩, 25)]
theorem lw_r2 : ∀ q ∈ lw_privs_2, lw_okq q := List.forall_mem_cons.mpr ⟨lw_p16, List.forall_mem_cons.mpr ⟨lw_p17, List.forall_mem_cons.mpr ⟨lw_p18, List.forall_mem_cons.mpr ⟨lw_p19, List.forall_mem_cons.mpr ⟨lw_p20, List.forall_mem_cons.mpr ⟨lw_p21, List.forall_mem_cons.mpr ⟨lw_p22, List.forall_mem_cons.mpr ⟨lw_p23, List.forall_mem_cons.mpr ⟨lw_p24, List.forall_mem_cons.mpr ⟨lw_p25, List.forall_mem_cons.mpr ⟨lw_p26, List.forall_mem_cons.mpr ⟨lw_p27, List.forall_mem_cons.mpr ⟨lw_p28, List.forall_mem_cons.mpr ⟨lw_p29, List.forall_mem_cons.mpr ⟨lw_p30, List.forall_mem_cons.mpr ⟨lw_p31, fun _ h => absurd h List.not_mem_nil⟩⟩⟩⟩⟩⟩⟩⟩⟩⟩⟩⟩⟩⟩⟩⟩
theorem lw_p32 : lw_okq (⟨"YoungerBackModel", "must", "(Z)V"⟩, 25) := ⟨⟨by decide +kernel, by decide +kernel⟩, lw_t5 (List.mem_of_getElem? (i := 234) rfl), lw_t6 (List.mem_of_getElem? (i := 142) rfl), lw_t6 (List.mem_of_getElem? (i := 143) rfl)⟩
theorem lw_p33 : lw_okq (⟨"YoungerBackModel", "bad", "(I)V"⟩, 25) := ⟨⟨by decide +kernel, by decide +kernel⟩, lw_t5 (List.mem_of_getElem? (i := 234) rfl), lw_t6 (List.mem_of_getElem? (i := 146) rfl), lw_t6 (List.mem_of_getElem? (i := 147) rfl)⟩
theorem lw_p34 : lw_okq (⟨"YoungerBackModel", "number", "(II)I"⟩, 25) := ⟨⟨by decide +kernel, by decide +kernel⟩, lw_t5 (List.mem_of_getElem? (i := 234) rfl), lw_t6 (List.mem_of_getElem? (i := 150) rfl), lw_t6 (List.mem_of_getElem? (i := 151) rfl)⟩
theorem lw_p35 : lw_okq (⟨"YoungerBackModel", "figures", "()I"⟩, 25) := ⟨⟨by decide +kernel, by decide +kernel⟩, lw_t5 (List.mem_of_getElem? (i := 234) rfl), lw_t6 (List.mem_of_getElem? (i := 154) rfl), lw_t6 (List.mem_of_getElem? (i := 155) rfl)⟩
theorem lw_p36 : lw_okq (⟨"YoungerBackModel", "mustEnd", "()V"⟩, 25) := ⟨⟨by decide +kernel, by decide +kernel⟩, lw_t5 (List.mem_of_getElem? (i := 234) rfl), lw_t6 (List.mem_of_getElem? (i := 158) rfl), lw_t6 (List.mem_of_getElem? (i := 159) rfl)⟩
theorem lw_p37 : lw_okq (⟨"YoungerBackModel", "readWay", "()V"⟩, 25) := ⟨⟨by decide +kernel, by decide +kernel⟩, lw_t5 (List.mem_of_getElem? (i := 234) rfl), lw_t6 (List.mem_of_getElem? (i := 163) rfl), lw_t6 (List.mem_of_getElem? (i := 164) rfl)⟩
theorem lw_p38 : lw_okq (⟨"YoungerBackModel", "begins", "(II)V"⟩, 25) := ⟨⟨by decide +kernel, by decide +kernel⟩, lw_t5 (List.mem_of_getElem? (i := 234) rfl), lw_t6 (List.mem_of_getElem? (i := 167) rfl), lw_t6 (List.mem_of_getElem? (i := 168) rfl)⟩
theorem lw_p39 : lw_okq (⟨"YoungerBackModel", "readPerson", "()V"⟩, 25) := ⟨⟨by decide +kernel, by decide +kernel⟩, lw_t5 (List.mem_of_getElem? (i := 234) rfl), lw_t6 (List.mem_of_getElem? (i := 172) rfl), lw_t6 (List.mem_of_getElem? (i := 173) rfl)⟩
theorem lw_p40 : lw_okq (⟨"YoungerBackModel", "isPerson", "(I)Z"⟩, 25) := ⟨⟨by decide +kernel, by decide +kernel⟩, lw_t5 (List.mem_of_getElem? (i := 234) rfl), lw_t6 (List.mem_of_getElem? (i := 193) rfl), lw_t6 (List.mem_of_getElem? (i := 194) rfl)⟩
theorem lw_p41 : lw_okq (⟨"YoungerBackModel", "isWay", "(I)Z"⟩, 25) := ⟨⟨by decide +kernel, by decide +kernel⟩, lw_t5 (List.mem_of_getElem? (i := 234) rfl), lw_t6 (List.mem_of_getElem? (i := 197) rfl), lw_t6 (List.mem_of_getElem? (i := 198) rfl)⟩
theorem lw_p42 : lw_okq (⟨"YoungerBackModel", "goes", "(II)I"⟩, 25) := ⟨⟨by decide +kernel, by decide +kernel⟩, lw_t5 (List.mem_of_getElem? (i := 234) rfl), lw_t6 (List.mem_of_getElem? (i := 201) rfl), lw_t6 (List.mem_of_getElem? (i := 202) rfl)⟩
theorem lw_p43 : lw_okq (⟨"YoungerBackModel", "of", "(II)I"⟩, 25) := ⟨⟨by decide +kernel, by decide +kernel⟩, lw_t5 (List.mem_of_getElem? (i := 234) rfl), lw_t6 (List.mem_of_getElem? (i := 205) rfl), lw_t6 (List.mem_of_getElem? (i := 206) rfl)⟩
theorem lw_p44 : lw_okq (⟨"YoungerBackModel", "endOf", "(III)I"⟩, 25) := ⟨⟨by decide +kernel, by decide +kernel⟩, lw_t5 (List.mem_of_getElem? (i := 234) rfl), lw_t6 (List.mem_of_getElem? (i := 209) rfl), lw_t6 (List.mem_of_getElem? (i := 210) rfl)⟩
theorem lw_p45 : lw_okq (⟨"YoungerBackModel", "wayOf", "(II)I"⟩, 25) := ⟨⟨by decide +kernel, by decide +kernel⟩, lw_t5 (List.mem_of_getElem? (i := 234) rfl), lw_t6 (List.mem_of_getElem? (i := 213) rfl), lw_t6 (List.mem_of_getElem? (i := 214) rfl)⟩
theorem lw_p46 : lw_okq (⟨"YoungerBackModel", "keep", "()V"⟩, 25) := ⟨⟨by decide +kernel, by decide +kernel⟩, lw_t5 (List.mem_of_getElem? (i := 234) rfl), lw_t6 (List.mem_of_getElem? (i := 218) rfl), lw_t6 (List.mem_of_getElem? (i := 219) rfl)⟩
theorem lw_p47 : lw_okq (⟨"YoungerBackModel", "agesBy", "(II)I"⟩, 25) := ⟨⟨by decide +kernel, by decide +kernel⟩, lw_t5 (List.mem_of_getElem? (i := 234) rfl), lw_t6 (List.mem_of_getElem? (i := 222) rfl), lw_t6 (List.mem_of_getElem? (i := 223) rfl)⟩
def lw_privs_3 : List (MethodName × Nat) := [(⟨"YoungerBackModel", "must", "(Z)V"⟩, 25), (⟨"YoungerBackModel", "bad", "(I)V"⟩, 25), (⟨"YoungerBackModel", "number", "(II)I"⟩, 25), (⟨"YoungerBackModel", "figures", "()I"⟩, 25), (⟨"YoungerBackModel", "mustEnd", "()V"⟩, 25), (⟨"YoungerBackModel", "readWay", "()V"⟩, 25), (⟨"YoungerBackModel", "begins", "(II)V"⟩, 25), (⟨"YoungerBackModel", "readPerson", "()V"⟩, 25), (⟨"YoungerBackModel", "isPerson", "(I)Z"⟩, 25), (⟨"YoungerBackModel", "isWay", "(I)Z"⟩, 25), (⟨"YoungerBackModel", "goes", "(II)I"⟩, 25), (⟨"YoungerBackModel", "of", "(II)I"⟩, 25), (⟨"YoungerBackModel", "endOf", "(III)I"⟩, 25), (⟨"YoungerBackModel", "wayOf", "(II)I"⟩, 25), (⟨"YoungerBackModel", "keep", "()V"⟩, 25), (⟨"YoungerBackModel", "agesBy", "(II)I"⟩, 25)]
theorem lw_r3 : ∀ q ∈ lw_privs_3, lw_okq q := List.forall_mem_cons.mpr ⟨lw_p32, List.forall_mem_cons.mpr ⟨lw_p33, List.forall_mem_cons.mpr ⟨lw_p34, List.forall_mem_cons.mpr ⟨lw_p35, List.forall_mem_cons.mpr ⟨lw_p36, List.forall_mem_cons.mpr ⟨lw_p37, List.forall_mem_cons.mpr ⟨lw_p38, List.forall_mem_cons.mpr ⟨lw_p39, List.forall_mem_cons.mpr ⟨lw_p40, List.forall_mem_cons.mpr ⟨lw_p41, List.forall_mem_cons.mpr ⟨lw_p42, List.forall_mem_cons.mpr ⟨lw_p43, List.forall_mem_cons.mpr ⟨lw_p44, List.forall_mem_cons.mpr ⟨lw_p45, List.forall_mem_cons.mpr ⟨lw_p46, List.forall_mem_cons.mpr ⟨lw_p47, fun _ h => absurd h List.not_mem_nil⟩⟩⟩⟩⟩⟩⟩⟩⟩⟩⟩⟩⟩⟩⟩⟩
theorem lw_p48 : lw_okq (⟨"YoungerBackModel", "ages", "(III)V"⟩, 25) := ⟨⟨by decide +kernel, by decide +kernel⟩, lw_t5 (List.mem_of_getElem? (i := 234) rfl), lw_t6 (List.mem_of_getElem? (i := 226) rfl), lw_t6 (List.mem_of_getElem? (i := 227) rfl)⟩
theorem lw_p49 : lw_okq (⟨"YoungerBackModel", "owedBy", "(II)I"⟩, 25) := ⟨⟨by decide +kernel, by decide +kernel⟩, lw_t5 (List.mem_of_getElem? (i := 234) rfl), lw_t7 (List.mem_of_getElem? (i := 9) rfl), lw_t7 (List.mem_of_getElem? (i := 10) rfl)⟩
theorem lw_p50 : lw_okq (⟨"YoungerBackModel", "grown", "(II)I"⟩, 25) := ⟨⟨by decide +kernel, by decide +kernel⟩, lw_t5 (List.mem_of_getElem? (i := 234) rfl), lw_t7 (List.mem_of_getElem? (i := 13) rfl), lw_t7 (List.mem_of_getElem? (i := 14) rfl)⟩
theorem lw_p51 : lw_okq (⟨"YoungerBackModel", "isHarbour", "(I)Z"⟩, 25) := ⟨⟨by decide +kernel, by decide +kernel⟩, lw_t5 (List.mem_of_getElem? (i := 234) rfl), lw_t7 (List.mem_of_getElem? (i := 31) rfl), lw_t7 (List.mem_of_getElem? (i := 32) rfl)⟩
theorem lw_p52 : lw_okq (⟨"YoungerBackModel", "layGains", "(I)V"⟩, 25) := ⟨⟨by decide +kernel, by decide +kernel⟩, lw_t5 (List.mem_of_getElem? (i := 234) rfl), lw_t7 (List.mem_of_getElem? (i := 36) rfl), lw_t7 (List.mem_of_getElem? (i := 37) rfl)⟩
theorem lw_p53 : lw_okq (⟨"YoungerBackModel", "isThere", "()Z"⟩, 25) := ⟨⟨by decide +kernel, by decide +kernel⟩, lw_t5 (List.mem_of_getElem? (i := 234) rfl), lw_t7 (List.mem_of_getElem? (i := 66) rfl), lw_t7 (List.mem_of_getElem? (i := 67) rfl)⟩
theorem lw_p54 : lw_okq (⟨"YoungerBackModel", "sizeOf", "(I)I"⟩, 25) := ⟨⟨by decide +kernel, by decide +kernel⟩, lw_t5 (List.mem_of_getElem? (i := 234) rfl), lw_t7 (List.mem_of_getElem? (i := 93) rfl), lw_t7 (List.mem_of_getElem? (i := 94) rfl)⟩
theorem lw_p55 : lw_okq (⟨"YoungerBackModel", "clerkSize", "(I)I"⟩, 25) := ⟨⟨by decide +kernel, by decide +kernel⟩, lw_t5 (List.mem_of_getElem? (i := 234) rfl), lw_t7 (List.mem_of_getElem? (i := 97) rfl), lw_t7 (List.mem_of_getElem? (i := 98) rfl)⟩
theorem lw_p56 : lw_okq (⟨"YoungerBackModel", "began", "(I)V"⟩, 25) := ⟨⟨by decide +kernel, by decide +kernel⟩, lw_t5 (List.mem_of_getElem? (i := 234) rfl), lw_t7 (List.mem_of_getElem? (i := 101) rfl), lw_t7 (List.mem_of_getElem? (i := 102) rfl)⟩
theorem lw_p57 : lw_okq (⟨"YoungerBackModel", "plainSize", "(I)I"⟩, 25) := ⟨⟨by decide +kernel, by decide +kernel⟩, lw_t5 (List.mem_of_getElem? (i := 234) rfl), lw_t7 (List.mem_of_getElem? (i := 105) rfl), lw_t7 (List.mem_of_getElem? (i := 106) rfl)⟩
theorem lw_p58 : lw_okq (⟨"YoungerBackModel", "markOf", "(I)I"⟩, 25) := ⟨⟨by decide +kernel, by decide +kernel⟩, lw_t5 (List.mem_of_getElem? (i := 234) rfl), lw_t7 (List.mem_of_getElem? (i := 109) rfl), lw_t7 (List.mem_of_getElem? (i := 110) rfl)⟩
def lw_privs_4 : List (MethodName × Nat) := [(⟨"YoungerBackModel", "ages", "(III)V"⟩, 25), (⟨"YoungerBackModel", "owedBy", "(II)I"⟩, 25), (⟨"YoungerBackModel", "grown", "(II)I"⟩, 25), (⟨"YoungerBackModel", "isHarbour", "(I)Z"⟩, 25), (⟨"YoungerBackModel", "layGains", "(I)V"⟩, 25), (⟨"YoungerBackModel", "isThere", "()Z"⟩, 25), (⟨"YoungerBackModel", "sizeOf", "(I)I"⟩, 25), (⟨"YoungerBackModel", "clerkSize", "(I)I"⟩, 25), (⟨"YoungerBackModel", "began", "(I)V"⟩, 25), (⟨"YoungerBackModel", "plainSize", "(I)I"⟩, 25), (⟨"YoungerBackModel", "markOf", "(I)I"⟩, 25)]
theorem lw_r4 : ∀ q ∈ lw_privs_4, lw_okq q := List.forall_mem_cons.mpr ⟨lw_p48, List.forall_mem_cons.mpr ⟨lw_p49, List.forall_mem_cons.mpr ⟨lw_p50, List.forall_mem_cons.mpr ⟨lw_p51, List.forall_mem_cons.mpr ⟨lw_p52, List.forall_mem_cons.mpr ⟨lw_p53, List.forall_mem_cons.mpr ⟨lw_p54, List.forall_mem_cons.mpr ⟨lw_p55, List.forall_mem_cons.mpr ⟨lw_p56, List.forall_mem_cons.mpr ⟨lw_p57, List.forall_mem_cons.mpr ⟨lw_p58, fun _ h => absurd h List.not_mem_nil⟩⟩⟩⟩⟩⟩⟩⟩⟩⟩⟩
def lw_privs : List (MethodName × Nat) := lw_privs_1 ++ (lw_privs_2 ++ (lw_privs_3 ++ (lw_privs_4)))
def lw_tbl : List Cond := k2_sels lw_privs ++ tables_1
theorem lw_privs_ok : ∀ q ∈ lw_privs, lw_okq q := by
  show ∀ q ∈ lw_privs_1 ++ (lw_privs_2 ++ (lw_privs_3 ++ (lw_privs_4))), lw_okq q
  exact List.forall_mem_append.mpr ⟨lw_r1, List.forall_mem_append.mpr ⟨lw_r2, List.forall_mem_append.mpr ⟨lw_r3, lw_r4⟩⟩⟩
-- ===== ONE list of words for every method: the tables' words that hold all through a run =====
def lw_all : List Cond := lw_tbl.filter goodWord
/-- a word of the tables by its place: claim/WORDS.tsv -/
theorem lw_w {w : Cond} (i : Nat) (h : lw_tbl[i]? = some w) (g : goodWord w = true) : w ∈ lw_all := List.mem_filter.mpr ⟨List.mem_of_getElem? h, g⟩
theorem lw_all_tbl {w : Cond} (h : w ∈ lw_all) : w ∈ lw_tbl := (List.mem_filter.mp h).1
theorem lw_self : GoodIn lw_all lw_all := fun w h => ⟨h, good_of_word (List.mem_filter.mp h).2⟩
/-- a class's field words, by their places -/
theorem lw_in (ws : List Cond) (ps : List Nat) (hp : ws = ps.filterMap (fun i => lw_tbl[i]?)) (hg : ws.all goodWord = true) : ∀ w ∈ ws, w ∈ lw_all := by
  intro w h
  have h1 := List.all_eq_true.mp hg w h
  rw [hp] at h
  obtain ⟨i, -, hi⟩ := List.mem_filterMap.mp h
  exact lw_w i hi h1
/-- the words of a contract for the method y with code b, L locals, answer r -/
abbrev ws_ (y : MethodName) (b : ByteArray) (L : Nat) (r : Option FieldType) : List Cond := Cond.code y b L r :: lw_all
theorem lw_meth {y : MethodName} {b : ByteArray} {L : Nat} {r : Option FieldType} (h : Cond.code y b L r ∈ lw_all) : GoodIn lw_all (ws_ y b L r) := by
  intro w hw
  rcases List.mem_cons.mp hw with e | e
  · rw [e]
    exact lw_self _ h
  · exact lw_self _ e
theorem lw_app {a c : List Cond} (ha : ∀ w ∈ a, w ∈ lw_all) (hc : GoodIn lw_all c) : GoodIn lw_all (a ++ c) := by
  intro w hw
  rcases List.mem_append.mp hw with e | e
  · exact lw_self w (ha w e)
  · exact hc w e
/-- what a call through an object asks: cwV n hts (lw_V ..) -/
theorem lw_V {own : String} {idx : Nat} {C : String} {y : MethodName} {b : ByteArray} {L : Nat} {r : Option FieldType} (h1 : Cond.methodLink own idx y ∈ lw_all) (h2 : Cond.instanceMethod y ∈ lw_all) (h3 : Cond.selects C y y ∈ lw_all) (h4 : Cond.initialized C ∈ lw_all) (h5 : Cond.code y b L r ∈ lw_all) : GoodIn lw_all (wsV own idx C y (ws_ y b L r)) := by
  refine lw_app ?_ (lw_meth h5)
  intro w hw
  simp only [List.mem_cons, List.not_mem_nil, or_false] at hw
  rcases hw with e | e | e | e
  · rw [e]; exact h1
  · rw [e]; exact h2
  · rw [e]; exact h3
  · rw [e]; exact h4
/-- what a static call asks: va_cwS n hts (lw_S ..) -/
theorem lw_S {own : String} {idx : Nat} {y : MethodName} {b : ByteArray} {L : Nat} {r : Option FieldType} (h1 : Cond.methodLink own idx y ∈ lw_all) (h2 : Cond.static y ∈ lw_all) (h3 : Cond.initialized y.cls ∈ lw_all) (h4 : Cond.code y b L r ∈ lw_all) : GoodIn lw_all (va_wsS own idx y (ws_ y b L r)) := by
  refine lw_app ?_ (lw_meth h4)
  intro w hw
  simp only [List.mem_cons, List.not_mem_nil, or_false] at hw
  rcases hw with e | e | e
  · rw [e]; exact h1
  · rw [e]; exact h2
  · rw [e]; exact h3
/-- the words of a contract for a method WITH HANDLERS (hh: its table) -/
abbrev wsW_ (y : MethodName) (b : ByteArray) (L : Nat) (r : Option FieldType) (hh : List (Nat × Nat × Nat × Nat)) : List Cond := Cond.codeWith y b L r hh :: lw_all
theorem lw_methW {y : MethodName} {b : ByteArray} {L : Nat} {r : Option FieldType} {hh : List (Nat × Nat × Nat × Nat)} (h : Cond.codeWith y b L r hh ∈ lw_all) : GoodIn lw_all (wsW_ y b L r hh) := by
  intro w hw
  rcases List.mem_cons.mp hw with e | e
  · rw [e]
    exact lw_self _ h
  · exact lw_self _ e
/-- any list of words by their places (lw_in), good -/
theorem lw_good {ws : List Cond} (h : ∀ w ∈ ws, w ∈ lw_all) : GoodIn lw_all ws := fun w hw => lw_self w (h w hw)
/-- what a call of a method with handlers asks: vx_cwVW n hts (lw_VW ..), vx_cwSW n hts (lw_SW ..) -/
theorem lw_VW {own : String} {idx : Nat} {C : String} {y : MethodName} {b : ByteArray} {L : Nat} {r : Option FieldType} {hh : List (Nat × Nat × Nat × Nat)} (h1 : Cond.methodLink own idx y ∈ lw_all) (h2 : Cond.instanceMethod y ∈ lw_all) (h3 : Cond.selects C y y ∈ lw_all) (h4 : Cond.initialized C ∈ lw_all) (h5 : Cond.codeWith y b L r hh ∈ lw_all) : GoodIn lw_all (wsV own idx C y (wsW_ y b L r hh)) := by
  refine lw_app ?_ (lw_methW h5)
  intro w hw
  simp only [List.mem_cons, List.not_mem_nil, or_false] at hw
  rcases hw with e | e | e | e
  · rw [e]; exact h1
  · rw [e]; exact h2
  · rw [e]; exact h3
  · rw [e]; exact h4
theorem lw_SW {own : String} {idx : Nat} {y : MethodName} {b : ByteArray} {L : Nat} {r : Option FieldType} {hh : List (Nat × Nat × Nat × Nat)} (h1 : Cond.methodLink own idx y ∈ lw_all) (h2 : Cond.static y ∈ lw_all) (h3 : Cond.initialized y.cls ∈ lw_all) (h4 : Cond.codeWith y b L r hh ∈ lw_all) : GoodIn lw_all (va_wsS own idx y (wsW_ y b L r hh)) := by
  refine lw_app ?_ (lw_methW h4)
  intro w hw
  simp only [List.mem_cons, List.not_mem_nil, or_false] at hw
  rcases hw with e | e | e
  · rw [e]; exact h1
  · rw [e]; exact h2
  · rw [e]; exact h3
/-- a word by its place in its run of the tables -/
theorem lw_at {r : List Cond} (hr : ∀ w ∈ r, w ∈ lw_tbl) {w : Cond} (i : Nat) (h : r[i]? = some w) : w ∈ lw_tbl := hr w (List.mem_of_getElem? h)
theorem lw_g {w : Cond} (h : w ∈ lw_tbl) (g : goodWord w = true) : w ∈ lw_all := List.mem_filter.mpr ⟨h, g⟩
theorem lw_ms : ∀ w ∈ k2_sels lw_privs, w ∈ lw_tbl := fun w h => show w ∈ k2_sels lw_privs ++ tables_1 from List.mem_append_left _ h
theorem lw_m1 : ∀ w ∈ tables_1_1, w ∈ lw_tbl := fun w h => show w ∈ k2_sels lw_privs ++ tables_1 from List.mem_append_right (k2_sels lw_privs) (show w ∈ tables_1 from List.mem_append_left _ h)
theorem lw_m2 : ∀ w ∈ tables_1_2, w ∈ lw_tbl := fun w h => show w ∈ k2_sels lw_privs ++ tables_1 from List.mem_append_right (k2_sels lw_privs) (show w ∈ tables_1 from List.mem_append_right _ (List.mem_append_left _ h))
theorem lw_m3 : ∀ w ∈ tables_1_3, w ∈ lw_tbl := fun w h => show w ∈ k2_sels lw_privs ++ tables_1 from List.mem_append_right (k2_sels lw_privs) (show w ∈ tables_1 from List.mem_append_right _ (List.mem_append_right _ (List.mem_append_left _ h)))
theorem lw_m4 : ∀ w ∈ tables_1_4, w ∈ lw_tbl := fun w h => show w ∈ k2_sels lw_privs ++ tables_1 from List.mem_append_right (k2_sels lw_privs) (show w ∈ tables_1 from List.mem_append_right _ (List.mem_append_right _ (List.mem_append_right _ (List.mem_append_left _ h))))
theorem lw_m5 : ∀ w ∈ tables_1_5, w ∈ lw_tbl := fun w h => show w ∈ k2_sels lw_privs ++ tables_1 from List.mem_append_right (k2_sels lw_privs) (show w ∈ tables_1 from List.mem_append_right _ (List.mem_append_right _ (List.mem_append_right _ (List.mem_append_right _ (List.mem_append_left _ h)))))
theorem lw_m6 : ∀ w ∈ tables_1_6, w ∈ lw_tbl := fun w h => show w ∈ k2_sels lw_privs ++ tables_1 from List.mem_append_right (k2_sels lw_privs) (show w ∈ tables_1 from List.mem_append_right _ (List.mem_append_right _ (List.mem_append_right _ (List.mem_append_right _ (List.mem_append_right _ (List.mem_append_left _ h))))))
theorem lw_m7 : ∀ w ∈ tables_1_7, w ∈ lw_tbl := fun w h => show w ∈ k2_sels lw_privs ++ tables_1 from List.mem_append_right (k2_sels lw_privs) (show w ∈ tables_1 from List.mem_append_right _ (List.mem_append_right _ (List.mem_append_right _ (List.mem_append_right _ (List.mem_append_right _ (List.mem_append_right _ h))))))
theorem qs0 : (Cond.selects "java/lang/Throwable" ⟨"java/lang/Throwable", "fillInStackTrace", "(I)Ljava/lang/Throwable;"⟩ ⟨"java/lang/Throwable", "fillInStackTrace", "(I)Ljava/lang/Throwable;"⟩) ∈ lw_all := lw_g (lw_at lw_ms 0 rfl) rfl
theorem qs1 : (Cond.selects "YoungerBack" ⟨"YoungerBack", "well", "(I)I"⟩ ⟨"YoungerBack", "well", "(I)I"⟩) ∈ lw_all := lw_g (lw_at lw_ms 1 rfl) rfl
theorem qs2 : (Cond.selects "YoungerBack" ⟨"YoungerBack", "found", "(LYoungerBack$Finding;)I"⟩ ⟨"YoungerBack", "found", "(LYoungerBack$Finding;)I"⟩) ∈ lw_all := lw_g (lw_at lw_ms 2 rfl) rfl
theorem qs3 : (Cond.selects "YoungerBack" ⟨"YoungerBack", "rowAt", "(I)LYoungerBack$Row;"⟩ ⟨"YoungerBack", "rowAt", "(I)LYoungerBack$Row;"⟩) ∈ lw_all := lw_g (lw_at lw_ms 3 rfl) rfl
theorem qs4 : (Cond.selects "YoungerBack$Reader" ⟨"YoungerBack$Reader", "next", "()V"⟩ ⟨"YoungerBack$Reader", "next", "()V"⟩) ∈ lw_all := lw_g (lw_at lw_ms 4 rfl) rfl
theorem qs5 : (Cond.selects "YoungerBack$Reader" ⟨"YoungerBack$Reader", "look", "()I"⟩ ⟨"YoungerBack$Reader", "look", "()I"⟩) ∈ lw_all := lw_g (lw_at lw_ms 5 rfl) rfl
theorem qs6 : (Cond.selects "YoungerBack$Reader" ⟨"YoungerBack$Reader", "isWord", "(Ljava/lang/String;)Z"⟩ ⟨"YoungerBack$Reader", "isWord", "(Ljava/lang/String;)Z"⟩) ∈ lw_all := lw_g (lw_at lw_ms 6 rfl) rfl
theorem qs7 : (Cond.selects "YoungerBack$Reader" ⟨"YoungerBack$Reader", "must", "(ZI)V"⟩ ⟨"YoungerBack$Reader", "must", "(ZI)V"⟩) ∈ lw_all := lw_g (lw_at lw_ms 7 rfl) rfl
theorem qs8 : (Cond.selects "YoungerBack$Reader" ⟨"YoungerBack$Reader", "figure", "(II)I"⟩ ⟨"YoungerBack$Reader", "figure", "(II)I"⟩) ∈ lw_all := lw_g (lw_at lw_ms 8 rfl) rfl
theorem qs9 : (Cond.selects "YoungerBack$Reader" ⟨"YoungerBack$Reader", "sign", "()V"⟩ ⟨"YoungerBack$Reader", "sign", "()V"⟩) ∈ lw_all := lw_g (lw_at lw_ms 9 rfl) rfl
theorem qs10 : (Cond.selects "YoungerBack$Reader" ⟨"YoungerBack$Reader", "way", "()V"⟩ ⟨"YoungerBack$Reader", "way", "()V"⟩) ∈ lw_all := lw_g (lw_at lw_ms 10 rfl) rfl
theorem qs11 : (Cond.selects "YoungerBack$Reader" ⟨"YoungerBack$Reader", "begin", "(II)V"⟩ ⟨"YoungerBack$Reader", "begin", "(II)V"⟩) ∈ lw_all := lw_g (lw_at lw_ms 11 rfl) rfl
theorem qs12 : (Cond.selects "YoungerBack$Reader" ⟨"YoungerBack$Reader", "person", "()V"⟩ ⟨"YoungerBack$Reader", "person", "()V"⟩) ∈ lw_all := lw_g (lw_at lw_ms 12 rfl) rfl
theorem qs13 : (Cond.selects "java/util/ArrayList" ⟨"java/util/ArrayList", "add", "(Ljava/lang/Object;[Ljava/lang/Object;I)V"⟩ ⟨"java/util/ArrayList", "add", "(Ljava/lang/Object;[Ljava/lang/Object;I)V"⟩) ∈ lw_all := lw_g (lw_at lw_ms 13 rfl) rfl
theorem qs14 : (Cond.selects "java/util/ArrayList" ⟨"java/util/ArrayList", "grow", "()[Ljava/lang/Object;"⟩ ⟨"java/util/ArrayList", "grow", "()[Ljava/lang/Object;"⟩) ∈ lw_all := lw_g (lw_at lw_ms 14 rfl) rfl
theorem qs15 : (Cond.selects "java/util/ArrayList" ⟨"java/util/ArrayList", "grow", "(I)[Ljava/lang/Object;"⟩ ⟨"java/util/ArrayList", "grow", "(I)[Ljava/lang/Object;"⟩) ∈ lw_all := lw_g (lw_at lw_ms 15 rfl) rfl
theorem qs16 : (Cond.selects "YoungerBack" ⟨"YoungerBack", "isPerson", "(I)Z"⟩ ⟨"YoungerBack", "isPerson", "(I)Z"⟩) ∈ lw_all := lw_g (lw_at lw_ms 16 rfl) rfl
theorem qs17 : (Cond.selects "YoungerBack" ⟨"YoungerBack", "isWay", "(I)Z"⟩ ⟨"YoungerBack", "isWay", "(I)Z"⟩) ∈ lw_all := lw_g (lw_at lw_ms 17 rfl) rfl
theorem qs18 : (Cond.selects "YoungerBack" ⟨"YoungerBack", "canSail", "(II)Z"⟩ ⟨"YoungerBack", "canSail", "(II)Z"⟩) ∈ lw_all := lw_g (lw_at lw_ms 18 rfl) rfl
theorem qs19 : (Cond.selects "YoungerBack" ⟨"YoungerBack", "isTooLate", "(II)Z"⟩ ⟨"YoungerBack", "isTooLate", "(II)Z"⟩) ∈ lw_all := lw_g (lw_at lw_ms 19 rfl) rfl
theorem qs20 : (Cond.selects "YoungerBack" ⟨"YoungerBack", "keep", "()V"⟩ ⟨"YoungerBack", "keep", "()V"⟩) ∈ lw_all := lw_g (lw_at lw_ms 20 rfl) rfl
theorem qs21 : (Cond.selects "YoungerBack" ⟨"YoungerBack", "areTwo", "(II)Z"⟩ ⟨"YoungerBack", "areTwo", "(II)Z"⟩) ∈ lw_all := lw_g (lw_at lw_ms 21 rfl) rfl
theorem qs22 : (Cond.selects "YoungerBack" ⟨"YoungerBack", "isHarbour", "(I)Z"⟩ ⟨"YoungerBack", "isHarbour", "(I)Z"⟩) ∈ lw_all := lw_g (lw_at lw_ms 22 rfl) rfl
theorem qs23 : (Cond.selects "YoungerBack" ⟨"YoungerBack", "lay", "(I[J)V"⟩ ⟨"YoungerBack", "lay", "(I[J)V"⟩) ∈ lw_all := lw_g (lw_at lw_ms 23 rfl) rfl
theorem qs24 : (Cond.selects "YoungerBack" ⟨"YoungerBack", "ageAt", "(II)I"⟩ ⟨"YoungerBack", "ageAt", "(II)I"⟩) ∈ lw_all := lw_g (lw_at lw_ms 24 rfl) rfl
theorem qs25 : (Cond.selects "YoungerBack" ⟨"YoungerBack", "gainsAt", "([JIII)J"⟩ ⟨"YoungerBack", "gainsAt", "([JIII)J"⟩) ∈ lw_all := lw_g (lw_at lw_ms 25 rfl) rfl
theorem qs26 : (Cond.selects "YoungerBack" ⟨"YoungerBack", "isLeague", "()Z"⟩ ⟨"YoungerBack", "isLeague", "()Z"⟩) ∈ lw_all := lw_g (lw_at lw_ms 26 rfl) rfl
theorem qs27 : (Cond.selects "YoungerBackModel" ⟨"YoungerBackModel", "finding", "(I)I"⟩ ⟨"YoungerBackModel", "finding", "(I)I"⟩) ∈ lw_all := lw_g (lw_at lw_ms 27 rfl) rfl
theorem qs28 : (Cond.selects "YoungerBackModel" ⟨"YoungerBackModel", "begin", "()V"⟩ ⟨"YoungerBackModel", "begin", "()V"⟩) ∈ lw_all := lw_g (lw_at lw_ms 28 rfl) rfl
theorem qs29 : (Cond.selects "YoungerBackModel" ⟨"YoungerBackModel", "next", "()V"⟩ ⟨"YoungerBackModel", "next", "()V"⟩) ∈ lw_all := lw_g (lw_at lw_ms 29 rfl) rfl
theorem qs30 : (Cond.selects "YoungerBackModel" ⟨"YoungerBackModel", "byteAt", "(I)I"⟩ ⟨"YoungerBackModel", "byteAt", "(I)I"⟩) ∈ lw_all := lw_g (lw_at lw_ms 30 rfl) rfl
theorem qs31 : (Cond.selects "YoungerBackModel" ⟨"YoungerBackModel", "name", "()J"⟩ ⟨"YoungerBackModel", "name", "()J"⟩) ∈ lw_all := lw_g (lw_at lw_ms 31 rfl) rfl
theorem qs32 : (Cond.selects "YoungerBackModel" ⟨"YoungerBackModel", "must", "(Z)V"⟩ ⟨"YoungerBackModel", "must", "(Z)V"⟩) ∈ lw_all := lw_g (lw_at lw_ms 32 rfl) rfl
theorem qs33 : (Cond.selects "YoungerBackModel" ⟨"YoungerBackModel", "bad", "(I)V"⟩ ⟨"YoungerBackModel", "bad", "(I)V"⟩) ∈ lw_all := lw_g (lw_at lw_ms 33 rfl) rfl
theorem qs34 : (Cond.selects "YoungerBackModel" ⟨"YoungerBackModel", "number", "(II)I"⟩ ⟨"YoungerBackModel", "number", "(II)I"⟩) ∈ lw_all := lw_g (lw_at lw_ms 34 rfl) rfl
theorem qs35 : (Cond.selects "YoungerBackModel" ⟨"YoungerBackModel", "figures", "()I"⟩ ⟨"YoungerBackModel", "figures", "()I"⟩) ∈ lw_all := lw_g (lw_at lw_ms 35 rfl) rfl
theorem qs36 : (Cond.selects "YoungerBackModel" ⟨"YoungerBackModel", "mustEnd", "()V"⟩ ⟨"YoungerBackModel", "mustEnd", "()V"⟩) ∈ lw_all := lw_g (lw_at lw_ms 36 rfl) rfl
theorem qs37 : (Cond.selects "YoungerBackModel" ⟨"YoungerBackModel", "readWay", "()V"⟩ ⟨"YoungerBackModel", "readWay", "()V"⟩) ∈ lw_all := lw_g (lw_at lw_ms 37 rfl) rfl
theorem qs38 : (Cond.selects "YoungerBackModel" ⟨"YoungerBackModel", "begins", "(II)V"⟩ ⟨"YoungerBackModel", "begins", "(II)V"⟩) ∈ lw_all := lw_g (lw_at lw_ms 38 rfl) rfl
theorem qs39 : (Cond.selects "YoungerBackModel" ⟨"YoungerBackModel", "readPerson", "()V"⟩ ⟨"YoungerBackModel", "readPerson", "()V"⟩) ∈ lw_all := lw_g (lw_at lw_ms 39 rfl) rfl
theorem qs40 : (Cond.selects "YoungerBackModel" ⟨"YoungerBackModel", "isPerson", "(I)Z"⟩ ⟨"YoungerBackModel", "isPerson", "(I)Z"⟩) ∈ lw_all := lw_g (lw_at lw_ms 40 rfl) rfl
theorem qs41 : (Cond.selects "YoungerBackModel" ⟨"YoungerBackModel", "isWay", "(I)Z"⟩ ⟨"YoungerBackModel", "isWay", "(I)Z"⟩) ∈ lw_all := lw_g (lw_at lw_ms 41 rfl) rfl
theorem qs42 : (Cond.selects "YoungerBackModel" ⟨"YoungerBackModel", "goes", "(II)I"⟩ ⟨"YoungerBackModel", "goes", "(II)I"⟩) ∈ lw_all := lw_g (lw_at lw_ms 42 rfl) rfl
theorem qs43 : (Cond.selects "YoungerBackModel" ⟨"YoungerBackModel", "of", "(II)I"⟩ ⟨"YoungerBackModel", "of", "(II)I"⟩) ∈ lw_all := lw_g (lw_at lw_ms 43 rfl) rfl
theorem qs44 : (Cond.selects "YoungerBackModel" ⟨"YoungerBackModel", "endOf", "(III)I"⟩ ⟨"YoungerBackModel", "endOf", "(III)I"⟩) ∈ lw_all := lw_g (lw_at lw_ms 44 rfl) rfl
theorem qs45 : (Cond.selects "YoungerBackModel" ⟨"YoungerBackModel", "wayOf", "(II)I"⟩ ⟨"YoungerBackModel", "wayOf", "(II)I"⟩) ∈ lw_all := lw_g (lw_at lw_ms 45 rfl) rfl
theorem qs46 : (Cond.selects "YoungerBackModel" ⟨"YoungerBackModel", "keep", "()V"⟩ ⟨"YoungerBackModel", "keep", "()V"⟩) ∈ lw_all := lw_g (lw_at lw_ms 46 rfl) rfl
theorem qs47 : (Cond.selects "YoungerBackModel" ⟨"YoungerBackModel", "agesBy", "(II)I"⟩ ⟨"YoungerBackModel", "agesBy", "(II)I"⟩) ∈ lw_all := lw_g (lw_at lw_ms 47 rfl) rfl
theorem qs48 : (Cond.selects "YoungerBackModel" ⟨"YoungerBackModel", "ages", "(III)V"⟩ ⟨"YoungerBackModel", "ages", "(III)V"⟩) ∈ lw_all := lw_g (lw_at lw_ms 48 rfl) rfl
theorem qs49 : (Cond.selects "YoungerBackModel" ⟨"YoungerBackModel", "owedBy", "(II)I"⟩ ⟨"YoungerBackModel", "owedBy", "(II)I"⟩) ∈ lw_all := lw_g (lw_at lw_ms 49 rfl) rfl
theorem qs50 : (Cond.selects "YoungerBackModel" ⟨"YoungerBackModel", "grown", "(II)I"⟩ ⟨"YoungerBackModel", "grown", "(II)I"⟩) ∈ lw_all := lw_g (lw_at lw_ms 50 rfl) rfl
theorem qs51 : (Cond.selects "YoungerBackModel" ⟨"YoungerBackModel", "isHarbour", "(I)Z"⟩ ⟨"YoungerBackModel", "isHarbour", "(I)Z"⟩) ∈ lw_all := lw_g (lw_at lw_ms 51 rfl) rfl
theorem qs52 : (Cond.selects "YoungerBackModel" ⟨"YoungerBackModel", "layGains", "(I)V"⟩ ⟨"YoungerBackModel", "layGains", "(I)V"⟩) ∈ lw_all := lw_g (lw_at lw_ms 52 rfl) rfl
theorem qs53 : (Cond.selects "YoungerBackModel" ⟨"YoungerBackModel", "isThere", "()Z"⟩ ⟨"YoungerBackModel", "isThere", "()Z"⟩) ∈ lw_all := lw_g (lw_at lw_ms 53 rfl) rfl
theorem qs54 : (Cond.selects "YoungerBackModel" ⟨"YoungerBackModel", "sizeOf", "(I)I"⟩ ⟨"YoungerBackModel", "sizeOf", "(I)I"⟩) ∈ lw_all := lw_g (lw_at lw_ms 54 rfl) rfl
theorem qs55 : (Cond.selects "YoungerBackModel" ⟨"YoungerBackModel", "clerkSize", "(I)I"⟩ ⟨"YoungerBackModel", "clerkSize", "(I)I"⟩) ∈ lw_all := lw_g (lw_at lw_ms 55 rfl) rfl
theorem qs56 : (Cond.selects "YoungerBackModel" ⟨"YoungerBackModel", "began", "(I)V"⟩ ⟨"YoungerBackModel", "began", "(I)V"⟩) ∈ lw_all := lw_g (lw_at lw_ms 56 rfl) rfl
theorem qs57 : (Cond.selects "YoungerBackModel" ⟨"YoungerBackModel", "plainSize", "(I)I"⟩ ⟨"YoungerBackModel", "plainSize", "(I)I"⟩) ∈ lw_all := lw_g (lw_at lw_ms 57 rfl) rfl
theorem qs58 : (Cond.selects "YoungerBackModel" ⟨"YoungerBackModel", "markOf", "(I)I"⟩ ⟨"YoungerBackModel", "markOf", "(I)I"⟩) ∈ lw_all := lw_g (lw_at lw_ms 58 rfl) rfl
