-- ===== PART A: goes FIRST, ahead of the names: the tables' words, and 'selects' of the private methods out of them =====
/-- a private method of a class that the tables say can be made, by its rows of tables_1 -/
def lw_okq (q : MethodName × Nat) : Prop := (q.1.cls ≠ "java/lang/invoke/MethodHandle" ∧ q.1.cls ≠ "java/lang/invoke/VarHandle") ∧ Cond.instantiable q.1.cls q.2 ∈ tables_1 ∧ Cond.privateMethod q.1 ∈ tables_1 ∧ Cond.instanceMethod q.1 ∈ tables_1
set_option maxRecDepth 100000
theorem lw_t1 {w : Cond} (h : w ∈ tables_1_1) : w ∈ tables_1 := List.mem_append_left _ h
theorem lw_t2 {w : Cond} (h : w ∈ tables_1_2) : w ∈ tables_1 := List.mem_append_right _ (List.mem_append_left _ h)
theorem lw_t3 {w : Cond} (h : w ∈ tables_1_3) : w ∈ tables_1 := List.mem_append_right _ (List.mem_append_right _ (List.mem_append_left _ h))
theorem lw_t4 {w : Cond} (h : w ∈ tables_1_4) : w ∈ tables_1 := List.mem_append_right _ (List.mem_append_right _ (List.mem_append_right _ (List.mem_append_left _ h)))
theorem lw_t5 {w : Cond} (h : w ∈ tables_1_5) : w ∈ tables_1 := List.mem_append_right _ (List.mem_append_right _ (List.mem_append_right _ (List.mem_append_right _ (List.mem_append_left _ h))))
theorem lw_t6 {w : Cond} (h : w ∈ tables_1_6) : w ∈ tables_1 := List.mem_append_right _ (List.mem_append_right _ (List.mem_append_right _ (List.mem_append_right _ (List.mem_append_right _ (List.mem_append_left _ h)))))
theorem lw_t7 {w : Cond} (h : w ∈ tables_1_7) : w ∈ tables_1 := List.mem_append_right _ (List.mem_append_right _ (List.mem_append_right _ (List.mem_append_right _ (List.mem_append_right _ (List.mem_append_right _ (List.mem_append_left _ h))))))
theorem lw_t8 {w : Cond} (h : w ∈ tables_1_8) : w ∈ tables_1 := List.mem_append_right _ (List.mem_append_right _ (List.mem_append_right _ (List.mem_append_right _ (List.mem_append_right _ (List.mem_append_right _ (List.mem_append_right _ h))))))
theorem lw_p0 : lw_okq (⟨"LadderLots", "isOrder", "(II)Z"⟩, 30) := ⟨⟨by decide +kernel, by decide +kernel⟩, lw_t1 (List.mem_of_getElem? (i := 37) rfl), lw_t1 (List.mem_of_getElem? (i := 35) rfl), lw_t1 (List.mem_of_getElem? (i := 36) rfl)⟩
theorem lw_p1 : lw_okq (⟨"LadderLots$Orders", "next", "()V"⟩, 5) := ⟨⟨by decide +kernel, by decide +kernel⟩, lw_t1 (List.mem_of_getElem? (i := 49) rfl), lw_t1 (List.mem_of_getElem? (i := 47) rfl), lw_t1 (List.mem_of_getElem? (i := 48) rfl)⟩
theorem lw_p2 : lw_okq (⟨"LadderLots$Orders", "swap", "(II)V"⟩, 5) := ⟨⟨by decide +kernel, by decide +kernel⟩, lw_t1 (List.mem_of_getElem? (i := 49) rfl), lw_t1 (List.mem_of_getElem? (i := 52) rfl), lw_t1 (List.mem_of_getElem? (i := 53) rfl)⟩
theorem lw_p3 : lw_okq (⟨"LadderLots$Orders", "swapped", "(II)I"⟩, 5) := ⟨⟨by decide +kernel, by decide +kernel⟩, lw_t1 (List.mem_of_getElem? (i := 49) rfl), lw_t1 (List.mem_of_getElem? (i := 56) rfl), lw_t1 (List.mem_of_getElem? (i := 57) rfl)⟩
theorem lw_p4 : lw_okq (⟨"LadderLots", "leastsFrom", "(I)J"⟩, 30) := ⟨⟨by decide +kernel, by decide +kernel⟩, lw_t1 (List.mem_of_getElem? (i := 37) rfl), lw_t1 (List.mem_of_getElem? (i := 81) rfl), lw_t1 (List.mem_of_getElem? (i := 82) rfl)⟩
theorem lw_p5 : lw_okq (⟨"LadderLots", "unranks", "(IJ)V"⟩, 30) := ⟨⟨by decide +kernel, by decide +kernel⟩, lw_t1 (List.mem_of_getElem? (i := 37) rfl), lw_t1 (List.mem_of_getElem? (i := 102) rfl), lw_t1 (List.mem_of_getElem? (i := 103) rfl)⟩
theorem lw_p6 : lw_okq (⟨"LadderLots", "led", "(IIIII)I"⟩, 30) := ⟨⟨by decide +kernel, by decide +kernel⟩, lw_t1 (List.mem_of_getElem? (i := 37) rfl), lw_t1 (List.mem_of_getElem? (i := 110) rfl), lw_t1 (List.mem_of_getElem? (i := 111) rfl)⟩
theorem lw_p7 : lw_okq (⟨"LadderLots", "laysWords", "(I)Z"⟩, 30) := ⟨⟨by decide +kernel, by decide +kernel⟩, lw_t1 (List.mem_of_getElem? (i := 37) rfl), lw_t1 (List.mem_of_getElem? (i := 114) rfl), lw_t1 (List.mem_of_getElem? (i := 115) rfl)⟩
theorem lw_p8 : lw_okq (⟨"LadderLots", "goesFrom", "(III)V"⟩, 30) := ⟨⟨by decide +kernel, by decide +kernel⟩, lw_t1 (List.mem_of_getElem? (i := 37) rfl), lw_t1 (List.mem_of_getElem? (i := 122) rfl), lw_t1 (List.mem_of_getElem? (i := 123) rfl)⟩
theorem lw_p9 : lw_okq (⟨"LadderLots", "ledAt", "(IIIIZ)I"⟩, 30) := ⟨⟨by decide +kernel, by decide +kernel⟩, lw_t1 (List.mem_of_getElem? (i := 37) rfl), lw_t1 (List.mem_of_getElem? (i := 127) rfl), lw_t1 (List.mem_of_getElem? (i := 128) rfl)⟩
theorem lw_p10 : lw_okq (⟨"LadderLots", "ranked", "(I)J"⟩, 30) := ⟨⟨by decide +kernel, by decide +kernel⟩, lw_t1 (List.mem_of_getElem? (i := 37) rfl), lw_t1 (List.mem_of_getElem? (i := 134) rfl), lw_t1 (List.mem_of_getElem? (i := 135) rfl)⟩
theorem lw_p11 : lw_okq (⟨"LadderLots", "comesBy", "(II)V"⟩, 30) := ⟨⟨by decide +kernel, by decide +kernel⟩, lw_t1 (List.mem_of_getElem? (i := 37) rfl), lw_t1 (List.mem_of_getElem? (i := 138) rfl), lw_t1 (List.mem_of_getElem? (i := 139) rfl)⟩
theorem lw_p12 : lw_okq (⟨"LadderLots$Scanner", "put", "(I)V"⟩, 6) := ⟨⟨by decide +kernel, by decide +kernel⟩, lw_t1 (List.mem_of_getElem? (i := 186) rfl), lw_t2 (List.mem_of_getElem? (i := 167) rfl), lw_t2 (List.mem_of_getElem? (i := 168) rfl)⟩
theorem lw_p13 : lw_okq (⟨"LadderLots$Scanner", "add", "(IIJ)V"⟩, 6) := ⟨⟨by decide +kernel, by decide +kernel⟩, lw_t1 (List.mem_of_getElem? (i := 186) rfl), lw_t2 (List.mem_of_getElem? (i := 193) rfl), lw_t2 (List.mem_of_getElem? (i := 194) rfl)⟩
theorem lw_p14 : lw_okq (⟨"LadderLots$Scanner", "word", "(I)I"⟩, 6) := ⟨⟨by decide +kernel, by decide +kernel⟩, lw_t1 (List.mem_of_getElem? (i := 186) rfl), lw_t2 (List.mem_of_getElem? (i := 200) rfl), lw_t2 (List.mem_of_getElem? (i := 201) rfl)⟩
theorem lw_p15 : lw_okq (⟨"LadderLots$Scanner", "byteAt", "(I)I"⟩, 6) := ⟨⟨by decide +kernel, by decide +kernel⟩, lw_t1 (List.mem_of_getElem? (i := 186) rfl), lw_t2 (List.mem_of_getElem? (i := 204) rfl), lw_t2 (List.mem_of_getElem? (i := 205) rfl)⟩
def lw_privs_1 : List (MethodName × Nat) := [(⟨"LadderLots", "isOrder", "(II)Z"⟩, 30), (⟨"LadderLots$Orders", "next", "()V"⟩, 5), (⟨"LadderLots$Orders", "swap", "(II)V"⟩, 5), (⟨"LadderLots$Orders", "swapped", "(II)I"⟩, 5), (⟨"LadderLots", "leastsFrom", "(I)J"⟩, 30), (⟨"LadderLots", "unranks", "(IJ)V"⟩, 30), (⟨"LadderLots", "led", "(IIIII)I"⟩, 30), (⟨"LadderLots", "laysWords", "(I)Z"⟩, 30), (⟨"LadderLots", "goesFrom", "(III)V"⟩, 30), (⟨"LadderLots", "ledAt", "(IIIIZ)I"⟩, 30), (⟨"LadderLots", "ranked", "(I)J"⟩, 30), (⟨"LadderLots", "comesBy", "(II)V"⟩, 30), (⟨"LadderLots$Scanner", "put", "(I)V"⟩, 6), (⟨"LadderLots$Scanner", "add", "(IIJ)V"⟩, 6), (⟨"LadderLots$Scanner", "word", "(I)I"⟩, 6), (⟨"LadderLots$Scanner", "byteAt", "(I)I"⟩, 6)]
theorem lw_r1 : ∀ q ∈ lw_privs_1, lw_okq q := List.forall_mem_cons.mpr ⟨lw_p0, List.forall_mem_cons.mpr ⟨lw_p1, List.forall_mem_cons.mpr ⟨lw_p2, List.forall_mem_cons.mpr ⟨lw_p3, List.forall_mem_cons.mpr ⟨lw_p4, List.forall_mem_cons.mpr ⟨lw_p5, List.forall_mem_cons.mpr ⟨lw_p6, List.forall_mem_cons.mpr ⟨lw_p7, List.forall_mem_cons.mpr ⟨lw_p8, List.forall_mem_cons.mpr ⟨lw_p9, List.forall_mem_cons.mpr ⟨lw_p10, List.forall_mem_cons.mpr ⟨lw_p11, List.forall_mem_cons.mpr ⟨lw_p12, List.forall_mem_cons.mpr ⟨lw_p13, List.forall_mem_cons.mpr ⟨lw_p14, List.forall_mem_cons.mpr ⟨lw_p15, fun _ h => absurd h List.not_mem_nil⟩⟩⟩⟩⟩⟩⟩⟩⟩⟩⟩⟩⟩⟩⟩⟩
theorem lw_p16 : lw_okq (⟨"LadderLots$Scanner", "is", "(Ljava/lang/String;II)Z"⟩, 6) := ⟨⟨by decide +kernel, by decide +kernel⟩, lw_t1 (List.mem_of_getElem? (i := 186) rfl), lw_t2 (List.mem_of_getElem? (i := 212) rfl), lw_t2 (List.mem_of_getElem? (i := 213) rfl)⟩
theorem lw_p17 : lw_okq (⟨"LadderLots$Scanner", "number", "(I)I"⟩, 6) := ⟨⟨by decide +kernel, by decide +kernel⟩, lw_t1 (List.mem_of_getElem? (i := 186) rfl), lw_t3 (List.mem_of_getElem? (i := 27) rfl), lw_t3 (List.mem_of_getElem? (i := 28) rfl)⟩
theorem lw_p18 : lw_okq (⟨"LadderLots$Scanner", "sign", "(I)I"⟩, 6) := ⟨⟨by decide +kernel, by decide +kernel⟩, lw_t1 (List.mem_of_getElem? (i := 186) rfl), lw_t3 (List.mem_of_getElem? (i := 31) rfl), lw_t3 (List.mem_of_getElem? (i := 32) rfl)⟩
theorem lw_p19 : lw_okq (⟨"LadderLots$Reader", "must", "(I)I"⟩, 9) := ⟨⟨by decide +kernel, by decide +kernel⟩, lw_t1 (List.mem_of_getElem? (i := 218) rfl), lw_t3 (List.mem_of_getElem? (i := 39) rfl), lw_t3 (List.mem_of_getElem? (i := 40) rfl)⟩
theorem lw_p20 : lw_okq (⟨"LadderLots$Reader", "is", "(I)Z"⟩, 9) := ⟨⟨by decide +kernel, by decide +kernel⟩, lw_t1 (List.mem_of_getElem? (i := 218) rfl), lw_t3 (List.mem_of_getElem? (i := 43) rfl), lw_t3 (List.mem_of_getElem? (i := 44) rfl)⟩
theorem lw_p21 : lw_okq (⟨"LadderLots$Reader", "fault", "(I)LLadderLots$Fault;"⟩, 9) := ⟨⟨by decide +kernel, by decide +kernel⟩, lw_t1 (List.mem_of_getElem? (i := 218) rfl), lw_t3 (List.mem_of_getElem? (i := 47) rfl), lw_t3 (List.mem_of_getElem? (i := 48) rfl)⟩
theorem lw_p22 : lw_okq (⟨"java/lang/Throwable", "fillInStackTrace", "(I)Ljava/lang/Throwable;"⟩, 6) := ⟨⟨by decide +kernel, by decide +kernel⟩, lw_t3 (List.mem_of_getElem? (i := 87) rfl), lw_t3 (List.mem_of_getElem? (i := 85) rfl), lw_t3 (List.mem_of_getElem? (i := 86) rfl)⟩
theorem lw_p23 : lw_okq (⟨"LadderLots$Reader", "go", "()I"⟩, 9) := ⟨⟨by decide +kernel, by decide +kernel⟩, lw_t1 (List.mem_of_getElem? (i := 218) rfl), lw_t3 (List.mem_of_getElem? (i := 123) rfl), lw_t3 (List.mem_of_getElem? (i := 124) rfl)⟩
theorem lw_p24 : lw_okq (⟨"LadderLots$Reader", "bounded", "(II)I"⟩, 9) := ⟨⟨by decide +kernel, by decide +kernel⟩, lw_t1 (List.mem_of_getElem? (i := 218) rfl), lw_t3 (List.mem_of_getElem? (i := 127) rfl), lw_t3 (List.mem_of_getElem? (i := 128) rfl)⟩
theorem lw_p25 : lw_okq (⟨"LadderLots$Reader", "wrong", "(II)V"⟩, 9) := ⟨⟨by decide +kernel, by decide +kernel⟩, lw_t1 (List.mem_of_getElem? (i := 218) rfl), lw_t3 (List.mem_of_getElem? (i := 132) rfl), lw_t3 (List.mem_of_getElem? (i := 133) rfl)⟩
theorem lw_p26 : lw_okq (⟨"LadderLots$Reader", "tellPart", "()V"⟩, 9) := ⟨⟨by decide +kernel, by decide +kernel⟩, lw_t1 (List.mem_of_getElem? (i := 218) rfl), lw_t3 (List.mem_of_getElem? (i := 160) rfl), lw_t3 (List.mem_of_getElem? (i := 161) rfl)⟩
theorem lw_p27 : lw_okq (⟨"LadderLots$Reader", "partOf", "(J)I"⟩, 9) := ⟨⟨by decide +kernel, by decide +kernel⟩, lw_t1 (List.mem_of_getElem? (i := 218) rfl), lw_t3 (List.mem_of_getElem? (i := 164) rfl), lw_t3 (List.mem_of_getElem? (i := 165) rfl)⟩
theorem lw_p28 : lw_okq (⟨"LadderLots$Reader", "body", "()LLadderLots$Steps;"⟩, 9) := ⟨⟨by decide +kernel, by decide +kernel⟩, lw_t1 (List.mem_of_getElem? (i := 218) rfl), lw_t3 (List.mem_of_getElem? (i := 168) rfl), lw_t3 (List.mem_of_getElem? (i := 169) rfl)⟩
theorem lw_p29 : lw_okq (⟨"LadderLots$Reader", "opens", "()V"⟩, 9) := ⟨⟨by decide +kernel, by decide +kernel⟩, lw_t1 (List.mem_of_getElem? (i := 218) rfl), lw_t3 (List.mem_of_getElem? (i := 172) rfl), lw_t3 (List.mem_of_getElem? (i := 173) rfl)⟩
theorem lw_p30 : lw_okq (⟨"LadderLots$Reader", "tell", "(LLadderLots$Steps;)V"⟩, 9) := ⟨⟨by decide +kernel, by decide +kernel⟩, lw_t1 (List.mem_of_getElem? (i := 218) rfl), lw_t3 (List.mem_of_getElem? (i := 176) rfl), lw_t3 (List.mem_of_getElem? (i := 177) rfl)⟩
theorem lw_p31 : lw_okq (⟨"java/util/ArrayList", "add", "(Ljava/lang/Object;[Ljava/lang/Object;I)V"⟩, 3) := ⟨⟨by decide +kernel, by decide +kernel⟩, lw_t2 (List.mem_of_getElem? (i := 14) rfl), lw_t3 (List.mem_of_getElem? (i := 197) rfl), lw_t3 (List.mem_of_getElem? (i := 198) rfl)⟩
def lw_privs_2 : List (MethodName × Nat) := [(⟨"LadderLots$Scanner", "is", "(Ljava/lang/String;II)Z"⟩, 6), (⟨"LadderLots$Scanner", "number", "(I)I"⟩, 6), (⟨"LadderLots$Scanner", "sign", "(I)I"⟩, 6), (⟨"LadderLots$Reader", "must", "(I)I"⟩, 9), (⟨"LadderLots$Reader", "is", "(I)Z"⟩, 9), (⟨"LadderLots$Reader", "fault", "(I)LLadderLots$Fault;"⟩, 9), (⟨"java/lang/Throwable", "fillInStackTrace", "(I)Ljava/lang/Throwable;"⟩, 6), (⟨"LadderLots$Reader", "go", "()I"⟩, 9), (⟨"LadderLots$Reader", "bounded", "(II)I"⟩, 9), (⟨"LadderLots$Reader", "wrong", "(II)V"⟩, 9), (⟨"LadderLots$Reader", "tellPart", "()V"⟩, 9), (⟨"LadderLots$Reader", "partOf", "(J)I"⟩, 9), (⟨"LadderLots$Reader", "body", "()LLadderLots$Steps;"⟩, 9), (⟨"LadderLots$Reader", "opens", "()V"⟩, 9), (⟨"LadderLots$Reader", "tell", "(LLadderLots$Steps;)V"⟩, 9), (⟨"java/util/ArrayList", "add", "(Ljava/lang/Object;[Ljava/lang/Object;I)V"⟩, 3)]
theorem lw_r2 : ∀ q ∈ lw_privs_2, lw_okq q := List.forall_mem_cons.mpr ⟨lw_p16, List.forall_mem_cons.mpr ⟨lw_p17, List.forall_mem_cons.mpr ⟨lw_p18, List.forall_mem_cons.mpr ⟨lw_p19, List.forall_mem_cons.mpr ⟨lw_p20, List.forall_mem_cons.mpr ⟨lw_p21, List.forall_mem_cons.mpr ⟨lw_p22, List.forall_mem_cons.mpr ⟨lw_p23, List.forall_mem_cons.mpr ⟨lw_p24, List.forall_mem_cons.mpr ⟨lw_p25, List.forall_mem_cons.mpr ⟨lw_p26, List.forall_mem_cons.mpr ⟨lw_p27, List.forall_mem_cons.mpr ⟨lw_p28, List.forall_mem_cons.mpr ⟨lw_p29, List.forall_mem_cons.mpr ⟨lw_p30, List.forall_mem_cons.mpr ⟨lw_p31, fun _ h => absurd h List.not_mem_nil⟩⟩⟩⟩⟩⟩⟩⟩⟩⟩⟩⟩⟩⟩⟩⟩
theorem lw_p32 : lw_okq (⟨"java/util/ArrayList", "grow", "()[Ljava/lang/Object;"⟩, 3) := ⟨⟨by decide +kernel, by decide +kernel⟩, lw_t2 (List.mem_of_getElem? (i := 14) rfl), lw_t3 (List.mem_of_getElem? (i := 201) rfl), lw_t3 (List.mem_of_getElem? (i := 202) rfl)⟩
theorem lw_p33 : lw_okq (⟨"java/util/ArrayList", "grow", "(I)[Ljava/lang/Object;"⟩, 3) := ⟨⟨by decide +kernel, by decide +kernel⟩, lw_t2 (List.mem_of_getElem? (i := 14) rfl), lw_t3 (List.mem_of_getElem? (i := 205) rfl), lw_t3 (List.mem_of_getElem? (i := 206) rfl)⟩
theorem lw_p34 : lw_okq (⟨"LadderLots$Reader", "tellMaybe", "(LLadderLots$Steps;)V"⟩, 9) := ⟨⟨by decide +kernel, by decide +kernel⟩, lw_t1 (List.mem_of_getElem? (i := 218) rfl), lw_t4 (List.mem_of_getElem? (i := 34) rfl), lw_t4 (List.mem_of_getElem? (i := 35) rfl)⟩
theorem lw_p35 : lw_okq (⟨"LadderLots$Reader", "tellUse", "(LLadderLots$Steps;)V"⟩, 9) := ⟨⟨by decide +kernel, by decide +kernel⟩, lw_t1 (List.mem_of_getElem? (i := 218) rfl), lw_t4 (List.mem_of_getElem? (i := 54) rfl), lw_t4 (List.mem_of_getElem? (i := 55) rfl)⟩
theorem lw_p36 : lw_okq (⟨"LadderLots", "isLadder", "(I)Z"⟩, 30) := ⟨⟨by decide +kernel, by decide +kernel⟩, lw_t1 (List.mem_of_getElem? (i := 37) rfl), lw_t4 (List.mem_of_getElem? (i := 139) rfl), lw_t4 (List.mem_of_getElem? (i := 140) rfl)⟩
theorem lw_p37 : lw_okq (⟨"LadderLots", "comes", "(ILLadderLots$Steps;)I"⟩, 30) := ⟨⟨by decide +kernel, by decide +kernel⟩, lw_t1 (List.mem_of_getElem? (i := 37) rfl), lw_t4 (List.mem_of_getElem? (i := 146) rfl), lw_t4 (List.mem_of_getElem? (i := 147) rfl)⟩
theorem lw_p38 : lw_okq (⟨"LadderLots", "isElement", "(II)Z"⟩, 30) := ⟨⟨by decide +kernel, by decide +kernel⟩, lw_t1 (List.mem_of_getElem? (i := 37) rfl), lw_t4 (List.mem_of_getElem? (i := 207) rfl), lw_t4 (List.mem_of_getElem? (i := 208) rfl)⟩
theorem lw_p39 : lw_okq (⟨"LadderLots", "isOrderOf", "(II)Z"⟩, 30) := ⟨⟨by decide +kernel, by decide +kernel⟩, lw_t1 (List.mem_of_getElem? (i := 37) rfl), lw_t4 (List.mem_of_getElem? (i := 219) rfl), lw_t4 (List.mem_of_getElem? (i := 220) rfl)⟩
theorem lw_p40 : lw_okq (⟨"LadderLots", "isThere", "(II)Z"⟩, 30) := ⟨⟨by decide +kernel, by decide +kernel⟩, lw_t1 (List.mem_of_getElem? (i := 37) rfl), lw_t4 (List.mem_of_getElem? (i := 223) rfl), lw_t4 (List.mem_of_getElem? (i := 224) rfl)⟩
theorem lw_p41 : lw_okq (⟨"LadderLots", "goes", "(LLadderLots$Ladder;II)I"⟩, 30) := ⟨⟨by decide +kernel, by decide +kernel⟩, lw_t1 (List.mem_of_getElem? (i := 37) rfl), lw_t4 (List.mem_of_getElem? (i := 227) rfl), lw_t4 (List.mem_of_getElem? (i := 228) rfl)⟩
theorem lw_p42 : lw_okq (⟨"LadderLots", "clears", "(LLadderLots$Ladder;)I"⟩, 30) := ⟨⟨by decide +kernel, by decide +kernel⟩, lw_t1 (List.mem_of_getElem? (i := 37) rfl), lw_t5 (List.mem_of_getElem? (i := 31) rfl), lw_t5 (List.mem_of_getElem? (i := 32) rfl)⟩
theorem lw_p43 : lw_okq (⟨"LadderLots", "undoes", "(LLadderLots$Ladder;)Z"⟩, 30) := ⟨⟨by decide +kernel, by decide +kernel⟩, lw_t1 (List.mem_of_getElem? (i := 37) rfl), lw_t5 (List.mem_of_getElem? (i := 35) rfl), lw_t5 (List.mem_of_getElem? (i := 36) rfl)⟩
theorem lw_p44 : lw_okq (⟨"LadderLots", "isNumber", "(II)Z"⟩, 30) := ⟨⟨by decide +kernel, by decide +kernel⟩, lw_t1 (List.mem_of_getElem? (i := 37) rfl), lw_t5 (List.mem_of_getElem? (i := 52) rfl), lw_t5 (List.mem_of_getElem? (i := 53) rfl)⟩
theorem lw_p45 : lw_okq (⟨"LadderLots", "spreads", "(LLadderLots$Ladder;I)V"⟩, 30) := ⟨⟨by decide +kernel, by decide +kernel⟩, lw_t1 (List.mem_of_getElem? (i := 37) rfl), lw_t5 (List.mem_of_getElem? (i := 56) rfl), lw_t5 (List.mem_of_getElem? (i := 57) rfl)⟩
theorem lw_p46 : lw_okq (⟨"LadderLots", "isKnown", "(II)Z"⟩, 30) := ⟨⟨by decide +kernel, by decide +kernel⟩, lw_t1 (List.mem_of_getElem? (i := 37) rfl), lw_t5 (List.mem_of_getElem? (i := 80) rfl), lw_t5 (List.mem_of_getElem? (i := 81) rfl)⟩
theorem lw_p47 : lw_okq (⟨"LadderLots", "fits", "(II)V"⟩, 30) := ⟨⟨by decide +kernel, by decide +kernel⟩, lw_t1 (List.mem_of_getElem? (i := 37) rfl), lw_t5 (List.mem_of_getElem? (i := 84) rfl), lw_t5 (List.mem_of_getElem? (i := 85) rfl)⟩
def lw_privs_3 : List (MethodName × Nat) := [(⟨"java/util/ArrayList", "grow", "()[Ljava/lang/Object;"⟩, 3), (⟨"java/util/ArrayList", "grow", "(I)[Ljava/lang/Object;"⟩, 3), (⟨"LadderLots$Reader", "tellMaybe", "(LLadderLots$Steps;)V"⟩, 9), (⟨"LadderLots$Reader", "tellUse", "(LLadderLots$Steps;)V"⟩, 9), (⟨"LadderLots", "isLadder", "(I)Z"⟩, 30), (⟨"LadderLots", "comes", "(ILLadderLots$Steps;)I"⟩, 30), (⟨"LadderLots", "isElement", "(II)Z"⟩, 30), (⟨"LadderLots", "isOrderOf", "(II)Z"⟩, 30), (⟨"LadderLots", "isThere", "(II)Z"⟩, 30), (⟨"LadderLots", "goes", "(LLadderLots$Ladder;II)I"⟩, 30), (⟨"LadderLots", "clears", "(LLadderLots$Ladder;)I"⟩, 30), (⟨"LadderLots", "undoes", "(LLadderLots$Ladder;)Z"⟩, 30), (⟨"LadderLots", "isNumber", "(II)Z"⟩, 30), (⟨"LadderLots", "spreads", "(LLadderLots$Ladder;I)V"⟩, 30), (⟨"LadderLots", "isKnown", "(II)Z"⟩, 30), (⟨"LadderLots", "fits", "(II)V"⟩, 30)]
theorem lw_r3 : ∀ q ∈ lw_privs_3, lw_okq q := List.forall_mem_cons.mpr ⟨lw_p32, List.forall_mem_cons.mpr ⟨lw_p33, List.forall_mem_cons.mpr ⟨lw_p34, List.forall_mem_cons.mpr ⟨lw_p35, List.forall_mem_cons.mpr ⟨lw_p36, List.forall_mem_cons.mpr ⟨lw_p37, List.forall_mem_cons.mpr ⟨lw_p38, List.forall_mem_cons.mpr ⟨lw_p39, List.forall_mem_cons.mpr ⟨lw_p40, List.forall_mem_cons.mpr ⟨lw_p41, List.forall_mem_cons.mpr ⟨lw_p42, List.forall_mem_cons.mpr ⟨lw_p43, List.forall_mem_cons.mpr ⟨lw_p44, List.forall_mem_cons.mpr ⟨lw_p45, List.forall_mem_cons.mpr ⟨lw_p46, List.forall_mem_cons.mpr ⟨lw_p47, fun _ h => absurd h List.not_mem_nil⟩⟩⟩⟩⟩⟩⟩⟩⟩⟩⟩⟩⟩⟩⟩⟩
theorem lw_p48 : lw_okq (⟨"LadderLots", "endsThere", "(II)J"⟩, 30) := ⟨⟨by decide +kernel, by decide +kernel⟩, lw_t1 (List.mem_of_getElem? (i := 37) rfl), lw_t5 (List.mem_of_getElem? (i := 92) rfl), lw_t5 (List.mem_of_getElem? (i := 93) rfl)⟩
theorem lw_p49 : lw_okq (⟨"LadderLots", "needsTo", "(LLadderLots$Ladder;I)V"⟩, 30) := ⟨⟨by decide +kernel, by decide +kernel⟩, lw_t1 (List.mem_of_getElem? (i := 37) rfl), lw_t5 (List.mem_of_getElem? (i := 107) rfl), lw_t5 (List.mem_of_getElem? (i := 108) rfl)⟩
theorem lw_p50 : lw_okq (⟨"LadderLots", "asked", "(I)I"⟩, 30) := ⟨⟨by decide +kernel, by decide +kernel⟩, lw_t1 (List.mem_of_getElem? (i := 37) rfl), lw_t5 (List.mem_of_getElem? (i := 128) rfl), lw_t5 (List.mem_of_getElem? (i := 129) rfl)⟩
theorem lw_p51 : lw_okq (⟨"LadderLots", "mends", "(LLadderLots$Ladder;)I"⟩, 30) := ⟨⟨by decide +kernel, by decide +kernel⟩, lw_t1 (List.mem_of_getElem? (i := 37) rfl), lw_t5 (List.mem_of_getElem? (i := 175) rfl), lw_t5 (List.mem_of_getElem? (i := 176) rfl)⟩
theorem lw_p52 : lw_okq (⟨"LadderLots", "isFound", "(I)Z"⟩, 30) := ⟨⟨by decide +kernel, by decide +kernel⟩, lw_t1 (List.mem_of_getElem? (i := 37) rfl), lw_t5 (List.mem_of_getElem? (i := 185) rfl), lw_t5 (List.mem_of_getElem? (i := 186) rfl)⟩
theorem lw_p53 : lw_okq (⟨"LadderLots", "gatesTo", "(I)I"⟩, 30) := ⟨⟨by decide +kernel, by decide +kernel⟩, lw_t1 (List.mem_of_getElem? (i := 37) rfl), lw_t5 (List.mem_of_getElem? (i := 189) rfl), lw_t5 (List.mem_of_getElem? (i := 190) rfl)⟩
theorem lw_p54 : lw_okq (⟨"LadderLotsModel", "typed", "(I)V"⟩, 60) := ⟨⟨by decide +kernel, by decide +kernel⟩, lw_t5 (List.mem_of_getElem? (i := 205) rfl), lw_t6 (List.mem_of_getElem? (i := 157) rfl), lw_t6 (List.mem_of_getElem? (i := 158) rfl)⟩
theorem lw_p55 : lw_okq (⟨"LadderLotsModel", "scanAll", "()V"⟩, 60) := ⟨⟨by decide +kernel, by decide +kernel⟩, lw_t5 (List.mem_of_getElem? (i := 205) rfl), lw_t6 (List.mem_of_getElem? (i := 169) rfl), lw_t6 (List.mem_of_getElem? (i := 170) rfl)⟩
theorem lw_p56 : lw_okq (⟨"LadderLotsModel", "byteAt", "(I)I"⟩, 60) := ⟨⟨by decide +kernel, by decide +kernel⟩, lw_t5 (List.mem_of_getElem? (i := 205) rfl), lw_t6 (List.mem_of_getElem? (i := 173) rfl), lw_t6 (List.mem_of_getElem? (i := 174) rfl)⟩
theorem lw_p57 : lw_okq (⟨"LadderLotsModel", "scan", "(I)I"⟩, 60) := ⟨⟨by decide +kernel, by decide +kernel⟩, lw_t5 (List.mem_of_getElem? (i := 205) rfl), lw_t6 (List.mem_of_getElem? (i := 177) rfl), lw_t6 (List.mem_of_getElem? (i := 178) rfl)⟩
theorem lw_p58 : lw_okq (⟨"LadderLotsModel", "isLetter", "(I)Z"⟩, 60) := ⟨⟨by decide +kernel, by decide +kernel⟩, lw_t5 (List.mem_of_getElem? (i := 205) rfl), lw_t6 (List.mem_of_getElem? (i := 181) rfl), lw_t6 (List.mem_of_getElem? (i := 182) rfl)⟩
theorem lw_p59 : lw_okq (⟨"LadderLotsModel", "token", "(III)V"⟩, 60) := ⟨⟨by decide +kernel, by decide +kernel⟩, lw_t5 (List.mem_of_getElem? (i := 205) rfl), lw_t6 (List.mem_of_getElem? (i := 200) rfl), lw_t6 (List.mem_of_getElem? (i := 201) rfl)⟩
theorem lw_p60 : lw_okq (⟨"LadderLotsModel", "isDigit", "(I)Z"⟩, 60) := ⟨⟨by decide +kernel, by decide +kernel⟩, lw_t5 (List.mem_of_getElem? (i := 205) rfl), lw_t6 (List.mem_of_getElem? (i := 204) rfl), lw_t6 (List.mem_of_getElem? (i := 205) rfl)⟩
theorem lw_p61 : lw_okq (⟨"LadderLotsModel", "parses", "()Z"⟩, 60) := ⟨⟨by decide +kernel, by decide +kernel⟩, lw_t5 (List.mem_of_getElem? (i := 205) rfl), lw_t6 (List.mem_of_getElem? (i := 208) rfl), lw_t6 (List.mem_of_getElem? (i := 209) rfl)⟩
theorem lw_p62 : lw_okq (⟨"LadderLotsModel", "isWord", "(I)Z"⟩, 60) := ⟨⟨by decide +kernel, by decide +kernel⟩, lw_t5 (List.mem_of_getElem? (i := 205) rfl), lw_t6 (List.mem_of_getElem? (i := 212) rfl), lw_t6 (List.mem_of_getElem? (i := 213) rfl)⟩
theorem lw_p63 : lw_okq (⟨"LadderLotsModel", "wrong", "(I)Z"⟩, 60) := ⟨⟨by decide +kernel, by decide +kernel⟩, lw_t5 (List.mem_of_getElem? (i := 205) rfl), lw_t6 (List.mem_of_getElem? (i := 216) rfl), lw_t6 (List.mem_of_getElem? (i := 217) rfl)⟩
def lw_privs_4 : List (MethodName × Nat) := [(⟨"LadderLots", "endsThere", "(II)J"⟩, 30), (⟨"LadderLots", "needsTo", "(LLadderLots$Ladder;I)V"⟩, 30), (⟨"LadderLots", "asked", "(I)I"⟩, 30), (⟨"LadderLots", "mends", "(LLadderLots$Ladder;)I"⟩, 30), (⟨"LadderLots", "isFound", "(I)Z"⟩, 30), (⟨"LadderLots", "gatesTo", "(I)I"⟩, 30), (⟨"LadderLotsModel", "typed", "(I)V"⟩, 60), (⟨"LadderLotsModel", "scanAll", "()V"⟩, 60), (⟨"LadderLotsModel", "byteAt", "(I)I"⟩, 60), (⟨"LadderLotsModel", "scan", "(I)I"⟩, 60), (⟨"LadderLotsModel", "isLetter", "(I)Z"⟩, 60), (⟨"LadderLotsModel", "token", "(III)V"⟩, 60), (⟨"LadderLotsModel", "isDigit", "(I)Z"⟩, 60), (⟨"LadderLotsModel", "parses", "()Z"⟩, 60), (⟨"LadderLotsModel", "isWord", "(I)Z"⟩, 60), (⟨"LadderLotsModel", "wrong", "(I)Z"⟩, 60)]
theorem lw_r4 : ∀ q ∈ lw_privs_4, lw_okq q := List.forall_mem_cons.mpr ⟨lw_p48, List.forall_mem_cons.mpr ⟨lw_p49, List.forall_mem_cons.mpr ⟨lw_p50, List.forall_mem_cons.mpr ⟨lw_p51, List.forall_mem_cons.mpr ⟨lw_p52, List.forall_mem_cons.mpr ⟨lw_p53, List.forall_mem_cons.mpr ⟨lw_p54, List.forall_mem_cons.mpr ⟨lw_p55, List.forall_mem_cons.mpr ⟨lw_p56, List.forall_mem_cons.mpr ⟨lw_p57, List.forall_mem_cons.mpr ⟨lw_p58, List.forall_mem_cons.mpr ⟨lw_p59, List.forall_mem_cons.mpr ⟨lw_p60, List.forall_mem_cons.mpr ⟨lw_p61, List.forall_mem_cons.mpr ⟨lw_p62, List.forall_mem_cons.mpr ⟨lw_p63, fun _ h => absurd h List.not_mem_nil⟩⟩⟩⟩⟩⟩⟩⟩⟩⟩⟩⟩⟩⟩⟩⟩
theorem lw_p64 : lw_okq (⟨"LadderLotsModel", "pass", "()Z"⟩, 60) := ⟨⟨by decide +kernel, by decide +kernel⟩, lw_t5 (List.mem_of_getElem? (i := 205) rfl), lw_t6 (List.mem_of_getElem? (i := 220) rfl), lw_t6 (List.mem_of_getElem? (i := 221) rfl)⟩
theorem lw_p65 : lw_okq (⟨"LadderLotsModel", "takes", "(I)Z"⟩, 60) := ⟨⟨by decide +kernel, by decide +kernel⟩, lw_t5 (List.mem_of_getElem? (i := 205) rfl), lw_t6 (List.mem_of_getElem? (i := 224) rfl), lw_t6 (List.mem_of_getElem? (i := 225) rfl)⟩
theorem lw_p66 : lw_okq (⟨"LadderLotsModel", "takesSign", "(I)Z"⟩, 60) := ⟨⟨by decide +kernel, by decide +kernel⟩, lw_t5 (List.mem_of_getElem? (i := 205) rfl), lw_t6 (List.mem_of_getElem? (i := 228) rfl), lw_t6 (List.mem_of_getElem? (i := 229) rfl)⟩
theorem lw_p67 : lw_okq (⟨"LadderLotsModel", "isSign", "(I)Z"⟩, 60) := ⟨⟨by decide +kernel, by decide +kernel⟩, lw_t5 (List.mem_of_getElem? (i := 205) rfl), lw_t6 (List.mem_of_getElem? (i := 232) rfl), lw_t6 (List.mem_of_getElem? (i := 233) rfl)⟩
theorem lw_p68 : lw_okq (⟨"LadderLotsModel", "goesThrough", "()Z"⟩, 60) := ⟨⟨by decide +kernel, by decide +kernel⟩, lw_t5 (List.mem_of_getElem? (i := 205) rfl), lw_t6 (List.mem_of_getElem? (i := 236) rfl), lw_t6 (List.mem_of_getElem? (i := 237) rfl)⟩
theorem lw_p69 : lw_okq (⟨"LadderLotsModel", "opens", "()Z"⟩, 60) := ⟨⟨by decide +kernel, by decide +kernel⟩, lw_t5 (List.mem_of_getElem? (i := 205) rfl), lw_t7 (List.mem_of_getElem? (i := 0) rfl), lw_t7 (List.mem_of_getElem? (i := 1) rfl)⟩
theorem lw_p70 : lw_okq (⟨"LadderLotsModel", "tellAll", "()V"⟩, 60) := ⟨⟨by decide +kernel, by decide +kernel⟩, lw_t5 (List.mem_of_getElem? (i := 205) rfl), lw_t7 (List.mem_of_getElem? (i := 4) rfl), lw_t7 (List.mem_of_getElem? (i := 5) rfl)⟩
theorem lw_p71 : lw_okq (⟨"LadderLotsModel", "tells", "(II)V"⟩, 60) := ⟨⟨by decide +kernel, by decide +kernel⟩, lw_t5 (List.mem_of_getElem? (i := 205) rfl), lw_t7 (List.mem_of_getElem? (i := 8) rfl), lw_t7 (List.mem_of_getElem? (i := 9) rfl)⟩
theorem lw_p72 : lw_okq (⟨"LadderLotsModel", "shut", "()V"⟩, 60) := ⟨⟨by decide +kernel, by decide +kernel⟩, lw_t5 (List.mem_of_getElem? (i := 205) rfl), lw_t7 (List.mem_of_getElem? (i := 12) rfl), lw_t7 (List.mem_of_getElem? (i := 13) rfl)⟩
theorem lw_p73 : lw_okq (⟨"LadderLotsModel", "isLong", "()Z"⟩, 60) := ⟨⟨by decide +kernel, by decide +kernel⟩, lw_t5 (List.mem_of_getElem? (i := 205) rfl), lw_t7 (List.mem_of_getElem? (i := 16) rfl), lw_t7 (List.mem_of_getElem? (i := 17) rfl)⟩
theorem lw_p74 : lw_okq (⟨"LadderLotsModel", "put", "(IIII)V"⟩, 60) := ⟨⟨by decide +kernel, by decide +kernel⟩, lw_t5 (List.mem_of_getElem? (i := 205) rfl), lw_t7 (List.mem_of_getElem? (i := 20) rfl), lw_t7 (List.mem_of_getElem? (i := 21) rfl)⟩
theorem lw_p75 : lw_okq (⟨"LadderLotsModel", "tellPart", "()V"⟩, 60) := ⟨⟨by decide +kernel, by decide +kernel⟩, lw_t5 (List.mem_of_getElem? (i := 205) rfl), lw_t7 (List.mem_of_getElem? (i := 24) rfl), lw_t7 (List.mem_of_getElem? (i := 25) rfl)⟩
theorem lw_p76 : lw_okq (⟨"LadderLotsModel", "tellMaybe", "()V"⟩, 60) := ⟨⟨by decide +kernel, by decide +kernel⟩, lw_t5 (List.mem_of_getElem? (i := 205) rfl), lw_t7 (List.mem_of_getElem? (i := 28) rfl), lw_t7 (List.mem_of_getElem? (i := 29) rfl)⟩
theorem lw_p77 : lw_okq (⟨"LadderLotsModel", "checkLeg", "(I)V"⟩, 60) := ⟨⟨by decide +kernel, by decide +kernel⟩, lw_t5 (List.mem_of_getElem? (i := 205) rfl), lw_t7 (List.mem_of_getElem? (i := 32) rfl), lw_t7 (List.mem_of_getElem? (i := 33) rfl)⟩
theorem lw_p78 : lw_okq (⟨"LadderLotsModel", "tellUse", "()V"⟩, 60) := ⟨⟨by decide +kernel, by decide +kernel⟩, lw_t5 (List.mem_of_getElem? (i := 205) rfl), lw_t7 (List.mem_of_getElem? (i := 36) rfl), lw_t7 (List.mem_of_getElem? (i := 37) rfl)⟩
theorem lw_p79 : lw_okq (⟨"LadderLotsModel", "tellTimes", "()V"⟩, 60) := ⟨⟨by decide +kernel, by decide +kernel⟩, lw_t5 (List.mem_of_getElem? (i := 205) rfl), lw_t7 (List.mem_of_getElem? (i := 40) rfl), lw_t7 (List.mem_of_getElem? (i := 41) rfl)⟩
def lw_privs_5 : List (MethodName × Nat) := [(⟨"LadderLotsModel", "pass", "()Z"⟩, 60), (⟨"LadderLotsModel", "takes", "(I)Z"⟩, 60), (⟨"LadderLotsModel", "takesSign", "(I)Z"⟩, 60), (⟨"LadderLotsModel", "isSign", "(I)Z"⟩, 60), (⟨"LadderLotsModel", "goesThrough", "()Z"⟩, 60), (⟨"LadderLotsModel", "opens", "()Z"⟩, 60), (⟨"LadderLotsModel", "tellAll", "()V"⟩, 60), (⟨"LadderLotsModel", "tells", "(II)V"⟩, 60), (⟨"LadderLotsModel", "shut", "()V"⟩, 60), (⟨"LadderLotsModel", "isLong", "()Z"⟩, 60), (⟨"LadderLotsModel", "put", "(IIII)V"⟩, 60), (⟨"LadderLotsModel", "tellPart", "()V"⟩, 60), (⟨"LadderLotsModel", "tellMaybe", "()V"⟩, 60), (⟨"LadderLotsModel", "checkLeg", "(I)V"⟩, 60), (⟨"LadderLotsModel", "tellUse", "()V"⟩, 60), (⟨"LadderLotsModel", "tellTimes", "()V"⟩, 60)]
theorem lw_r5 : ∀ q ∈ lw_privs_5, lw_okq q := List.forall_mem_cons.mpr ⟨lw_p64, List.forall_mem_cons.mpr ⟨lw_p65, List.forall_mem_cons.mpr ⟨lw_p66, List.forall_mem_cons.mpr ⟨lw_p67, List.forall_mem_cons.mpr ⟨lw_p68, List.forall_mem_cons.mpr ⟨lw_p69, List.forall_mem_cons.mpr ⟨lw_p70, List.forall_mem_cons.mpr ⟨lw_p71, List.forall_mem_cons.mpr ⟨lw_p72, List.forall_mem_cons.mpr ⟨lw_p73, List.forall_mem_cons.mpr ⟨lw_p74, List.forall_mem_cons.mpr ⟨lw_p75, List.forall_mem_cons.mpr ⟨lw_p76, List.forall_mem_cons.mpr ⟨lw_p77, List.forall_mem_cons.mpr ⟨lw_p78, List.forall_mem_cons.mpr ⟨lw_p79, fun _ h => absurd h List.not_mem_nil⟩⟩⟩⟩⟩⟩⟩⟩⟩⟩⟩⟩⟩⟩⟩⟩
theorem lw_p80 : lw_okq (⟨"LadderLotsModel", "tellElement", "(I)V"⟩, 60) := ⟨⟨by decide +kernel, by decide +kernel⟩, lw_t5 (List.mem_of_getElem? (i := 205) rfl), lw_t7 (List.mem_of_getElem? (i := 44) rfl), lw_t7 (List.mem_of_getElem? (i := 45) rfl)⟩
theorem lw_p81 : lw_okq (⟨"LadderLotsModel", "begin", "(I)V"⟩, 60) := ⟨⟨by decide +kernel, by decide +kernel⟩, lw_t5 (List.mem_of_getElem? (i := 205) rfl), lw_t7 (List.mem_of_getElem? (i := 48) rfl), lw_t7 (List.mem_of_getElem? (i := 49) rfl)⟩
theorem lw_p82 : lw_okq (⟨"LadderLotsModel", "add", "(IIII)V"⟩, 60) := ⟨⟨by decide +kernel, by decide +kernel⟩, lw_t5 (List.mem_of_getElem? (i := 205) rfl), lw_t7 (List.mem_of_getElem? (i := 52) rfl), lw_t7 (List.mem_of_getElem? (i := 53) rfl)⟩
theorem lw_p83 : lw_okq (⟨"LadderLotsModel", "isLadder", "(I)Z"⟩, 60) := ⟨⟨by decide +kernel, by decide +kernel⟩, lw_t5 (List.mem_of_getElem? (i := 205) rfl), lw_t7 (List.mem_of_getElem? (i := 68) rfl), lw_t7 (List.mem_of_getElem? (i := 69) rfl)⟩
theorem lw_p84 : lw_okq (⟨"LadderLotsModel", "maybesOf", "(I)I"⟩, 60) := ⟨⟨by decide +kernel, by decide +kernel⟩, lw_t5 (List.mem_of_getElem? (i := 205) rfl), lw_t7 (List.mem_of_getElem? (i := 76) rfl), lw_t7 (List.mem_of_getElem? (i := 77) rfl)⟩
theorem lw_p85 : lw_okq (⟨"LadderLotsModel", "layer", "(I)I"⟩, 60) := ⟨⟨by decide +kernel, by decide +kernel⟩, lw_t5 (List.mem_of_getElem? (i := 205) rfl), lw_t7 (List.mem_of_getElem? (i := 98) rfl), lw_t7 (List.mem_of_getElem? (i := 99) rfl)⟩
theorem lw_p86 : lw_okq (⟨"LadderLotsModel", "isPlain", "(I)Z"⟩, 60) := ⟨⟨by decide +kernel, by decide +kernel⟩, lw_t5 (List.mem_of_getElem? (i := 205) rfl), lw_t7 (List.mem_of_getElem? (i := 102) rfl), lw_t7 (List.mem_of_getElem? (i := 103) rfl)⟩
theorem lw_p87 : lw_okq (⟨"LadderLotsModel", "isOrder", "(II)Z"⟩, 60) := ⟨⟨by decide +kernel, by decide +kernel⟩, lw_t5 (List.mem_of_getElem? (i := 205) rfl), lw_t7 (List.mem_of_getElem? (i := 114) rfl), lw_t7 (List.mem_of_getElem? (i := 115) rfl)⟩
theorem lw_p88 : lw_okq (⟨"LadderLotsModel", "lay", "(I)V"⟩, 60) := ⟨⟨by decide +kernel, by decide +kernel⟩, lw_t5 (List.mem_of_getElem? (i := 205) rfl), lw_t7 (List.mem_of_getElem? (i := 121) rfl), lw_t7 (List.mem_of_getElem? (i := 122) rfl)⟩
theorem lw_p89 : lw_okq (⟨"LadderLotsModel", "goOn", "(I)V"⟩, 60) := ⟨⟨by decide +kernel, by decide +kernel⟩, lw_t5 (List.mem_of_getElem? (i := 205) rfl), lw_t7 (List.mem_of_getElem? (i := 125) rfl), lw_t7 (List.mem_of_getElem? (i := 126) rfl)⟩
theorem lw_p90 : lw_okq (⟨"LadderLotsModel", "swapHand", "(II)V"⟩, 60) := ⟨⟨by decide +kernel, by decide +kernel⟩, lw_t5 (List.mem_of_getElem? (i := 205) rfl), lw_t7 (List.mem_of_getElem? (i := 129) rfl), lw_t7 (List.mem_of_getElem? (i := 130) rfl)⟩
theorem lw_p91 : lw_okq (⟨"LadderLotsModel", "takeOrder", "(II)V"⟩, 60) := ⟨⟨by decide +kernel, by decide +kernel⟩, lw_t5 (List.mem_of_getElem? (i := 205) rfl), lw_t7 (List.mem_of_getElem? (i := 133) rfl), lw_t7 (List.mem_of_getElem? (i := 134) rfl)⟩
theorem lw_p92 : lw_okq (⟨"LadderLotsModel", "numberOf", "(I)I"⟩, 60) := ⟨⟨by decide +kernel, by decide +kernel⟩, lw_t5 (List.mem_of_getElem? (i := 205) rfl), lw_t7 (List.mem_of_getElem? (i := 137) rfl), lw_t7 (List.mem_of_getElem? (i := 138) rfl)⟩
theorem lw_p93 : lw_okq (⟨"LadderLotsModel", "placeOf", "(III)I"⟩, 60) := ⟨⟨by decide +kernel, by decide +kernel⟩, lw_t5 (List.mem_of_getElem? (i := 205) rfl), lw_t7 (List.mem_of_getElem? (i := 141) rfl), lw_t7 (List.mem_of_getElem? (i := 142) rfl)⟩
theorem lw_p94 : lw_okq (⟨"LadderLotsModel", "isNearer", "(III)Z"⟩, 60) := ⟨⟨by decide +kernel, by decide +kernel⟩, lw_t5 (List.mem_of_getElem? (i := 205) rfl), lw_t7 (List.mem_of_getElem? (i := 145) rfl), lw_t7 (List.mem_of_getElem? (i := 146) rfl)⟩
theorem lw_p95 : lw_okq (⟨"LadderLotsModel", "isDown", "(III)Z"⟩, 60) := ⟨⟨by decide +kernel, by decide +kernel⟩, lw_t5 (List.mem_of_getElem? (i := 205) rfl), lw_t7 (List.mem_of_getElem? (i := 153) rfl), lw_t7 (List.mem_of_getElem? (i := 154) rfl)⟩
def lw_privs_6 : List (MethodName × Nat) := [(⟨"LadderLotsModel", "tellElement", "(I)V"⟩, 60), (⟨"LadderLotsModel", "begin", "(I)V"⟩, 60), (⟨"LadderLotsModel", "add", "(IIII)V"⟩, 60), (⟨"LadderLotsModel", "isLadder", "(I)Z"⟩, 60), (⟨"LadderLotsModel", "maybesOf", "(I)I"⟩, 60), (⟨"LadderLotsModel", "layer", "(I)I"⟩, 60), (⟨"LadderLotsModel", "isPlain", "(I)Z"⟩, 60), (⟨"LadderLotsModel", "isOrder", "(II)Z"⟩, 60), (⟨"LadderLotsModel", "lay", "(I)V"⟩, 60), (⟨"LadderLotsModel", "goOn", "(I)V"⟩, 60), (⟨"LadderLotsModel", "swapHand", "(II)V"⟩, 60), (⟨"LadderLotsModel", "takeOrder", "(II)V"⟩, 60), (⟨"LadderLotsModel", "numberOf", "(I)I"⟩, 60), (⟨"LadderLotsModel", "placeOf", "(III)I"⟩, 60), (⟨"LadderLotsModel", "isNearer", "(III)Z"⟩, 60), (⟨"LadderLotsModel", "isDown", "(III)Z"⟩, 60)]
theorem lw_r6 : ∀ q ∈ lw_privs_6, lw_okq q := List.forall_mem_cons.mpr ⟨lw_p80, List.forall_mem_cons.mpr ⟨lw_p81, List.forall_mem_cons.mpr ⟨lw_p82, List.forall_mem_cons.mpr ⟨lw_p83, List.forall_mem_cons.mpr ⟨lw_p84, List.forall_mem_cons.mpr ⟨lw_p85, List.forall_mem_cons.mpr ⟨lw_p86, List.forall_mem_cons.mpr ⟨lw_p87, List.forall_mem_cons.mpr ⟨lw_p88, List.forall_mem_cons.mpr ⟨lw_p89, List.forall_mem_cons.mpr ⟨lw_p90, List.forall_mem_cons.mpr ⟨lw_p91, List.forall_mem_cons.mpr ⟨lw_p92, List.forall_mem_cons.mpr ⟨lw_p93, List.forall_mem_cons.mpr ⟨lw_p94, List.forall_mem_cons.mpr ⟨lw_p95, fun _ h => absurd h List.not_mem_nil⟩⟩⟩⟩⟩⟩⟩⟩⟩⟩⟩⟩⟩⟩⟩⟩
theorem lw_p96 : lw_okq (⟨"LadderLotsModel", "endOf", "(IIII)I"⟩, 60) := ⟨⟨by decide +kernel, by decide +kernel⟩, lw_t5 (List.mem_of_getElem? (i := 205) rfl), lw_t7 (List.mem_of_getElem? (i := 157) rfl), lw_t7 (List.mem_of_getElem? (i := 158) rfl)⟩
theorem lw_p97 : lw_okq (⟨"LadderLotsModel", "passed", "(IIIZ)I"⟩, 60) := ⟨⟨by decide +kernel, by decide +kernel⟩, lw_t5 (List.mem_of_getElem? (i := 205) rfl), lw_t7 (List.mem_of_getElem? (i := 161) rfl), lw_t7 (List.mem_of_getElem? (i := 162) rfl)⟩
theorem lw_p98 : lw_okq (⟨"LadderLotsModel", "unrank", "(IIJ)V"⟩, 60) := ⟨⟨by decide +kernel, by decide +kernel⟩, lw_t5 (List.mem_of_getElem? (i := 205) rfl), lw_t7 (List.mem_of_getElem? (i := 182) rfl), lw_t7 (List.mem_of_getElem? (i := 183) rfl)⟩
theorem lw_p99 : lw_okq (⟨"LadderLotsModel", "rankOf", "(II)J"⟩, 60) := ⟨⟨by decide +kernel, by decide +kernel⟩, lw_t5 (List.mem_of_getElem? (i := 205) rfl), lw_t7 (List.mem_of_getElem? (i := 191) rfl), lw_t7 (List.mem_of_getElem? (i := 192) rfl)⟩
theorem lw_p100 : lw_okq (⟨"LadderLotsModel", "clears", "(I)V"⟩, 60) := ⟨⟨by decide +kernel, by decide +kernel⟩, lw_t5 (List.mem_of_getElem? (i := 205) rfl), lw_t7 (List.mem_of_getElem? (i := 199) rfl), lw_t7 (List.mem_of_getElem? (i := 200) rfl)⟩
theorem lw_p101 : lw_okq (⟨"LadderLotsModel", "clearsOne", "(I)Z"⟩, 60) := ⟨⟨by decide +kernel, by decide +kernel⟩, lw_t5 (List.mem_of_getElem? (i := 205) rfl), lw_t7 (List.mem_of_getElem? (i := 203) rfl), lw_t7 (List.mem_of_getElem? (i := 204) rfl)⟩
theorem lw_p102 : lw_okq (⟨"LadderLotsModel", "steps", "(IIIII)I"⟩, 60) := ⟨⟨by decide +kernel, by decide +kernel⟩, lw_t5 (List.mem_of_getElem? (i := 205) rfl), lw_t7 (List.mem_of_getElem? (i := 215) rfl), lw_t7 (List.mem_of_getElem? (i := 216) rfl)⟩
theorem lw_p103 : lw_okq (⟨"LadderLotsModel", "graph", "(II)V"⟩, 60) := ⟨⟨by decide +kernel, by decide +kernel⟩, lw_t5 (List.mem_of_getElem? (i := 205) rfl), lw_t7 (List.mem_of_getElem? (i := 220) rfl), lw_t7 (List.mem_of_getElem? (i := 221) rfl)⟩
theorem lw_p104 : lw_okq (⟨"LadderLotsModel", "distances", "(III)V"⟩, 60) := ⟨⟨by decide +kernel, by decide +kernel⟩, lw_t5 (List.mem_of_getElem? (i := 205) rfl), lw_t7 (List.mem_of_getElem? (i := 227) rfl), lw_t7 (List.mem_of_getElem? (i := 228) rfl)⟩
theorem lw_p105 : lw_okq (⟨"LadderLotsModel", "isNumber", "(II)Z"⟩, 60) := ⟨⟨by decide +kernel, by decide +kernel⟩, lw_t5 (List.mem_of_getElem? (i := 205) rfl), lw_t8 (List.mem_of_getElem? (i := 7) rfl), lw_t8 (List.mem_of_getElem? (i := 8) rfl)⟩
theorem lw_p106 : lw_okq (⟨"LadderLotsModel", "spread", "(II)V"⟩, 60) := ⟨⟨by decide +kernel, by decide +kernel⟩, lw_t5 (List.mem_of_getElem? (i := 205) rfl), lw_t8 (List.mem_of_getElem? (i := 11) rfl), lw_t8 (List.mem_of_getElem? (i := 12) rfl)⟩
theorem lw_p107 : lw_okq (⟨"LadderLotsModel", "isKnown", "(II)Z"⟩, 60) := ⟨⟨by decide +kernel, by decide +kernel⟩, lw_t5 (List.mem_of_getElem? (i := 205) rfl), lw_t8 (List.mem_of_getElem? (i := 35) rfl), lw_t8 (List.mem_of_getElem? (i := 36) rfl)⟩
theorem lw_p108 : lw_okq (⟨"LadderLotsModel", "fit", "(II)J"⟩, 60) := ⟨⟨by decide +kernel, by decide +kernel⟩, lw_t5 (List.mem_of_getElem? (i := 205) rfl), lw_t8 (List.mem_of_getElem? (i := 39) rfl), lw_t8 (List.mem_of_getElem? (i := 40) rfl)⟩
theorem lw_p109 : lw_okq (⟨"LadderLotsModel", "isFit", "(III)Z"⟩, 60) := ⟨⟨by decide +kernel, by decide +kernel⟩, lw_t5 (List.mem_of_getElem? (i := 205) rfl), lw_t8 (List.mem_of_getElem? (i := 43) rfl), lw_t8 (List.mem_of_getElem? (i := 44) rfl)⟩
theorem lw_p110 : lw_okq (⟨"LadderLotsModel", "isVoid", "(II)Z"⟩, 60) := ⟨⟨by decide +kernel, by decide +kernel⟩, lw_t5 (List.mem_of_getElem? (i := 205) rfl), lw_t8 (List.mem_of_getElem? (i := 47) rfl), lw_t8 (List.mem_of_getElem? (i := 48) rfl)⟩
theorem lw_p111 : lw_okq (⟨"LadderLotsModel", "likelyOf", "(II)J"⟩, 60) := ⟨⟨by decide +kernel, by decide +kernel⟩, lw_t5 (List.mem_of_getElem? (i := 205) rfl), lw_t8 (List.mem_of_getElem? (i := 55) rfl), lw_t8 (List.mem_of_getElem? (i := 56) rfl)⟩
def lw_privs_7 : List (MethodName × Nat) := [(⟨"LadderLotsModel", "endOf", "(IIII)I"⟩, 60), (⟨"LadderLotsModel", "passed", "(IIIZ)I"⟩, 60), (⟨"LadderLotsModel", "unrank", "(IIJ)V"⟩, 60), (⟨"LadderLotsModel", "rankOf", "(II)J"⟩, 60), (⟨"LadderLotsModel", "clears", "(I)V"⟩, 60), (⟨"LadderLotsModel", "clearsOne", "(I)Z"⟩, 60), (⟨"LadderLotsModel", "steps", "(IIIII)I"⟩, 60), (⟨"LadderLotsModel", "graph", "(II)V"⟩, 60), (⟨"LadderLotsModel", "distances", "(III)V"⟩, 60), (⟨"LadderLotsModel", "isNumber", "(II)Z"⟩, 60), (⟨"LadderLotsModel", "spread", "(II)V"⟩, 60), (⟨"LadderLotsModel", "isKnown", "(II)Z"⟩, 60), (⟨"LadderLotsModel", "fit", "(II)J"⟩, 60), (⟨"LadderLotsModel", "isFit", "(III)Z"⟩, 60), (⟨"LadderLotsModel", "isVoid", "(II)Z"⟩, 60), (⟨"LadderLotsModel", "likelyOf", "(II)J"⟩, 60)]
theorem lw_r7 : ∀ q ∈ lw_privs_7, lw_okq q := List.forall_mem_cons.mpr ⟨lw_p96, List.forall_mem_cons.mpr ⟨lw_p97, List.forall_mem_cons.mpr ⟨lw_p98, List.forall_mem_cons.mpr ⟨lw_p99, List.forall_mem_cons.mpr ⟨lw_p100, List.forall_mem_cons.mpr ⟨lw_p101, List.forall_mem_cons.mpr ⟨lw_p102, List.forall_mem_cons.mpr ⟨lw_p103, List.forall_mem_cons.mpr ⟨lw_p104, List.forall_mem_cons.mpr ⟨lw_p105, List.forall_mem_cons.mpr ⟨lw_p106, List.forall_mem_cons.mpr ⟨lw_p107, List.forall_mem_cons.mpr ⟨lw_p108, List.forall_mem_cons.mpr ⟨lw_p109, List.forall_mem_cons.mpr ⟨lw_p110, List.forall_mem_cons.mpr ⟨lw_p111, fun _ h => absurd h List.not_mem_nil⟩⟩⟩⟩⟩⟩⟩⟩⟩⟩⟩⟩⟩⟩⟩⟩
theorem lw_p112 : lw_okq (⟨"LadderLotsModel", "needs", "(II)V"⟩, 60) := ⟨⟨by decide +kernel, by decide +kernel⟩, lw_t5 (List.mem_of_getElem? (i := 205) rfl), lw_t8 (List.mem_of_getElem? (i := 67) rfl), lw_t8 (List.mem_of_getElem? (i := 68) rfl)⟩
theorem lw_p113 : lw_okq (⟨"LadderLotsModel", "relax", "(I)V"⟩, 60) := ⟨⟨by decide +kernel, by decide +kernel⟩, lw_t5 (List.mem_of_getElem? (i := 205) rfl), lw_t8 (List.mem_of_getElem? (i := 83) rfl), lw_t8 (List.mem_of_getElem? (i := 84) rfl)⟩
theorem lw_p114 : lw_okq (⟨"LadderLotsModel", "unsortedBut", "(II)I"⟩, 60) := ⟨⟨by decide +kernel, by decide +kernel⟩, lw_t5 (List.mem_of_getElem? (i := 205) rfl), lw_t8 (List.mem_of_getElem? (i := 91) rfl), lw_t8 (List.mem_of_getElem? (i := 92) rfl)⟩
theorem lw_p115 : lw_okq (⟨"LadderLotsModel", "bitsEnd", "(II)I"⟩, 60) := ⟨⟨by decide +kernel, by decide +kernel⟩, lw_t5 (List.mem_of_getElem? (i := 205) rfl), lw_t8 (List.mem_of_getElem? (i := 103) rfl), lw_t8 (List.mem_of_getElem? (i := 104) rfl)⟩
theorem lw_p116 : lw_okq (⟨"LadderLotsModel", "mending", "(I)I"⟩, 60) := ⟨⟨by decide +kernel, by decide +kernel⟩, lw_t5 (List.mem_of_getElem? (i := 205) rfl), lw_t8 (List.mem_of_getElem? (i := 129) rfl), lw_t8 (List.mem_of_getElem? (i := 130) rfl)⟩
theorem lw_p117 : lw_okq (⟨"LadderLotsModel", "mends", "(II)Z"⟩, 60) := ⟨⟨by decide +kernel, by decide +kernel⟩, lw_t5 (List.mem_of_getElem? (i := 205) rfl), lw_t8 (List.mem_of_getElem? (i := 133) rfl), lw_t8 (List.mem_of_getElem? (i := 134) rfl)⟩
def lw_privs_8 : List (MethodName × Nat) := [(⟨"LadderLotsModel", "needs", "(II)V"⟩, 60), (⟨"LadderLotsModel", "relax", "(I)V"⟩, 60), (⟨"LadderLotsModel", "unsortedBut", "(II)I"⟩, 60), (⟨"LadderLotsModel", "bitsEnd", "(II)I"⟩, 60), (⟨"LadderLotsModel", "mending", "(I)I"⟩, 60), (⟨"LadderLotsModel", "mends", "(II)Z"⟩, 60)]
theorem lw_r8 : ∀ q ∈ lw_privs_8, lw_okq q := List.forall_mem_cons.mpr ⟨lw_p112, List.forall_mem_cons.mpr ⟨lw_p113, List.forall_mem_cons.mpr ⟨lw_p114, List.forall_mem_cons.mpr ⟨lw_p115, List.forall_mem_cons.mpr ⟨lw_p116, List.forall_mem_cons.mpr ⟨lw_p117, fun _ h => absurd h List.not_mem_nil⟩⟩⟩⟩⟩⟩
def lw_privs : List (MethodName × Nat) := lw_privs_1 ++ (lw_privs_2 ++ (lw_privs_3 ++ (lw_privs_4 ++ (lw_privs_5 ++ (lw_privs_6 ++ (lw_privs_7 ++ (lw_privs_8)))))))
def lw_tbl : List Cond := k2_sels lw_privs ++ tables_1
theorem lw_privs_ok : ∀ q ∈ lw_privs, lw_okq q := by
  show ∀ q ∈ lw_privs_1 ++ (lw_privs_2 ++ (lw_privs_3 ++ (lw_privs_4 ++ (lw_privs_5 ++ (lw_privs_6 ++ (lw_privs_7 ++ (lw_privs_8))))))), lw_okq q
  exact List.forall_mem_append.mpr ⟨lw_r1, List.forall_mem_append.mpr ⟨lw_r2, List.forall_mem_append.mpr ⟨lw_r3, List.forall_mem_append.mpr ⟨lw_r4, List.forall_mem_append.mpr ⟨lw_r5, List.forall_mem_append.mpr ⟨lw_r6, List.forall_mem_append.mpr ⟨lw_r7, lw_r8⟩⟩⟩⟩⟩⟩⟩
-- ===== ONE list of words for every method: the tables' words that hold all through a run =====
def lw_all : List Cond := lw_tbl.filter goodWord
/-- a word of the tables by its place: claim/WORDS.tsv -/
theorem lw_w {w : Cond} (i : Nat) (h : lw_tbl[i]? = some w) (g : goodWord w = true) : w ∈ lw_all := List.mem_filter.mpr ⟨List.mem_of_getElem? h, g⟩
theorem lw_all_tbl {w : Cond} (h : w ∈ lw_all) : w ∈ lw_tbl := (List.mem_filter.mp h).1
theorem lw_self : GoodIn lw_all lw_all := fun w h => ⟨h, good_of_word (List.mem_filter.mp h).2⟩
/-- a class's field words, by their places -/
theorem lw_in (ws : List Cond) (ps : List Nat) (hp : ws = ps.filterMap (fun i => lw_tbl[i]?)) (hg : ws.all goodWord = true) : ∀ w ∈ ws, w ∈ lw_all := by
  intro w h
  have h1 := List.all_eq_true.mp hg w h
  rw [hp] at h
  obtain ⟨i, -, hi⟩ := List.mem_filterMap.mp h
  exact lw_w i hi h1
/-- the words of a contract for the method y with code b, L locals, answer r -/
abbrev ws_ (y : MethodName) (b : ByteArray) (L : Nat) (r : Option FieldType) : List Cond := Cond.code y b L r :: lw_all
theorem lw_meth {y : MethodName} {b : ByteArray} {L : Nat} {r : Option FieldType} (h : Cond.code y b L r ∈ lw_all) : GoodIn lw_all (ws_ y b L r) := by
  intro w hw
  rcases List.mem_cons.mp hw with e | e
  · rw [e]
    exact lw_self _ h
  · exact lw_self _ e
theorem lw_app {a c : List Cond} (ha : ∀ w ∈ a, w ∈ lw_all) (hc : GoodIn lw_all c) : GoodIn lw_all (a ++ c) := by
  intro w hw
  rcases List.mem_append.mp hw with e | e
  · exact lw_self w (ha w e)
  · exact hc w e
/-- what a call through an object asks: cwV n hts (lw_V ..) -/
theorem lw_V {own : String} {idx : Nat} {C : String} {y : MethodName} {b : ByteArray} {L : Nat} {r : Option FieldType} (h1 : Cond.methodLink own idx y ∈ lw_all) (h2 : Cond.instanceMethod y ∈ lw_all) (h3 : Cond.selects C y y ∈ lw_all) (h4 : Cond.initialized C ∈ lw_all) (h5 : Cond.code y b L r ∈ lw_all) : GoodIn lw_all (wsV own idx C y (ws_ y b L r)) := by
  refine lw_app ?_ (lw_meth h5)
  intro w hw
  simp only [List.mem_cons, List.not_mem_nil, or_false] at hw
  rcases hw with e | e | e | e
  · rw [e]; exact h1
  · rw [e]; exact h2
  · rw [e]; exact h3
  · rw [e]; exact h4
/-- what a static call asks: va_cwS n hts (lw_S ..) -/
theorem lw_S {own : String} {idx : Nat} {y : MethodName} {b : ByteArray} {L : Nat} {r : Option FieldType} (h1 : Cond.methodLink own idx y ∈ lw_all) (h2 : Cond.static y ∈ lw_all) (h3 : Cond.initialized y.cls ∈ lw_all) (h4 : Cond.code y b L r ∈ lw_all) : GoodIn lw_all (va_wsS own idx y (ws_ y b L r)) := by
  refine lw_app ?_ (lw_meth h4)
  intro w hw
  simp only [List.mem_cons, List.not_mem_nil, or_false] at hw
  rcases hw with e | e | e
  · rw [e]; exact h1
  · rw [e]; exact h2
  · rw [e]; exact h3
/-- the words of a contract for a method WITH HANDLERS (hh: its table) -/
abbrev wsW_ (y : MethodName) (b : ByteArray) (L : Nat) (r : Option FieldType) (hh : List (Nat × Nat × Nat × Nat)) : List Cond := Cond.codeWith y b L r hh :: lw_all
theorem lw_methW {y : MethodName} {b : ByteArray} {L : Nat} {r : Option FieldType} {hh : List (Nat × Nat × Nat × Nat)} (h : Cond.codeWith y b L r hh ∈ lw_all) : GoodIn lw_all (wsW_ y b L r hh) := by
  intro w hw
  rcases List.mem_cons.mp hw with e | e
  · rw [e]
    exact lw_self _ h
  · exact lw_self _ e
/-- any list of words by their places (lw_in), good -/
theorem lw_good {ws : List Cond} (h : ∀ w ∈ ws, w ∈ lw_all) : GoodIn lw_all ws := fun w hw => lw_self w (h w hw)
/-- what a call of a method with handlers asks: vx_cwVW n hts (lw_VW ..), vx_cwSW n hts (lw_SW ..) -/
theorem lw_VW {own : String} {idx : Nat} {C : String} {y : MethodName} {b : ByteArray} {L : Nat} {r : Option FieldType} {hh : List (Nat × Nat × Nat × Nat)} (h1 : Cond.methodLink own idx y ∈ lw_all) (h2 : Cond.instanceMethod y ∈ lw_all) (h3 : Cond.selects C y y ∈ lw_all) (h4 : Cond.initialized C ∈ lw_all) (h5 : Cond.codeWith y b L r hh ∈ lw_all) : GoodIn lw_all (wsV own idx C y (wsW_ y b L r hh)) := by
  refine lw_app ?_ (lw_methW h5)
  intro w hw
  simp only [List.mem_cons, List.not_mem_nil, or_false] at hw
  rcases hw with e | e | e | e
  · rw [e]; exact h1
  · rw [e]; exact h2
  · rw [e]; exact h3
  · rw [e]; exact h4
theorem lw_SW {own : String} {idx : Nat} {y : MethodName} {b : ByteArray} {L : Nat} {r : Option FieldType} {hh : List (Nat × Nat × Nat × Nat)} (h1 : Cond.methodLink own idx y ∈ lw_all) (h2 : Cond.static y ∈ lw_all) (h3 : Cond.initialized y.cls ∈ lw_all) (h4 : Cond.codeWith y b L r hh ∈ lw_all) : GoodIn lw_all (va_wsS own idx y (wsW_ y b L r hh)) := by
  refine lw_app ?_ (lw_methW h4)
  intro w hw
  simp only [List.mem_cons, List.not_mem_nil, or_false] at hw
  rcases hw with e | e | e
  · rw [e]; exact h1
  · rw [e]; exact h2
  · rw [e]; exact h3
/-- a word by its place in its run of the tables -/
theorem lw_at {r : List Cond} (hr : ∀ w ∈ r, w ∈ lw_tbl) {w : Cond} (i : Nat) (h : r[i]? = some w) : w ∈ lw_tbl := hr w (List.mem_of_getElem? h)
theorem lw_g {w : Cond} (h : w ∈ lw_tbl) (g : goodWord w = true) : w ∈ lw_all := List.mem_filter.mpr ⟨h, g⟩
theorem lw_ms : ∀ w ∈ k2_sels lw_privs, w ∈ lw_tbl := fun w h => show w ∈ k2_sels lw_privs ++ tables_1 from List.mem_append_left _ h
theorem lw_m1 : ∀ w ∈ tables_1_1, w ∈ lw_tbl := fun w h => show w ∈ k2_sels lw_privs ++ tables_1 from List.mem_append_right (k2_sels lw_privs) (show w ∈ tables_1 from List.mem_append_left _ h)
theorem lw_m2 : ∀ w ∈ tables_1_2, w ∈ lw_tbl := fun w h => show w ∈ k2_sels lw_privs ++ tables_1 from List.mem_append_right (k2_sels lw_privs) (show w ∈ tables_1 from List.mem_append_right _ (List.mem_append_left _ h))
theorem lw_m3 : ∀ w ∈ tables_1_3, w ∈ lw_tbl := fun w h => show w ∈ k2_sels lw_privs ++ tables_1 from List.mem_append_right (k2_sels lw_privs) (show w ∈ tables_1 from List.mem_append_right _ (List.mem_append_right _ (List.mem_append_left _ h)))
theorem lw_m4 : ∀ w ∈ tables_1_4, w ∈ lw_tbl := fun w h => show w ∈ k2_sels lw_privs ++ tables_1 from List.mem_append_right (k2_sels lw_privs) (show w ∈ tables_1 from List.mem_append_right _ (List.mem_append_right _ (List.mem_append_right _ (List.mem_append_left _ h))))
theorem lw_m5 : ∀ w ∈ tables_1_5, w ∈ lw_tbl := fun w h => show w ∈ k2_sels lw_privs ++ tables_1 from List.mem_append_right (k2_sels lw_privs) (show w ∈ tables_1 from List.mem_append_right _ (List.mem_append_right _ (List.mem_append_right _ (List.mem_append_right _ (List.mem_append_left _ h)))))
theorem lw_m6 : ∀ w ∈ tables_1_6, w ∈ lw_tbl := fun w h => show w ∈ k2_sels lw_privs ++ tables_1 from List.mem_append_right (k2_sels lw_privs) (show w ∈ tables_1 from List.mem_append_right _ (List.mem_append_right _ (List.mem_append_right _ (List.mem_append_right _ (List.mem_append_right _ (List.mem_append_left _ h))))))
theorem lw_m7 : ∀ w ∈ tables_1_7, w ∈ lw_tbl := fun w h => show w ∈ k2_sels lw_privs ++ tables_1 from List.mem_append_right (k2_sels lw_privs) (show w ∈ tables_1 from List.mem_append_right _ (List.mem_append_right _ (List.mem_append_right _ (List.mem_append_right _ (List.mem_append_right _ (List.mem_append_right _ (List.mem_append_left _ h)))))))
theorem lw_m8 : ∀ w ∈ tables_1_8, w ∈ lw_tbl := fun w h => show w ∈ k2_sels lw_privs ++ tables_1 from List.mem_append_right (k2_sels lw_privs) (show w ∈ tables_1 from List.mem_append_right _ (List.mem_append_right _ (List.mem_append_right _ (List.mem_append_right _ (List.mem_append_right _ (List.mem_append_right _ (List.mem_append_right _ h)))))))
theorem qs0 : (Cond.selects "LadderLots" ⟨"LadderLots", "isOrder", "(II)Z"⟩ ⟨"LadderLots", "isOrder", "(II)Z"⟩) ∈ lw_all := lw_g (lw_at lw_ms 0 rfl) rfl
theorem qs1 : (Cond.selects "LadderLots$Orders" ⟨"LadderLots$Orders", "next", "()V"⟩ ⟨"LadderLots$Orders", "next", "()V"⟩) ∈ lw_all := lw_g (lw_at lw_ms 1 rfl) rfl
theorem qs2 : (Cond.selects "LadderLots$Orders" ⟨"LadderLots$Orders", "swap", "(II)V"⟩ ⟨"LadderLots$Orders", "swap", "(II)V"⟩) ∈ lw_all := lw_g (lw_at lw_ms 2 rfl) rfl
theorem qs3 : (Cond.selects "LadderLots$Orders" ⟨"LadderLots$Orders", "swapped", "(II)I"⟩ ⟨"LadderLots$Orders", "swapped", "(II)I"⟩) ∈ lw_all := lw_g (lw_at lw_ms 3 rfl) rfl
theorem qs4 : (Cond.selects "LadderLots" ⟨"LadderLots", "leastsFrom", "(I)J"⟩ ⟨"LadderLots", "leastsFrom", "(I)J"⟩) ∈ lw_all := lw_g (lw_at lw_ms 4 rfl) rfl
theorem qs5 : (Cond.selects "LadderLots" ⟨"LadderLots", "unranks", "(IJ)V"⟩ ⟨"LadderLots", "unranks", "(IJ)V"⟩) ∈ lw_all := lw_g (lw_at lw_ms 5 rfl) rfl
theorem qs6 : (Cond.selects "LadderLots" ⟨"LadderLots", "led", "(IIIII)I"⟩ ⟨"LadderLots", "led", "(IIIII)I"⟩) ∈ lw_all := lw_g (lw_at lw_ms 6 rfl) rfl
theorem qs7 : (Cond.selects "LadderLots" ⟨"LadderLots", "laysWords", "(I)Z"⟩ ⟨"LadderLots", "laysWords", "(I)Z"⟩) ∈ lw_all := lw_g (lw_at lw_ms 7 rfl) rfl
theorem qs8 : (Cond.selects "LadderLots" ⟨"LadderLots", "goesFrom", "(III)V"⟩ ⟨"LadderLots", "goesFrom", "(III)V"⟩) ∈ lw_all := lw_g (lw_at lw_ms 8 rfl) rfl
theorem qs9 : (Cond.selects "LadderLots" ⟨"LadderLots", "ledAt", "(IIIIZ)I"⟩ ⟨"LadderLots", "ledAt", "(IIIIZ)I"⟩) ∈ lw_all := lw_g (lw_at lw_ms 9 rfl) rfl
theorem qs10 : (Cond.selects "LadderLots" ⟨"LadderLots", "ranked", "(I)J"⟩ ⟨"LadderLots", "ranked", "(I)J"⟩) ∈ lw_all := lw_g (lw_at lw_ms 10 rfl) rfl
theorem qs11 : (Cond.selects "LadderLots" ⟨"LadderLots", "comesBy", "(II)V"⟩ ⟨"LadderLots", "comesBy", "(II)V"⟩) ∈ lw_all := lw_g (lw_at lw_ms 11 rfl) rfl
theorem qs12 : (Cond.selects "LadderLots$Scanner" ⟨"LadderLots$Scanner", "put", "(I)V"⟩ ⟨"LadderLots$Scanner", "put", "(I)V"⟩) ∈ lw_all := lw_g (lw_at lw_ms 12 rfl) rfl
theorem qs13 : (Cond.selects "LadderLots$Scanner" ⟨"LadderLots$Scanner", "add", "(IIJ)V"⟩ ⟨"LadderLots$Scanner", "add", "(IIJ)V"⟩) ∈ lw_all := lw_g (lw_at lw_ms 13 rfl) rfl
theorem qs14 : (Cond.selects "LadderLots$Scanner" ⟨"LadderLots$Scanner", "word", "(I)I"⟩ ⟨"LadderLots$Scanner", "word", "(I)I"⟩) ∈ lw_all := lw_g (lw_at lw_ms 14 rfl) rfl
theorem qs15 : (Cond.selects "LadderLots$Scanner" ⟨"LadderLots$Scanner", "byteAt", "(I)I"⟩ ⟨"LadderLots$Scanner", "byteAt", "(I)I"⟩) ∈ lw_all := lw_g (lw_at lw_ms 15 rfl) rfl
theorem qs16 : (Cond.selects "LadderLots$Scanner" ⟨"LadderLots$Scanner", "is", "(Ljava/lang/String;II)Z"⟩ ⟨"LadderLots$Scanner", "is", "(Ljava/lang/String;II)Z"⟩) ∈ lw_all := lw_g (lw_at lw_ms 16 rfl) rfl
theorem qs17 : (Cond.selects "LadderLots$Scanner" ⟨"LadderLots$Scanner", "number", "(I)I"⟩ ⟨"LadderLots$Scanner", "number", "(I)I"⟩) ∈ lw_all := lw_g (lw_at lw_ms 17 rfl) rfl
theorem qs18 : (Cond.selects "LadderLots$Scanner" ⟨"LadderLots$Scanner", "sign", "(I)I"⟩ ⟨"LadderLots$Scanner", "sign", "(I)I"⟩) ∈ lw_all := lw_g (lw_at lw_ms 18 rfl) rfl
theorem qs19 : (Cond.selects "LadderLots$Reader" ⟨"LadderLots$Reader", "must", "(I)I"⟩ ⟨"LadderLots$Reader", "must", "(I)I"⟩) ∈ lw_all := lw_g (lw_at lw_ms 19 rfl) rfl
theorem qs20 : (Cond.selects "LadderLots$Reader" ⟨"LadderLots$Reader", "is", "(I)Z"⟩ ⟨"LadderLots$Reader", "is", "(I)Z"⟩) ∈ lw_all := lw_g (lw_at lw_ms 20 rfl) rfl
theorem qs21 : (Cond.selects "LadderLots$Reader" ⟨"LadderLots$Reader", "fault", "(I)LLadderLots$Fault;"⟩ ⟨"LadderLots$Reader", "fault", "(I)LLadderLots$Fault;"⟩) ∈ lw_all := lw_g (lw_at lw_ms 21 rfl) rfl
theorem qs22 : (Cond.selects "java/lang/Throwable" ⟨"java/lang/Throwable", "fillInStackTrace", "(I)Ljava/lang/Throwable;"⟩ ⟨"java/lang/Throwable", "fillInStackTrace", "(I)Ljava/lang/Throwable;"⟩) ∈ lw_all := lw_g (lw_at lw_ms 22 rfl) rfl
theorem qs23 : (Cond.selects "LadderLots$Reader" ⟨"LadderLots$Reader", "go", "()I"⟩ ⟨"LadderLots$Reader", "go", "()I"⟩) ∈ lw_all := lw_g (lw_at lw_ms 23 rfl) rfl
theorem qs24 : (Cond.selects "LadderLots$Reader" ⟨"LadderLots$Reader", "bounded", "(II)I"⟩ ⟨"LadderLots$Reader", "bounded", "(II)I"⟩) ∈ lw_all := lw_g (lw_at lw_ms 24 rfl) rfl
theorem qs25 : (Cond.selects "LadderLots$Reader" ⟨"LadderLots$Reader", "wrong", "(II)V"⟩ ⟨"LadderLots$Reader", "wrong", "(II)V"⟩) ∈ lw_all := lw_g (lw_at lw_ms 25 rfl) rfl
theorem qs26 : (Cond.selects "LadderLots$Reader" ⟨"LadderLots$Reader", "tellPart", "()V"⟩ ⟨"LadderLots$Reader", "tellPart", "()V"⟩) ∈ lw_all := lw_g (lw_at lw_ms 26 rfl) rfl
theorem qs27 : (Cond.selects "LadderLots$Reader" ⟨"LadderLots$Reader", "partOf", "(J)I"⟩ ⟨"LadderLots$Reader", "partOf", "(J)I"⟩) ∈ lw_all := lw_g (lw_at lw_ms 27 rfl) rfl
theorem qs28 : (Cond.selects "LadderLots$Reader" ⟨"LadderLots$Reader", "body", "()LLadderLots$Steps;"⟩ ⟨"LadderLots$Reader", "body", "()LLadderLots$Steps;"⟩) ∈ lw_all := lw_g (lw_at lw_ms 28 rfl) rfl
theorem qs29 : (Cond.selects "LadderLots$Reader" ⟨"LadderLots$Reader", "opens", "()V"⟩ ⟨"LadderLots$Reader", "opens", "()V"⟩) ∈ lw_all := lw_g (lw_at lw_ms 29 rfl) rfl
theorem qs30 : (Cond.selects "LadderLots$Reader" ⟨"LadderLots$Reader", "tell", "(LLadderLots$Steps;)V"⟩ ⟨"LadderLots$Reader", "tell", "(LLadderLots$Steps;)V"⟩) ∈ lw_all := lw_g (lw_at lw_ms 30 rfl) rfl
theorem qs31 : (Cond.selects "java/util/ArrayList" ⟨"java/util/ArrayList", "add", "(Ljava/lang/Object;[Ljava/lang/Object;I)V"⟩ ⟨"java/util/ArrayList", "add", "(Ljava/lang/Object;[Ljava/lang/Object;I)V"⟩) ∈ lw_all := lw_g (lw_at lw_ms 31 rfl) rfl
theorem qs32 : (Cond.selects "java/util/ArrayList" ⟨"java/util/ArrayList", "grow", "()[Ljava/lang/Object;"⟩ ⟨"java/util/ArrayList", "grow", "()[Ljava/lang/Object;"⟩) ∈ lw_all := lw_g (lw_at lw_ms 32 rfl) rfl
theorem qs33 : (Cond.selects "java/util/ArrayList" ⟨"java/util/ArrayList", "grow", "(I)[Ljava/lang/Object;"⟩ ⟨"java/util/ArrayList", "grow", "(I)[Ljava/lang/Object;"⟩) ∈ lw_all := lw_g (lw_at lw_ms 33 rfl) rfl
theorem qs34 : (Cond.selects "LadderLots$Reader" ⟨"LadderLots$Reader", "tellMaybe", "(LLadderLots$Steps;)V"⟩ ⟨"LadderLots$Reader", "tellMaybe", "(LLadderLots$Steps;)V"⟩) ∈ lw_all := lw_g (lw_at lw_ms 34 rfl) rfl
theorem qs35 : (Cond.selects "LadderLots$Reader" ⟨"LadderLots$Reader", "tellUse", "(LLadderLots$Steps;)V"⟩ ⟨"LadderLots$Reader", "tellUse", "(LLadderLots$Steps;)V"⟩) ∈ lw_all := lw_g (lw_at lw_ms 35 rfl) rfl
theorem qs36 : (Cond.selects "LadderLots" ⟨"LadderLots", "isLadder", "(I)Z"⟩ ⟨"LadderLots", "isLadder", "(I)Z"⟩) ∈ lw_all := lw_g (lw_at lw_ms 36 rfl) rfl
theorem qs37 : (Cond.selects "LadderLots" ⟨"LadderLots", "comes", "(ILLadderLots$Steps;)I"⟩ ⟨"LadderLots", "comes", "(ILLadderLots$Steps;)I"⟩) ∈ lw_all := lw_g (lw_at lw_ms 37 rfl) rfl
theorem qs38 : (Cond.selects "LadderLots" ⟨"LadderLots", "isElement", "(II)Z"⟩ ⟨"LadderLots", "isElement", "(II)Z"⟩) ∈ lw_all := lw_g (lw_at lw_ms 38 rfl) rfl
theorem qs39 : (Cond.selects "LadderLots" ⟨"LadderLots", "isOrderOf", "(II)Z"⟩ ⟨"LadderLots", "isOrderOf", "(II)Z"⟩) ∈ lw_all := lw_g (lw_at lw_ms 39 rfl) rfl
theorem qs40 : (Cond.selects "LadderLots" ⟨"LadderLots", "isThere", "(II)Z"⟩ ⟨"LadderLots", "isThere", "(II)Z"⟩) ∈ lw_all := lw_g (lw_at lw_ms 40 rfl) rfl
theorem qs41 : (Cond.selects "LadderLots" ⟨"LadderLots", "goes", "(LLadderLots$Ladder;II)I"⟩ ⟨"LadderLots", "goes", "(LLadderLots$Ladder;II)I"⟩) ∈ lw_all := lw_g (lw_at lw_ms 41 rfl) rfl
theorem qs42 : (Cond.selects "LadderLots" ⟨"LadderLots", "clears", "(LLadderLots$Ladder;)I"⟩ ⟨"LadderLots", "clears", "(LLadderLots$Ladder;)I"⟩) ∈ lw_all := lw_g (lw_at lw_ms 42 rfl) rfl
theorem qs43 : (Cond.selects "LadderLots" ⟨"LadderLots", "undoes", "(LLadderLots$Ladder;)Z"⟩ ⟨"LadderLots", "undoes", "(LLadderLots$Ladder;)Z"⟩) ∈ lw_all := lw_g (lw_at lw_ms 43 rfl) rfl
theorem qs44 : (Cond.selects "LadderLots" ⟨"LadderLots", "isNumber", "(II)Z"⟩ ⟨"LadderLots", "isNumber", "(II)Z"⟩) ∈ lw_all := lw_g (lw_at lw_ms 44 rfl) rfl
theorem qs45 : (Cond.selects "LadderLots" ⟨"LadderLots", "spreads", "(LLadderLots$Ladder;I)V"⟩ ⟨"LadderLots", "spreads", "(LLadderLots$Ladder;I)V"⟩) ∈ lw_all := lw_g (lw_at lw_ms 45 rfl) rfl
theorem qs46 : (Cond.selects "LadderLots" ⟨"LadderLots", "isKnown", "(II)Z"⟩ ⟨"LadderLots", "isKnown", "(II)Z"⟩) ∈ lw_all := lw_g (lw_at lw_ms 46 rfl) rfl
theorem qs47 : (Cond.selects "LadderLots" ⟨"LadderLots", "fits", "(II)V"⟩ ⟨"LadderLots", "fits", "(II)V"⟩) ∈ lw_all := lw_g (lw_at lw_ms 47 rfl) rfl
theorem qs48 : (Cond.selects "LadderLots" ⟨"LadderLots", "endsThere", "(II)J"⟩ ⟨"LadderLots", "endsThere", "(II)J"⟩) ∈ lw_all := lw_g (lw_at lw_ms 48 rfl) rfl
theorem qs49 : (Cond.selects "LadderLots" ⟨"LadderLots", "needsTo", "(LLadderLots$Ladder;I)V"⟩ ⟨"LadderLots", "needsTo", "(LLadderLots$Ladder;I)V"⟩) ∈ lw_all := lw_g (lw_at lw_ms 49 rfl) rfl
theorem qs50 : (Cond.selects "LadderLots" ⟨"LadderLots", "asked", "(I)I"⟩ ⟨"LadderLots", "asked", "(I)I"⟩) ∈ lw_all := lw_g (lw_at lw_ms 50 rfl) rfl
theorem qs51 : (Cond.selects "LadderLots" ⟨"LadderLots", "mends", "(LLadderLots$Ladder;)I"⟩ ⟨"LadderLots", "mends", "(LLadderLots$Ladder;)I"⟩) ∈ lw_all := lw_g (lw_at lw_ms 51 rfl) rfl
theorem qs52 : (Cond.selects "LadderLots" ⟨"LadderLots", "isFound", "(I)Z"⟩ ⟨"LadderLots", "isFound", "(I)Z"⟩) ∈ lw_all := lw_g (lw_at lw_ms 52 rfl) rfl
theorem qs53 : (Cond.selects "LadderLots" ⟨"LadderLots", "gatesTo", "(I)I"⟩ ⟨"LadderLots", "gatesTo", "(I)I"⟩) ∈ lw_all := lw_g (lw_at lw_ms 53 rfl) rfl
theorem qs54 : (Cond.selects "LadderLotsModel" ⟨"LadderLotsModel", "typed", "(I)V"⟩ ⟨"LadderLotsModel", "typed", "(I)V"⟩) ∈ lw_all := lw_g (lw_at lw_ms 54 rfl) rfl
theorem qs55 : (Cond.selects "LadderLotsModel" ⟨"LadderLotsModel", "scanAll", "()V"⟩ ⟨"LadderLotsModel", "scanAll", "()V"⟩) ∈ lw_all := lw_g (lw_at lw_ms 55 rfl) rfl
theorem qs56 : (Cond.selects "LadderLotsModel" ⟨"LadderLotsModel", "byteAt", "(I)I"⟩ ⟨"LadderLotsModel", "byteAt", "(I)I"⟩) ∈ lw_all := lw_g (lw_at lw_ms 56 rfl) rfl
theorem qs57 : (Cond.selects "LadderLotsModel" ⟨"LadderLotsModel", "scan", "(I)I"⟩ ⟨"LadderLotsModel", "scan", "(I)I"⟩) ∈ lw_all := lw_g (lw_at lw_ms 57 rfl) rfl
theorem qs58 : (Cond.selects "LadderLotsModel" ⟨"LadderLotsModel", "isLetter", "(I)Z"⟩ ⟨"LadderLotsModel", "isLetter", "(I)Z"⟩) ∈ lw_all := lw_g (lw_at lw_ms 58 rfl) rfl
theorem qs59 : (Cond.selects "LadderLotsModel" ⟨"LadderLotsModel", "token", "(III)V"⟩ ⟨"LadderLotsModel", "token", "(III)V"⟩) ∈ lw_all := lw_g (lw_at lw_ms 59 rfl) rfl
theorem qs60 : (Cond.selects "LadderLotsModel" ⟨"LadderLotsModel", "isDigit", "(I)Z"⟩ ⟨"LadderLotsModel", "isDigit", "(I)Z"⟩) ∈ lw_all := lw_g (lw_at lw_ms 60 rfl) rfl
theorem qs61 : (Cond.selects "LadderLotsModel" ⟨"LadderLotsModel", "parses", "()Z"⟩ ⟨"LadderLotsModel", "parses", "()Z"⟩) ∈ lw_all := lw_g (lw_at lw_ms 61 rfl) rfl
theorem qs62 : (Cond.selects "LadderLotsModel" ⟨"LadderLotsModel", "isWord", "(I)Z"⟩ ⟨"LadderLotsModel", "isWord", "(I)Z"⟩) ∈ lw_all := lw_g (lw_at lw_ms 62 rfl) rfl
theorem qs63 : (Cond.selects "LadderLotsModel" ⟨"LadderLotsModel", "wrong", "(I)Z"⟩ ⟨"LadderLotsModel", "wrong", "(I)Z"⟩) ∈ lw_all := lw_g (lw_at lw_ms 63 rfl) rfl
theorem qs64 : (Cond.selects "LadderLotsModel" ⟨"LadderLotsModel", "pass", "()Z"⟩ ⟨"LadderLotsModel", "pass", "()Z"⟩) ∈ lw_all := lw_g (lw_at lw_ms 64 rfl) rfl
theorem qs65 : (Cond.selects "LadderLotsModel" ⟨"LadderLotsModel", "takes", "(I)Z"⟩ ⟨"LadderLotsModel", "takes", "(I)Z"⟩) ∈ lw_all := lw_g (lw_at lw_ms 65 rfl) rfl
theorem qs66 : (Cond.selects "LadderLotsModel" ⟨"LadderLotsModel", "takesSign", "(I)Z"⟩ ⟨"LadderLotsModel", "takesSign", "(I)Z"⟩) ∈ lw_all := lw_g (lw_at lw_ms 66 rfl) rfl
theorem qs67 : (Cond.selects "LadderLotsModel" ⟨"LadderLotsModel", "isSign", "(I)Z"⟩ ⟨"LadderLotsModel", "isSign", "(I)Z"⟩) ∈ lw_all := lw_g (lw_at lw_ms 67 rfl) rfl
theorem qs68 : (Cond.selects "LadderLotsModel" ⟨"LadderLotsModel", "goesThrough", "()Z"⟩ ⟨"LadderLotsModel", "goesThrough", "()Z"⟩) ∈ lw_all := lw_g (lw_at lw_ms 68 rfl) rfl
theorem qs69 : (Cond.selects "LadderLotsModel" ⟨"LadderLotsModel", "opens", "()Z"⟩ ⟨"LadderLotsModel", "opens", "()Z"⟩) ∈ lw_all := lw_g (lw_at lw_ms 69 rfl) rfl
theorem qs70 : (Cond.selects "LadderLotsModel" ⟨"LadderLotsModel", "tellAll", "()V"⟩ ⟨"LadderLotsModel", "tellAll", "()V"⟩) ∈ lw_all := lw_g (lw_at lw_ms 70 rfl) rfl
theorem qs71 : (Cond.selects "LadderLotsModel" ⟨"LadderLotsModel", "tells", "(II)V"⟩ ⟨"LadderLotsModel", "tells", "(II)V"⟩) ∈ lw_all := lw_g (lw_at lw_ms 71 rfl) rfl
theorem qs72 : (Cond.selects "LadderLotsModel" ⟨"LadderLotsModel", "shut", "()V"⟩ ⟨"LadderLotsModel", "shut", "()V"⟩) ∈ lw_all := lw_g (lw_at lw_ms 72 rfl) rfl
theorem qs73 : (Cond.selects "LadderLotsModel" ⟨"LadderLotsModel", "isLong", "()Z"⟩ ⟨"LadderLotsModel", "isLong", "()Z"⟩) ∈ lw_all := lw_g (lw_at lw_ms 73 rfl) rfl
theorem qs74 : (Cond.selects "LadderLotsModel" ⟨"LadderLotsModel", "put", "(IIII)V"⟩ ⟨"LadderLotsModel", "put", "(IIII)V"⟩) ∈ lw_all := lw_g (lw_at lw_ms 74 rfl) rfl
theorem qs75 : (Cond.selects "LadderLotsModel" ⟨"LadderLotsModel", "tellPart", "()V"⟩ ⟨"LadderLotsModel", "tellPart", "()V"⟩) ∈ lw_all := lw_g (lw_at lw_ms 75 rfl) rfl
theorem qs76 : (Cond.selects "LadderLotsModel" ⟨"LadderLotsModel", "tellMaybe", "()V"⟩ ⟨"LadderLotsModel", "tellMaybe", "()V"⟩) ∈ lw_all := lw_g (lw_at lw_ms 76 rfl) rfl
theorem qs77 : (Cond.selects "LadderLotsModel" ⟨"LadderLotsModel", "checkLeg", "(I)V"⟩ ⟨"LadderLotsModel", "checkLeg", "(I)V"⟩) ∈ lw_all := lw_g (lw_at lw_ms 77 rfl) rfl
theorem qs78 : (Cond.selects "LadderLotsModel" ⟨"LadderLotsModel", "tellUse", "()V"⟩ ⟨"LadderLotsModel", "tellUse", "()V"⟩) ∈ lw_all := lw_g (lw_at lw_ms 78 rfl) rfl
theorem qs79 : (Cond.selects "LadderLotsModel" ⟨"LadderLotsModel", "tellTimes", "()V"⟩ ⟨"LadderLotsModel", "tellTimes", "()V"⟩) ∈ lw_all := lw_g (lw_at lw_ms 79 rfl) rfl
theorem qs80 : (Cond.selects "LadderLotsModel" ⟨"LadderLotsModel", "tellElement", "(I)V"⟩ ⟨"LadderLotsModel", "tellElement", "(I)V"⟩) ∈ lw_all := lw_g (lw_at lw_ms 80 rfl) rfl
theorem qs81 : (Cond.selects "LadderLotsModel" ⟨"LadderLotsModel", "begin", "(I)V"⟩ ⟨"LadderLotsModel", "begin", "(I)V"⟩) ∈ lw_all := lw_g (lw_at lw_ms 81 rfl) rfl
theorem qs82 : (Cond.selects "LadderLotsModel" ⟨"LadderLotsModel", "add", "(IIII)V"⟩ ⟨"LadderLotsModel", "add", "(IIII)V"⟩) ∈ lw_all := lw_g (lw_at lw_ms 82 rfl) rfl
theorem qs83 : (Cond.selects "LadderLotsModel" ⟨"LadderLotsModel", "isLadder", "(I)Z"⟩ ⟨"LadderLotsModel", "isLadder", "(I)Z"⟩) ∈ lw_all := lw_g (lw_at lw_ms 83 rfl) rfl
theorem qs84 : (Cond.selects "LadderLotsModel" ⟨"LadderLotsModel", "maybesOf", "(I)I"⟩ ⟨"LadderLotsModel", "maybesOf", "(I)I"⟩) ∈ lw_all := lw_g (lw_at lw_ms 84 rfl) rfl
theorem qs85 : (Cond.selects "LadderLotsModel" ⟨"LadderLotsModel", "layer", "(I)I"⟩ ⟨"LadderLotsModel", "layer", "(I)I"⟩) ∈ lw_all := lw_g (lw_at lw_ms 85 rfl) rfl
theorem qs86 : (Cond.selects "LadderLotsModel" ⟨"LadderLotsModel", "isPlain", "(I)Z"⟩ ⟨"LadderLotsModel", "isPlain", "(I)Z"⟩) ∈ lw_all := lw_g (lw_at lw_ms 86 rfl) rfl
theorem qs87 : (Cond.selects "LadderLotsModel" ⟨"LadderLotsModel", "isOrder", "(II)Z"⟩ ⟨"LadderLotsModel", "isOrder", "(II)Z"⟩) ∈ lw_all := lw_g (lw_at lw_ms 87 rfl) rfl
theorem qs88 : (Cond.selects "LadderLotsModel" ⟨"LadderLotsModel", "lay", "(I)V"⟩ ⟨"LadderLotsModel", "lay", "(I)V"⟩) ∈ lw_all := lw_g (lw_at lw_ms 88 rfl) rfl
theorem qs89 : (Cond.selects "LadderLotsModel" ⟨"LadderLotsModel", "goOn", "(I)V"⟩ ⟨"LadderLotsModel", "goOn", "(I)V"⟩) ∈ lw_all := lw_g (lw_at lw_ms 89 rfl) rfl
theorem qs90 : (Cond.selects "LadderLotsModel" ⟨"LadderLotsModel", "swapHand", "(II)V"⟩ ⟨"LadderLotsModel", "swapHand", "(II)V"⟩) ∈ lw_all := lw_g (lw_at lw_ms 90 rfl) rfl
theorem qs91 : (Cond.selects "LadderLotsModel" ⟨"LadderLotsModel", "takeOrder", "(II)V"⟩ ⟨"LadderLotsModel", "takeOrder", "(II)V"⟩) ∈ lw_all := lw_g (lw_at lw_ms 91 rfl) rfl
theorem qs92 : (Cond.selects "LadderLotsModel" ⟨"LadderLotsModel", "numberOf", "(I)I"⟩ ⟨"LadderLotsModel", "numberOf", "(I)I"⟩) ∈ lw_all := lw_g (lw_at lw_ms 92 rfl) rfl
theorem qs93 : (Cond.selects "LadderLotsModel" ⟨"LadderLotsModel", "placeOf", "(III)I"⟩ ⟨"LadderLotsModel", "placeOf", "(III)I"⟩) ∈ lw_all := lw_g (lw_at lw_ms 93 rfl) rfl
theorem qs94 : (Cond.selects "LadderLotsModel" ⟨"LadderLotsModel", "isNearer", "(III)Z"⟩ ⟨"LadderLotsModel", "isNearer", "(III)Z"⟩) ∈ lw_all := lw_g (lw_at lw_ms 94 rfl) rfl
theorem qs95 : (Cond.selects "LadderLotsModel" ⟨"LadderLotsModel", "isDown", "(III)Z"⟩ ⟨"LadderLotsModel", "isDown", "(III)Z"⟩) ∈ lw_all := lw_g (lw_at lw_ms 95 rfl) rfl
theorem qs96 : (Cond.selects "LadderLotsModel" ⟨"LadderLotsModel", "endOf", "(IIII)I"⟩ ⟨"LadderLotsModel", "endOf", "(IIII)I"⟩) ∈ lw_all := lw_g (lw_at lw_ms 96 rfl) rfl
theorem qs97 : (Cond.selects "LadderLotsModel" ⟨"LadderLotsModel", "passed", "(IIIZ)I"⟩ ⟨"LadderLotsModel", "passed", "(IIIZ)I"⟩) ∈ lw_all := lw_g (lw_at lw_ms 97 rfl) rfl
theorem qs98 : (Cond.selects "LadderLotsModel" ⟨"LadderLotsModel", "unrank", "(IIJ)V"⟩ ⟨"LadderLotsModel", "unrank", "(IIJ)V"⟩) ∈ lw_all := lw_g (lw_at lw_ms 98 rfl) rfl
theorem qs99 : (Cond.selects "LadderLotsModel" ⟨"LadderLotsModel", "rankOf", "(II)J"⟩ ⟨"LadderLotsModel", "rankOf", "(II)J"⟩) ∈ lw_all := lw_g (lw_at lw_ms 99 rfl) rfl
theorem qs100 : (Cond.selects "LadderLotsModel" ⟨"LadderLotsModel", "clears", "(I)V"⟩ ⟨"LadderLotsModel", "clears", "(I)V"⟩) ∈ lw_all := lw_g (lw_at lw_ms 100 rfl) rfl
theorem qs101 : (Cond.selects "LadderLotsModel" ⟨"LadderLotsModel", "clearsOne", "(I)Z"⟩ ⟨"LadderLotsModel", "clearsOne", "(I)Z"⟩) ∈ lw_all := lw_g (lw_at lw_ms 101 rfl) rfl
theorem qs102 : (Cond.selects "LadderLotsModel" ⟨"LadderLotsModel", "steps", "(IIIII)I"⟩ ⟨"LadderLotsModel", "steps", "(IIIII)I"⟩) ∈ lw_all := lw_g (lw_at lw_ms 102 rfl) rfl
theorem qs103 : (Cond.selects "LadderLotsModel" ⟨"LadderLotsModel", "graph", "(II)V"⟩ ⟨"LadderLotsModel", "graph", "(II)V"⟩) ∈ lw_all := lw_g (lw_at lw_ms 103 rfl) rfl
theorem qs104 : (Cond.selects "LadderLotsModel" ⟨"LadderLotsModel", "distances", "(III)V"⟩ ⟨"LadderLotsModel", "distances", "(III)V"⟩) ∈ lw_all := lw_g (lw_at lw_ms 104 rfl) rfl
theorem qs105 : (Cond.selects "LadderLotsModel" ⟨"LadderLotsModel", "isNumber", "(II)Z"⟩ ⟨"LadderLotsModel", "isNumber", "(II)Z"⟩) ∈ lw_all := lw_g (lw_at lw_ms 105 rfl) rfl
theorem qs106 : (Cond.selects "LadderLotsModel" ⟨"LadderLotsModel", "spread", "(II)V"⟩ ⟨"LadderLotsModel", "spread", "(II)V"⟩) ∈ lw_all := lw_g (lw_at lw_ms 106 rfl) rfl
theorem qs107 : (Cond.selects "LadderLotsModel" ⟨"LadderLotsModel", "isKnown", "(II)Z"⟩ ⟨"LadderLotsModel", "isKnown", "(II)Z"⟩) ∈ lw_all := lw_g (lw_at lw_ms 107 rfl) rfl
theorem qs108 : (Cond.selects "LadderLotsModel" ⟨"LadderLotsModel", "fit", "(II)J"⟩ ⟨"LadderLotsModel", "fit", "(II)J"⟩) ∈ lw_all := lw_g (lw_at lw_ms 108 rfl) rfl
theorem qs109 : (Cond.selects "LadderLotsModel" ⟨"LadderLotsModel", "isFit", "(III)Z"⟩ ⟨"LadderLotsModel", "isFit", "(III)Z"⟩) ∈ lw_all := lw_g (lw_at lw_ms 109 rfl) rfl
theorem qs110 : (Cond.selects "LadderLotsModel" ⟨"LadderLotsModel", "isVoid", "(II)Z"⟩ ⟨"LadderLotsModel", "isVoid", "(II)Z"⟩) ∈ lw_all := lw_g (lw_at lw_ms 110 rfl) rfl
theorem qs111 : (Cond.selects "LadderLotsModel" ⟨"LadderLotsModel", "likelyOf", "(II)J"⟩ ⟨"LadderLotsModel", "likelyOf", "(II)J"⟩) ∈ lw_all := lw_g (lw_at lw_ms 111 rfl) rfl
theorem qs112 : (Cond.selects "LadderLotsModel" ⟨"LadderLotsModel", "needs", "(II)V"⟩ ⟨"LadderLotsModel", "needs", "(II)V"⟩) ∈ lw_all := lw_g (lw_at lw_ms 112 rfl) rfl
theorem qs113 : (Cond.selects "LadderLotsModel" ⟨"LadderLotsModel", "relax", "(I)V"⟩ ⟨"LadderLotsModel", "relax", "(I)V"⟩) ∈ lw_all := lw_g (lw_at lw_ms 113 rfl) rfl
theorem qs114 : (Cond.selects "LadderLotsModel" ⟨"LadderLotsModel", "unsortedBut", "(II)I"⟩ ⟨"LadderLotsModel", "unsortedBut", "(II)I"⟩) ∈ lw_all := lw_g (lw_at lw_ms 114 rfl) rfl
theorem qs115 : (Cond.selects "LadderLotsModel" ⟨"LadderLotsModel", "bitsEnd", "(II)I"⟩ ⟨"LadderLotsModel", "bitsEnd", "(II)I"⟩) ∈ lw_all := lw_g (lw_at lw_ms 115 rfl) rfl
theorem qs116 : (Cond.selects "LadderLotsModel" ⟨"LadderLotsModel", "mending", "(I)I"⟩ ⟨"LadderLotsModel", "mending", "(I)I"⟩) ∈ lw_all := lw_g (lw_at lw_ms 116 rfl) rfl
theorem qs117 : (Cond.selects "LadderLotsModel" ⟨"LadderLotsModel", "mends", "(II)Z"⟩ ⟨"LadderLotsModel", "mends", "(II)Z"⟩) ∈ lw_all := lw_g (lw_at lw_ms 117 rfl) rfl
