-- ===== PART A: goes FIRST, ahead of the names: the tables' words, and 'selects' of the private methods out of them =====
/-- a private method of a class that the tables say can be made, by its rows of tables_1 -/
def lw_okq (q : MethodName × Nat) : Prop := (q.1.cls ≠ "java/lang/invoke/MethodHandle" ∧ q.1.cls ≠ "java/lang/invoke/VarHandle") ∧ Cond.instantiable q.1.cls q.2 ∈ tables_1 ∧ Cond.privateMethod q.1 ∈ tables_1 ∧ Cond.instanceMethod q.1 ∈ tables_1
set_option maxRecDepth 100000
theorem lw_t1 {w : Cond} (h : w ∈ tables_1_1) : w ∈ tables_1 := List.mem_append_left _ h
theorem lw_t2 {w : Cond} (h : w ∈ tables_1_2) : w ∈ tables_1 := List.mem_append_right _ (List.mem_append_left _ h)
theorem lw_t3 {w : Cond} (h : w ∈ tables_1_3) : w ∈ tables_1 := List.mem_append_right _ (List.mem_append_right _ (List.mem_append_left _ h))
theorem lw_t4 {w : Cond} (h : w ∈ tables_1_4) : w ∈ tables_1 := List.mem_append_right _ (List.mem_append_right _ (List.mem_append_right _ (List.mem_append_left _ h)))
theorem lw_t5 {w : Cond} (h : w ∈ tables_1_5) : w ∈ tables_1 := List.mem_append_right _ (List.mem_append_right _ (List.mem_append_right _ (List.mem_append_right _ (List.mem_append_left _ h))))
theorem lw_t6 {w : Cond} (h : w ∈ tables_1_6) : w ∈ tables_1 := List.mem_append_right _ (List.mem_append_right _ (List.mem_append_right _ (List.mem_append_right _ (List.mem_append_right _ (List.mem_append_left _ h)))))
theorem lw_t7 {w : Cond} (h : w ∈ tables_1_7) : w ∈ tables_1 := List.mem_append_right _ (List.mem_append_right _ (List.mem_append_right _ (List.mem_append_right _ (List.mem_append_right _ (List.mem_append_right _ (List.mem_append_left _ h))))))
theorem lw_t8 {w : Cond} (h : w ∈ tables_1_8) : w ∈ tables_1 := List.mem_append_right _ (List.mem_append_right _ (List.mem_append_right _ (List.mem_append_right _ (List.mem_append_right _ (List.mem_append_right _ (List.mem_append_right _ (List.mem_append_left _ h)))))))
theorem lw_t9 {w : Cond} (h : w ∈ tables_1_9) : w ∈ tables_1 := List.mem_append_right _ (List.mem_append_right _ (List.mem_append_right _ (List.mem_append_right _ (List.mem_append_right _ (List.mem_append_right _ (List.mem_append_right _ (List.mem_append_right _ h)))))))
theorem lw_p0 : lw_okq (⟨"java/lang/Throwable", "fillInStackTrace", "(I)Ljava/lang/Throwable;"⟩, 6) := ⟨⟨by decide +kernel, by decide +kernel⟩, lw_t1 (List.mem_of_getElem? (i := 124) rfl), lw_t1 (List.mem_of_getElem? (i := 122) rfl), lw_t1 (List.mem_of_getElem? (i := 123) rfl)⟩
theorem lw_p1 : lw_okq (⟨"MoveNotes", "four", "(I)V"⟩, 18) := ⟨⟨by decide +kernel, by decide +kernel⟩, lw_t1 (List.mem_of_getElem? (i := 41) rfl), lw_t3 (List.mem_of_getElem? (i := 0) rfl), lw_t3 (List.mem_of_getElem? (i := 1) rfl)⟩
theorem lw_p2 : lw_okq (⟨"MoveNotes", "reads", "()I"⟩, 18) := ⟨⟨by decide +kernel, by decide +kernel⟩, lw_t1 (List.mem_of_getElem? (i := 41) rfl), lw_t3 (List.mem_of_getElem? (i := 19) rfl), lw_t3 (List.mem_of_getElem? (i := 20) rfl)⟩
theorem lw_p3 : lw_okq (⟨"MoveNotes", "allBooks", "()I"⟩, 18) := ⟨⟨by decide +kernel, by decide +kernel⟩, lw_t1 (List.mem_of_getElem? (i := 41) rfl), lw_t3 (List.mem_of_getElem? (i := 23) rfl), lw_t3 (List.mem_of_getElem? (i := 24) rfl)⟩
theorem lw_p4 : lw_okq (⟨"MoveNotes$Search", "begins", "(IZ)V"⟩, 30) := ⟨⟨by decide +kernel, by decide +kernel⟩, lw_t2 (List.mem_of_getElem? (i := 62) rfl), lw_t3 (List.mem_of_getElem? (i := 31) rfl), lw_t3 (List.mem_of_getElem? (i := 32) rfl)⟩
theorem lw_p5 : lw_okq (⟨"MoveNotes$Search", "walks", "(I)V"⟩, 30) := ⟨⟨by decide +kernel, by decide +kernel⟩, lw_t2 (List.mem_of_getElem? (i := 62) rfl), lw_t3 (List.mem_of_getElem? (i := 35) rfl), lw_t3 (List.mem_of_getElem? (i := 36) rfl)⟩
theorem lw_p6 : lw_okq (⟨"MoveNotes$Search", "goes", "(I)V"⟩, 30) := ⟨⟨by decide +kernel, by decide +kernel⟩, lw_t2 (List.mem_of_getElem? (i := 62) rfl), lw_t3 (List.mem_of_getElem? (i := 47) rfl), lw_t3 (List.mem_of_getElem? (i := 48) rfl)⟩
theorem lw_p7 : lw_okq (⟨"MoveNotes$Search", "bars", "(I)Z"⟩, 30) := ⟨⟨by decide +kernel, by decide +kernel⟩, lw_t2 (List.mem_of_getElem? (i := 62) rfl), lw_t3 (List.mem_of_getElem? (i := 51) rfl), lw_t3 (List.mem_of_getElem? (i := 52) rfl)⟩
theorem lw_p8 : lw_okq (⟨"MoveNotes$Search", "isReading", "(I)Z"⟩, 30) := ⟨⟨by decide +kernel, by decide +kernel⟩, lw_t2 (List.mem_of_getElem? (i := 62) rfl), lw_t3 (List.mem_of_getElem? (i := 62) rfl), lw_t3 (List.mem_of_getElem? (i := 63) rfl)⟩
theorem lw_p9 : lw_okq (⟨"MoveNotes$Search", "isIn", "(I)Z"⟩, 30) := ⟨⟨by decide +kernel, by decide +kernel⟩, lw_t2 (List.mem_of_getElem? (i := 62) rfl), lw_t3 (List.mem_of_getElem? (i := 66) rfl), lw_t3 (List.mem_of_getElem? (i := 67) rfl)⟩
theorem lw_p10 : lw_okq (⟨"MoveNotes$Search", "found", "(I)V"⟩, 30) := ⟨⟨by decide +kernel, by decide +kernel⟩, lw_t2 (List.mem_of_getElem? (i := 62) rfl), lw_t3 (List.mem_of_getElem? (i := 73) rfl), lw_t3 (List.mem_of_getElem? (i := 74) rfl)⟩
theorem lw_p11 : lw_okq (⟨"MoveNotes$Search", "played", "(I)I"⟩, 30) := ⟨⟨by decide +kernel, by decide +kernel⟩, lw_t2 (List.mem_of_getElem? (i := 62) rfl), lw_t3 (List.mem_of_getElem? (i := 78) rfl), lw_t3 (List.mem_of_getElem? (i := 79) rfl)⟩
theorem lw_p12 : lw_okq (⟨"MoveNotes$Search", "isTaken", "(II)Z"⟩, 30) := ⟨⟨by decide +kernel, by decide +kernel⟩, lw_t2 (List.mem_of_getElem? (i := 62) rfl), lw_t3 (List.mem_of_getElem? (i := 90) rfl), lw_t3 (List.mem_of_getElem? (i := 91) rfl)⟩
theorem lw_p13 : lw_okq (⟨"MoveNotes$Search", "leads", "(LMoveNotes$Book;[I[IIII)I"⟩, 30) := ⟨⟨by decide +kernel, by decide +kernel⟩, lw_t2 (List.mem_of_getElem? (i := 62) rfl), lw_t3 (List.mem_of_getElem? (i := 171) rfl), lw_t3 (List.mem_of_getElem? (i := 172) rfl)⟩
theorem lw_p14 : lw_okq (⟨"MoveNotes$Search", "cost", "(LMoveNotes$Book;IIII)I"⟩, 30) := ⟨⟨by decide +kernel, by decide +kernel⟩, lw_t2 (List.mem_of_getElem? (i := 62) rfl), lw_t3 (List.mem_of_getElem? (i := 175) rfl), lw_t3 (List.mem_of_getElem? (i := 176) rfl)⟩
theorem lw_p15 : lw_okq (⟨"MoveNotes", "lays", "(I)V"⟩, 18) := ⟨⟨by decide +kernel, by decide +kernel⟩, lw_t1 (List.mem_of_getElem? (i := 41) rfl), lw_t3 (List.mem_of_getElem? (i := 210) rfl), lw_t3 (List.mem_of_getElem? (i := 211) rfl)⟩
def lw_privs_1 : List (MethodName × Nat) := [(⟨"java/lang/Throwable", "fillInStackTrace", "(I)Ljava/lang/Throwable;"⟩, 6), (⟨"MoveNotes", "four", "(I)V"⟩, 18), (⟨"MoveNotes", "reads", "()I"⟩, 18), (⟨"MoveNotes", "allBooks", "()I"⟩, 18), (⟨"MoveNotes$Search", "begins", "(IZ)V"⟩, 30), (⟨"MoveNotes$Search", "walks", "(I)V"⟩, 30), (⟨"MoveNotes$Search", "goes", "(I)V"⟩, 30), (⟨"MoveNotes$Search", "bars", "(I)Z"⟩, 30), (⟨"MoveNotes$Search", "isReading", "(I)Z"⟩, 30), (⟨"MoveNotes$Search", "isIn", "(I)Z"⟩, 30), (⟨"MoveNotes$Search", "found", "(I)V"⟩, 30), (⟨"MoveNotes$Search", "played", "(I)I"⟩, 30), (⟨"MoveNotes$Search", "isTaken", "(II)Z"⟩, 30), (⟨"MoveNotes$Search", "leads", "(LMoveNotes$Book;[I[IIII)I"⟩, 30), (⟨"MoveNotes$Search", "cost", "(LMoveNotes$Book;IIII)I"⟩, 30), (⟨"MoveNotes", "lays", "(I)V"⟩, 18)]
theorem lw_r1 : ∀ q ∈ lw_privs_1, lw_okq q := List.forall_mem_cons.mpr ⟨lw_p0, List.forall_mem_cons.mpr ⟨lw_p1, List.forall_mem_cons.mpr ⟨lw_p2, List.forall_mem_cons.mpr ⟨lw_p3, List.forall_mem_cons.mpr ⟨lw_p4, List.forall_mem_cons.mpr ⟨lw_p5, List.forall_mem_cons.mpr ⟨lw_p6, List.forall_mem_cons.mpr ⟨lw_p7, List.forall_mem_cons.mpr ⟨lw_p8, List.forall_mem_cons.mpr ⟨lw_p9, List.forall_mem_cons.mpr ⟨lw_p10, List.forall_mem_cons.mpr ⟨lw_p11, List.forall_mem_cons.mpr ⟨lw_p12, List.forall_mem_cons.mpr ⟨lw_p13, List.forall_mem_cons.mpr ⟨lw_p14, List.forall_mem_cons.mpr ⟨lw_p15, fun _ h => absurd h List.not_mem_nil⟩⟩⟩⟩⟩⟩⟩⟩⟩⟩⟩⟩⟩⟩⟩⟩
theorem lw_p16 : lw_okq (⟨"MoveNotes", "use", "()I"⟩, 18) := ⟨⟨by decide +kernel, by decide +kernel⟩, lw_t1 (List.mem_of_getElem? (i := 41) rfl), lw_t4 (List.mem_of_getElem? (i := 21) rfl), lw_t4 (List.mem_of_getElem? (i := 22) rfl)⟩
theorem lw_p17 : lw_okq (⟨"MoveNotes$Reader", "lines", "(IZ)I"⟩, 11) := ⟨⟨by decide +kernel, by decide +kernel⟩, lw_t1 (List.mem_of_getElem? (i := 49) rfl), lw_t4 (List.mem_of_getElem? (i := 31) rfl), lw_t4 (List.mem_of_getElem? (i := 32) rfl)⟩
theorem lw_p18 : lw_okq (⟨"MoveNotes$Reader", "sign", "()I"⟩, 11) := ⟨⟨by decide +kernel, by decide +kernel⟩, lw_t1 (List.mem_of_getElem? (i := 49) rfl), lw_t4 (List.mem_of_getElem? (i := 35) rfl), lw_t4 (List.mem_of_getElem? (i := 36) rfl)⟩
theorem lw_p19 : lw_okq (⟨"MoveNotes$Reader", "fail", "(I)V"⟩, 11) := ⟨⟨by decide +kernel, by decide +kernel⟩, lw_t1 (List.mem_of_getElem? (i := 49) rfl), lw_t4 (List.mem_of_getElem? (i := 39) rfl), lw_t4 (List.mem_of_getElem? (i := 40) rfl)⟩
theorem lw_p20 : lw_okq (⟨"MoveNotes$Reader", "going", "()LMoveNotes$Going;"⟩, 11) := ⟨⟨by decide +kernel, by decide +kernel⟩, lw_t1 (List.mem_of_getElem? (i := 49) rfl), lw_t4 (List.mem_of_getElem? (i := 43) rfl), lw_t4 (List.mem_of_getElem? (i := 44) rfl)⟩
theorem lw_p21 : lw_okq (⟨"MoveNotes$Reader", "takes", "(Ljava/lang/String;)Z"⟩, 11) := ⟨⟨by decide +kernel, by decide +kernel⟩, lw_t1 (List.mem_of_getElem? (i := 49) rfl), lw_t4 (List.mem_of_getElem? (i := 48) rfl), lw_t4 (List.mem_of_getElem? (i := 49) rfl)⟩
theorem lw_p22 : lw_okq (⟨"MoveNotes$Reader", "number", "(II)I"⟩, 11) := ⟨⟨by decide +kernel, by decide +kernel⟩, lw_t1 (List.mem_of_getElem? (i := 49) rfl), lw_t4 (List.mem_of_getElem? (i := 102) rfl), lw_t4 (List.mem_of_getElem? (i := 103) rfl)⟩
theorem lw_p23 : lw_okq (⟨"MoveNotes$Reader", "playLine", "()LMoveNotes$PlayLine;"⟩, 11) := ⟨⟨by decide +kernel, by decide +kernel⟩, lw_t1 (List.mem_of_getElem? (i := 49) rfl), lw_t4 (List.mem_of_getElem? (i := 138) rfl), lw_t4 (List.mem_of_getElem? (i := 139) rfl)⟩
theorem lw_p24 : lw_okq (⟨"MoveNotes$Reader", "fact", "()I"⟩, 11) := ⟨⟨by decide +kernel, by decide +kernel⟩, lw_t1 (List.mem_of_getElem? (i := 49) rfl), lw_t4 (List.mem_of_getElem? (i := 143) rfl), lw_t4 (List.mem_of_getElem? (i := 144) rfl)⟩
theorem lw_p25 : lw_okq (⟨"MoveNotes$Reader", "row", "(Z)LMoveNotes$Cond;"⟩, 11) := ⟨⟨by decide +kernel, by decide +kernel⟩, lw_t1 (List.mem_of_getElem? (i := 49) rfl), lw_t4 (List.mem_of_getElem? (i := 149) rfl), lw_t4 (List.mem_of_getElem? (i := 150) rfl)⟩
theorem lw_p26 : lw_okq (⟨"MoveNotes$Reader", "atom", "()LMoveNotes$Cond;"⟩, 11) := ⟨⟨by decide +kernel, by decide +kernel⟩, lw_t1 (List.mem_of_getElem? (i := 49) rfl), lw_t4 (List.mem_of_getElem? (i := 155) rfl), lw_t4 (List.mem_of_getElem? (i := 156) rfl)⟩
theorem lw_p27 : lw_okq (⟨"MoveNotes$Reader", "tag", "()LMoveNotes$Cond;"⟩, 11) := ⟨⟨by decide +kernel, by decide +kernel⟩, lw_t1 (List.mem_of_getElem? (i := 49) rfl), lw_t4 (List.mem_of_getElem? (i := 160) rfl), lw_t4 (List.mem_of_getElem? (i := 161) rfl)⟩
theorem lw_p28 : lw_okq (⟨"MoveNotes$Reader", "sum", "()LMoveNotes$Sum;"⟩, 11) := ⟨⟨by decide +kernel, by decide +kernel⟩, lw_t1 (List.mem_of_getElem? (i := 49) rfl), lw_t4 (List.mem_of_getElem? (i := 176) rfl), lw_t4 (List.mem_of_getElem? (i := 177) rfl)⟩
theorem lw_p29 : lw_okq (⟨"MoveNotes$Reader", "part", "(LMoveNotes$Sum;)V"⟩, 11) := ⟨⟨by decide +kernel, by decide +kernel⟩, lw_t1 (List.mem_of_getElem? (i := 49) rfl), lw_t4 (List.mem_of_getElem? (i := 195) rfl), lw_t4 (List.mem_of_getElem? (i := 196) rfl)⟩
theorem lw_p30 : lw_okq (⟨"MoveNotes", "isKind", "(II)V"⟩, 18) := ⟨⟨by decide +kernel, by decide +kernel⟩, lw_t1 (List.mem_of_getElem? (i := 41) rfl), lw_t5 (List.mem_of_getElem? (i := 155) rfl), lw_t5 (List.mem_of_getElem? (i := 156) rfl)⟩
theorem lw_p31 : lw_okq (⟨"MoveNotes", "newBook", "(I)I"⟩, 18) := ⟨⟨by decide +kernel, by decide +kernel⟩, lw_t1 (List.mem_of_getElem? (i := 41) rfl), lw_t5 (List.mem_of_getElem? (i := 174) rfl), lw_t5 (List.mem_of_getElem? (i := 175) rfl)⟩
def lw_privs_2 : List (MethodName × Nat) := [(⟨"MoveNotes", "use", "()I"⟩, 18), (⟨"MoveNotes$Reader", "lines", "(IZ)I"⟩, 11), (⟨"MoveNotes$Reader", "sign", "()I"⟩, 11), (⟨"MoveNotes$Reader", "fail", "(I)V"⟩, 11), (⟨"MoveNotes$Reader", "going", "()LMoveNotes$Going;"⟩, 11), (⟨"MoveNotes$Reader", "takes", "(Ljava/lang/String;)Z"⟩, 11), (⟨"MoveNotes$Reader", "number", "(II)I"⟩, 11), (⟨"MoveNotes$Reader", "playLine", "()LMoveNotes$PlayLine;"⟩, 11), (⟨"MoveNotes$Reader", "fact", "()I"⟩, 11), (⟨"MoveNotes$Reader", "row", "(Z)LMoveNotes$Cond;"⟩, 11), (⟨"MoveNotes$Reader", "atom", "()LMoveNotes$Cond;"⟩, 11), (⟨"MoveNotes$Reader", "tag", "()LMoveNotes$Cond;"⟩, 11), (⟨"MoveNotes$Reader", "sum", "()LMoveNotes$Sum;"⟩, 11), (⟨"MoveNotes$Reader", "part", "(LMoveNotes$Sum;)V"⟩, 11), (⟨"MoveNotes", "isKind", "(II)V"⟩, 18), (⟨"MoveNotes", "newBook", "(I)I"⟩, 18)]
theorem lw_r2 : ∀ q ∈ lw_privs_2, lw_okq q := List.forall_mem_cons.mpr ⟨lw_p16, List.forall_mem_cons.mpr ⟨lw_p17, List.forall_mem_cons.mpr ⟨lw_p18, List.forall_mem_cons.mpr ⟨lw_p19, List.forall_mem_cons.mpr ⟨lw_p20, List.forall_mem_cons.mpr ⟨lw_p21, List.forall_mem_cons.mpr ⟨lw_p22, List.forall_mem_cons.mpr ⟨lw_p23, List.forall_mem_cons.mpr ⟨lw_p24, List.forall_mem_cons.mpr ⟨lw_p25, List.forall_mem_cons.mpr ⟨lw_p26, List.forall_mem_cons.mpr ⟨lw_p27, List.forall_mem_cons.mpr ⟨lw_p28, List.forall_mem_cons.mpr ⟨lw_p29, List.forall_mem_cons.mpr ⟨lw_p30, List.forall_mem_cons.mpr ⟨lw_p31, fun _ h => absurd h List.not_mem_nil⟩⟩⟩⟩⟩⟩⟩⟩⟩⟩⟩⟩⟩⟩⟩⟩
theorem lw_p32 : lw_okq (⟨"MoveNotes", "bookAt", "(I)LMoveNotes$Book;"⟩, 18) := ⟨⟨by decide +kernel, by decide +kernel⟩, lw_t1 (List.mem_of_getElem? (i := 41) rfl), lw_t5 (List.mem_of_getElem? (i := 185) rfl), lw_t5 (List.mem_of_getElem? (i := 186) rfl)⟩
theorem lw_p33 : lw_okq (⟨"MoveNotes", "isNote", "(II)V"⟩, 18) := ⟨⟨by decide +kernel, by decide +kernel⟩, lw_t1 (List.mem_of_getElem? (i := 41) rfl), lw_t5 (List.mem_of_getElem? (i := 222) rfl), lw_t5 (List.mem_of_getElem? (i := 223) rfl)⟩
theorem lw_p34 : lw_okq (⟨"MoveNotes", "draw", "()I"⟩, 18) := ⟨⟨by decide +kernel, by decide +kernel⟩, lw_t1 (List.mem_of_getElem? (i := 41) rfl), lw_t6 (List.mem_of_getElem? (i := 17) rfl), lw_t6 (List.mem_of_getElem? (i := 18) rfl)⟩
theorem lw_p35 : lw_okq (⟨"MoveNotesModel", "readAll", "(Z)I"⟩, 52) := ⟨⟨by decide +kernel, by decide +kernel⟩, lw_t6 (List.mem_of_getElem? (i := 170) rfl), lw_t7 (List.mem_of_getElem? (i := 118) rfl), lw_t7 (List.mem_of_getElem? (i := 119) rfl)⟩
theorem lw_p36 : lw_okq (⟨"MoveNotesModel", "blanks", "()V"⟩, 52) := ⟨⟨by decide +kernel, by decide +kernel⟩, lw_t6 (List.mem_of_getElem? (i := 170) rfl), lw_t7 (List.mem_of_getElem? (i := 122) rfl), lw_t7 (List.mem_of_getElem? (i := 123) rfl)⟩
theorem lw_p37 : lw_okq (⟨"MoveNotesModel", "isAt", "(II)Z"⟩, 52) := ⟨⟨by decide +kernel, by decide +kernel⟩, lw_t6 (List.mem_of_getElem? (i := 170) rfl), lw_t7 (List.mem_of_getElem? (i := 126) rfl), lw_t7 (List.mem_of_getElem? (i := 127) rfl)⟩
theorem lw_p38 : lw_okq (⟨"MoveNotesModel", "letters", "()V"⟩, 52) := ⟨⟨by decide +kernel, by decide +kernel⟩, lw_t6 (List.mem_of_getElem? (i := 170) rfl), lw_t7 (List.mem_of_getElem? (i := 130) rfl), lw_t7 (List.mem_of_getElem? (i := 131) rfl)⟩
theorem lw_p39 : lw_okq (⟨"MoveNotesModel", "readKindLine", "(I)Z"⟩, 52) := ⟨⟨by decide +kernel, by decide +kernel⟩, lw_t6 (List.mem_of_getElem? (i := 170) rfl), lw_t7 (List.mem_of_getElem? (i := 134) rfl), lw_t7 (List.mem_of_getElem? (i := 135) rfl)⟩
theorem lw_p40 : lw_okq (⟨"MoveNotesModel", "isWord", "(Ljava/lang/String;)Z"⟩, 52) := ⟨⟨by decide +kernel, by decide +kernel⟩, lw_t6 (List.mem_of_getElem? (i := 170) rfl), lw_t7 (List.mem_of_getElem? (i := 139) rfl), lw_t7 (List.mem_of_getElem? (i := 140) rfl)⟩
theorem lw_p41 : lw_okq (⟨"MoveNotesModel", "number", "(II)I"⟩, 52) := ⟨⟨by decide +kernel, by decide +kernel⟩, lw_t6 (List.mem_of_getElem? (i := 170) rfl), lw_t7 (List.mem_of_getElem? (i := 149) rfl), lw_t7 (List.mem_of_getElem? (i := 150) rfl)⟩
theorem lw_p42 : lw_okq (⟨"MoveNotesModel", "readMeasureLine", "(I)Z"⟩, 52) := ⟨⟨by decide +kernel, by decide +kernel⟩, lw_t6 (List.mem_of_getElem? (i := 170) rfl), lw_t7 (List.mem_of_getElem? (i := 153) rfl), lw_t7 (List.mem_of_getElem? (i := 154) rfl)⟩
theorem lw_p43 : lw_okq (⟨"MoveNotesModel", "keepsAt", "(II)Z"⟩, 52) := ⟨⟨by decide +kernel, by decide +kernel⟩, lw_t6 (List.mem_of_getElem? (i := 170) rfl), lw_t7 (List.mem_of_getElem? (i := 158) rfl), lw_t7 (List.mem_of_getElem? (i := 159) rfl)⟩
theorem lw_p44 : lw_okq (⟨"MoveNotesModel", "sign", "(I)Z"⟩, 52) := ⟨⟨by decide +kernel, by decide +kernel⟩, lw_t6 (List.mem_of_getElem? (i := 170) rfl), lw_t7 (List.mem_of_getElem? (i := 162) rfl), lw_t7 (List.mem_of_getElem? (i := 163) rfl)⟩
theorem lw_p45 : lw_okq (⟨"MoveNotesModel", "factAt", "()I"⟩, 52) := ⟨⟨by decide +kernel, by decide +kernel⟩, lw_t6 (List.mem_of_getElem? (i := 170) rfl), lw_t7 (List.mem_of_getElem? (i := 166) rfl), lw_t7 (List.mem_of_getElem? (i := 167) rfl)⟩
theorem lw_p46 : lw_okq (⟨"MoveNotesModel", "passes", "(Ljava/lang/String;)Z"⟩, 52) := ⟨⟨by decide +kernel, by decide +kernel⟩, lw_t6 (List.mem_of_getElem? (i := 170) rfl), lw_t7 (List.mem_of_getElem? (i := 175) rfl), lw_t7 (List.mem_of_getElem? (i := 176) rfl)⟩
theorem lw_p47 : lw_okq (⟨"MoveNotesModel", "readCond", "()Z"⟩, 52) := ⟨⟨by decide +kernel, by decide +kernel⟩, lw_t6 (List.mem_of_getElem? (i := 170) rfl), lw_t7 (List.mem_of_getElem? (i := 179) rfl), lw_t7 (List.mem_of_getElem? (i := 180) rfl)⟩
def lw_privs_3 : List (MethodName × Nat) := [(⟨"MoveNotes", "bookAt", "(I)LMoveNotes$Book;"⟩, 18), (⟨"MoveNotes", "isNote", "(II)V"⟩, 18), (⟨"MoveNotes", "draw", "()I"⟩, 18), (⟨"MoveNotesModel", "readAll", "(Z)I"⟩, 52), (⟨"MoveNotesModel", "blanks", "()V"⟩, 52), (⟨"MoveNotesModel", "isAt", "(II)Z"⟩, 52), (⟨"MoveNotesModel", "letters", "()V"⟩, 52), (⟨"MoveNotesModel", "readKindLine", "(I)Z"⟩, 52), (⟨"MoveNotesModel", "isWord", "(Ljava/lang/String;)Z"⟩, 52), (⟨"MoveNotesModel", "number", "(II)I"⟩, 52), (⟨"MoveNotesModel", "readMeasureLine", "(I)Z"⟩, 52), (⟨"MoveNotesModel", "keepsAt", "(II)Z"⟩, 52), (⟨"MoveNotesModel", "sign", "(I)Z"⟩, 52), (⟨"MoveNotesModel", "factAt", "()I"⟩, 52), (⟨"MoveNotesModel", "passes", "(Ljava/lang/String;)Z"⟩, 52), (⟨"MoveNotesModel", "readCond", "()Z"⟩, 52)]
theorem lw_r3 : ∀ q ∈ lw_privs_3, lw_okq q := List.forall_mem_cons.mpr ⟨lw_p32, List.forall_mem_cons.mpr ⟨lw_p33, List.forall_mem_cons.mpr ⟨lw_p34, List.forall_mem_cons.mpr ⟨lw_p35, List.forall_mem_cons.mpr ⟨lw_p36, List.forall_mem_cons.mpr ⟨lw_p37, List.forall_mem_cons.mpr ⟨lw_p38, List.forall_mem_cons.mpr ⟨lw_p39, List.forall_mem_cons.mpr ⟨lw_p40, List.forall_mem_cons.mpr ⟨lw_p41, List.forall_mem_cons.mpr ⟨lw_p42, List.forall_mem_cons.mpr ⟨lw_p43, List.forall_mem_cons.mpr ⟨lw_p44, List.forall_mem_cons.mpr ⟨lw_p45, List.forall_mem_cons.mpr ⟨lw_p46, List.forall_mem_cons.mpr ⟨lw_p47, fun _ h => absurd h List.not_mem_nil⟩⟩⟩⟩⟩⟩⟩⟩⟩⟩⟩⟩⟩⟩⟩⟩
theorem lw_p48 : lw_okq (⟨"MoveNotesModel", "readAllOf", "()Z"⟩, 52) := ⟨⟨by decide +kernel, by decide +kernel⟩, lw_t6 (List.mem_of_getElem? (i := 170) rfl), lw_t7 (List.mem_of_getElem? (i := 183) rfl), lw_t7 (List.mem_of_getElem? (i := 184) rfl)⟩
theorem lw_p49 : lw_okq (⟨"MoveNotesModel", "readAtom", "()Z"⟩, 52) := ⟨⟨by decide +kernel, by decide +kernel⟩, lw_t6 (List.mem_of_getElem? (i := 170) rfl), lw_t7 (List.mem_of_getElem? (i := 187) rfl), lw_t7 (List.mem_of_getElem? (i := 188) rfl)⟩
theorem lw_p50 : lw_okq (⟨"MoveNotesModel", "emits", "(II)V"⟩, 52) := ⟨⟨by decide +kernel, by decide +kernel⟩, lw_t6 (List.mem_of_getElem? (i := 170) rfl), lw_t7 (List.mem_of_getElem? (i := 192) rfl), lw_t7 (List.mem_of_getElem? (i := 193) rfl)⟩
theorem lw_p51 : lw_okq (⟨"MoveNotesModel", "readSum", "()Z"⟩, 52) := ⟨⟨by decide +kernel, by decide +kernel⟩, lw_t6 (List.mem_of_getElem? (i := 170) rfl), lw_t7 (List.mem_of_getElem? (i := 198) rfl), lw_t7 (List.mem_of_getElem? (i := 199) rfl)⟩
theorem lw_p52 : lw_okq (⟨"MoveNotesModel", "readPart", "()Z"⟩, 52) := ⟨⟨by decide +kernel, by decide +kernel⟩, lw_t6 (List.mem_of_getElem? (i := 170) rfl), lw_t7 (List.mem_of_getElem? (i := 202) rfl), lw_t7 (List.mem_of_getElem? (i := 203) rfl)⟩
theorem lw_p53 : lw_okq (⟨"MoveNotesModel", "throwsIf", "(ZI)Z"⟩, 52) := ⟨⟨by decide +kernel, by decide +kernel⟩, lw_t6 (List.mem_of_getElem? (i := 170) rfl), lw_t7 (List.mem_of_getElem? (i := 211) rfl), lw_t7 (List.mem_of_getElem? (i := 212) rfl)⟩
theorem lw_p54 : lw_okq (⟨"MoveNotesModel", "noKind", "(I)Z"⟩, 52) := ⟨⟨by decide +kernel, by decide +kernel⟩, lw_t6 (List.mem_of_getElem? (i := 170) rfl), lw_t7 (List.mem_of_getElem? (i := 226) rfl), lw_t7 (List.mem_of_getElem? (i := 227) rfl)⟩
theorem lw_p55 : lw_okq (⟨"MoveNotesModel", "none", "(II)Z"⟩, 52) := ⟨⟨by decide +kernel, by decide +kernel⟩, lw_t6 (List.mem_of_getElem? (i := 170) rfl), lw_t7 (List.mem_of_getElem? (i := 230) rfl), lw_t7 (List.mem_of_getElem? (i := 231) rfl)⟩
theorem lw_p56 : lw_okq (⟨"MoveNotesModel", "noBook", "(I)Z"⟩, 52) := ⟨⟨by decide +kernel, by decide +kernel⟩, lw_t6 (List.mem_of_getElem? (i := 170) rfl), lw_t8 (List.mem_of_getElem? (i := 5) rfl), lw_t8 (List.mem_of_getElem? (i := 6) rfl)⟩
theorem lw_p57 : lw_okq (⟨"MoveNotesModel", "notes", "(I)I"⟩, 52) := ⟨⟨by decide +kernel, by decide +kernel⟩, lw_t6 (List.mem_of_getElem? (i := 170) rfl), lw_t8 (List.mem_of_getElem? (i := 12) rfl), lw_t8 (List.mem_of_getElem? (i := 13) rfl)⟩
theorem lw_p58 : lw_okq (⟨"MoveNotesModel", "ofBook", "(II)I"⟩, 52) := ⟨⟨by decide +kernel, by decide +kernel⟩, lw_t6 (List.mem_of_getElem? (i := 170) rfl), lw_t8 (List.mem_of_getElem? (i := 16) rfl), lw_t8 (List.mem_of_getElem? (i := 17) rfl)⟩
theorem lw_p59 : lw_okq (⟨"MoveNotesModel", "addsNote", "(IIIII)I"⟩, 52) := ⟨⟨by decide +kernel, by decide +kernel⟩, lw_t6 (List.mem_of_getElem? (i := 170) rfl), lw_t8 (List.mem_of_getElem? (i := 20) rfl), lw_t8 (List.mem_of_getElem? (i := 21) rfl)⟩
theorem lw_p60 : lw_okq (⟨"MoveNotesModel", "setsNote", "(IIIIII)V"⟩, 52) := ⟨⟨by decide +kernel, by decide +kernel⟩, lw_t6 (List.mem_of_getElem? (i := 170) rfl), lw_t8 (List.mem_of_getElem? (i := 24) rfl), lw_t8 (List.mem_of_getElem? (i := 25) rfl)⟩
theorem lw_p61 : lw_okq (⟨"MoveNotesModel", "noNote", "(II)Z"⟩, 52) := ⟨⟨by decide +kernel, by decide +kernel⟩, lw_t6 (List.mem_of_getElem? (i := 170) rfl), lw_t8 (List.mem_of_getElem? (i := 32) rfl), lw_t8 (List.mem_of_getElem? (i := 33) rfl)⟩
theorem lw_p62 : lw_okq (⟨"MoveNotesModel", "ofNote", "(III)I"⟩, 52) := ⟨⟨by decide +kernel, by decide +kernel⟩, lw_t6 (List.mem_of_getElem? (i := 170) rfl), lw_t8 (List.mem_of_getElem? (i := 36) rfl), lw_t8 (List.mem_of_getElem? (i := 37) rfl)⟩
theorem lw_p63 : lw_okq (⟨"MoveNotesModel", "begins", "()V"⟩, 52) := ⟨⟨by decide +kernel, by decide +kernel⟩, lw_t6 (List.mem_of_getElem? (i := 170) rfl), lw_t8 (List.mem_of_getElem? (i := 60) rfl), lw_t8 (List.mem_of_getElem? (i := 61) rfl)⟩
def lw_privs_4 : List (MethodName × Nat) := [(⟨"MoveNotesModel", "readAllOf", "()Z"⟩, 52), (⟨"MoveNotesModel", "readAtom", "()Z"⟩, 52), (⟨"MoveNotesModel", "emits", "(II)V"⟩, 52), (⟨"MoveNotesModel", "readSum", "()Z"⟩, 52), (⟨"MoveNotesModel", "readPart", "()Z"⟩, 52), (⟨"MoveNotesModel", "throwsIf", "(ZI)Z"⟩, 52), (⟨"MoveNotesModel", "noKind", "(I)Z"⟩, 52), (⟨"MoveNotesModel", "none", "(II)Z"⟩, 52), (⟨"MoveNotesModel", "noBook", "(I)Z"⟩, 52), (⟨"MoveNotesModel", "notes", "(I)I"⟩, 52), (⟨"MoveNotesModel", "ofBook", "(II)I"⟩, 52), (⟨"MoveNotesModel", "addsNote", "(IIIII)I"⟩, 52), (⟨"MoveNotesModel", "setsNote", "(IIIIII)V"⟩, 52), (⟨"MoveNotesModel", "noNote", "(II)Z"⟩, 52), (⟨"MoveNotesModel", "ofNote", "(III)I"⟩, 52), (⟨"MoveNotesModel", "begins", "()V"⟩, 52)]
theorem lw_r4 : ∀ q ∈ lw_privs_4, lw_okq q := List.forall_mem_cons.mpr ⟨lw_p48, List.forall_mem_cons.mpr ⟨lw_p49, List.forall_mem_cons.mpr ⟨lw_p50, List.forall_mem_cons.mpr ⟨lw_p51, List.forall_mem_cons.mpr ⟨lw_p52, List.forall_mem_cons.mpr ⟨lw_p53, List.forall_mem_cons.mpr ⟨lw_p54, List.forall_mem_cons.mpr ⟨lw_p55, List.forall_mem_cons.mpr ⟨lw_p56, List.forall_mem_cons.mpr ⟨lw_p57, List.forall_mem_cons.mpr ⟨lw_p58, List.forall_mem_cons.mpr ⟨lw_p59, List.forall_mem_cons.mpr ⟨lw_p60, List.forall_mem_cons.mpr ⟨lw_p61, List.forall_mem_cons.mpr ⟨lw_p62, List.forall_mem_cons.mpr ⟨lw_p63, fun _ h => absurd h List.not_mem_nil⟩⟩⟩⟩⟩⟩⟩⟩⟩⟩⟩⟩⟩⟩⟩⟩
theorem lw_p64 : lw_okq (⟨"MoveNotesModel", "finds", "(II)V"⟩, 52) := ⟨⟨by decide +kernel, by decide +kernel⟩, lw_t6 (List.mem_of_getElem? (i := 170) rfl), lw_t8 (List.mem_of_getElem? (i := 64) rfl), lw_t8 (List.mem_of_getElem? (i := 65) rfl)⟩
theorem lw_p65 : lw_okq (⟨"MoveNotesModel", "at", "(II)I"⟩, 52) := ⟨⟨by decide +kernel, by decide +kernel⟩, lw_t6 (List.mem_of_getElem? (i := 170) rfl), lw_t8 (List.mem_of_getElem? (i := 68) rfl), lw_t8 (List.mem_of_getElem? (i := 69) rfl)⟩
theorem lw_p66 : lw_okq (⟨"MoveNotesModel", "goes", "(II)V"⟩, 52) := ⟨⟨by decide +kernel, by decide +kernel⟩, lw_t6 (List.mem_of_getElem? (i := 170) rfl), lw_t8 (List.mem_of_getElem? (i := 75) rfl), lw_t8 (List.mem_of_getElem? (i := 76) rfl)⟩
theorem lw_p67 : lw_okq (⟨"MoveNotesModel", "along", "(IIIIIZ)V"⟩, 52) := ⟨⟨by decide +kernel, by decide +kernel⟩, lw_t6 (List.mem_of_getElem? (i := 170) rfl), lw_t8 (List.mem_of_getElem? (i := 79) rfl), lw_t8 (List.mem_of_getElem? (i := 80) rfl)⟩
theorem lw_p68 : lw_okq (⟨"MoveNotesModel", "may", "(III)V"⟩, 52) := ⟨⟨by decide +kernel, by decide +kernel⟩, lw_t6 (List.mem_of_getElem? (i := 170) rfl), lw_t8 (List.mem_of_getElem? (i := 86) rfl), lw_t8 (List.mem_of_getElem? (i := 87) rfl)⟩
theorem lw_p69 : lw_okq (⟨"MoveNotesModel", "leaps", "(II)V"⟩, 52) := ⟨⟨by decide +kernel, by decide +kernel⟩, lw_t6 (List.mem_of_getElem? (i := 170) rfl), lw_t8 (List.mem_of_getElem? (i := 90) rfl), lw_t8 (List.mem_of_getElem? (i := 91) rfl)⟩
theorem lw_p70 : lw_okq (⟨"MoveNotesModel", "bites", "(III)V"⟩, 52) := ⟨⟨by decide +kernel, by decide +kernel⟩, lw_t6 (List.mem_of_getElem? (i := 170) rfl), lw_t8 (List.mem_of_getElem? (i := 94) rfl), lw_t8 (List.mem_of_getElem? (i := 95) rfl)⟩
theorem lw_p71 : lw_okq (⟨"MoveNotesModel", "manyAt", "(I)I"⟩, 52) := ⟨⟨by decide +kernel, by decide +kernel⟩, lw_t6 (List.mem_of_getElem? (i := 170) rfl), lw_t8 (List.mem_of_getElem? (i := 98) rfl), lw_t8 (List.mem_of_getElem? (i := 99) rfl)⟩
theorem lw_p72 : lw_okq (⟨"MoveNotesModel", "moveAt", "(II)I"⟩, 52) := ⟨⟨by decide +kernel, by decide +kernel⟩, lw_t6 (List.mem_of_getElem? (i := 170) rfl), lw_t8 (List.mem_of_getElem? (i := 102) rfl), lw_t8 (List.mem_of_getElem? (i := 103) rfl)⟩
theorem lw_p73 : lw_okq (⟨"MoveNotesModel", "asksWhole", "()I"⟩, 52) := ⟨⟨by decide +kernel, by decide +kernel⟩, lw_t6 (List.mem_of_getElem? (i := 170) rfl), lw_t8 (List.mem_of_getElem? (i := 110) rfl), lw_t8 (List.mem_of_getElem? (i := 111) rfl)⟩
theorem lw_p74 : lw_okq (⟨"MoveNotesModel", "asksAll", "()V"⟩, 52) := ⟨⟨by decide +kernel, by decide +kernel⟩, lw_t6 (List.mem_of_getElem? (i := 170) rfl), lw_t8 (List.mem_of_getElem? (i := 114) rfl), lw_t8 (List.mem_of_getElem? (i := 115) rfl)⟩
theorem lw_p75 : lw_okq (⟨"MoveNotesModel", "asks", "()I"⟩, 52) := ⟨⟨by decide +kernel, by decide +kernel⟩, lw_t6 (List.mem_of_getElem? (i := 170) rfl), lw_t8 (List.mem_of_getElem? (i := 118) rfl), lw_t8 (List.mem_of_getElem? (i := 119) rfl)⟩
theorem lw_p76 : lw_okq (⟨"MoveNotesModel", "laysAll", "(I)V"⟩, 52) := ⟨⟨by decide +kernel, by decide +kernel⟩, lw_t6 (List.mem_of_getElem? (i := 170) rfl), lw_t8 (List.mem_of_getElem? (i := 122) rfl), lw_t8 (List.mem_of_getElem? (i := 123) rfl)⟩
theorem lw_p77 : lw_okq (⟨"MoveNotesModel", "prices", "(I)V"⟩, 52) := ⟨⟨by decide +kernel, by decide +kernel⟩, lw_t6 (List.mem_of_getElem? (i := 170) rfl), lw_t8 (List.mem_of_getElem? (i := 126) rfl), lw_t8 (List.mem_of_getElem? (i := 127) rfl)⟩
theorem lw_p78 : lw_okq (⟨"MoveNotesModel", "isAsked", "(I)Z"⟩, 52) := ⟨⟨by decide +kernel, by decide +kernel⟩, lw_t6 (List.mem_of_getElem? (i := 170) rfl), lw_t8 (List.mem_of_getElem? (i := 130) rfl), lw_t8 (List.mem_of_getElem? (i := 131) rfl)⟩
theorem lw_p79 : lw_okq (⟨"MoveNotesModel", "sums", "(II)V"⟩, 52) := ⟨⟨by decide +kernel, by decide +kernel⟩, lw_t6 (List.mem_of_getElem? (i := 170) rfl), lw_t8 (List.mem_of_getElem? (i := 134) rfl), lw_t8 (List.mem_of_getElem? (i := 135) rfl)⟩
def lw_privs_5 : List (MethodName × Nat) := [(⟨"MoveNotesModel", "finds", "(II)V"⟩, 52), (⟨"MoveNotesModel", "at", "(II)I"⟩, 52), (⟨"MoveNotesModel", "goes", "(II)V"⟩, 52), (⟨"MoveNotesModel", "along", "(IIIIIZ)V"⟩, 52), (⟨"MoveNotesModel", "may", "(III)V"⟩, 52), (⟨"MoveNotesModel", "leaps", "(II)V"⟩, 52), (⟨"MoveNotesModel", "bites", "(III)V"⟩, 52), (⟨"MoveNotesModel", "manyAt", "(I)I"⟩, 52), (⟨"MoveNotesModel", "moveAt", "(II)I"⟩, 52), (⟨"MoveNotesModel", "asksWhole", "()I"⟩, 52), (⟨"MoveNotesModel", "asksAll", "()V"⟩, 52), (⟨"MoveNotesModel", "asks", "()I"⟩, 52), (⟨"MoveNotesModel", "laysAll", "(I)V"⟩, 52), (⟨"MoveNotesModel", "prices", "(I)V"⟩, 52), (⟨"MoveNotesModel", "isAsked", "(I)Z"⟩, 52), (⟨"MoveNotesModel", "sums", "(II)V"⟩, 52)]
theorem lw_r5 : ∀ q ∈ lw_privs_5, lw_okq q := List.forall_mem_cons.mpr ⟨lw_p64, List.forall_mem_cons.mpr ⟨lw_p65, List.forall_mem_cons.mpr ⟨lw_p66, List.forall_mem_cons.mpr ⟨lw_p67, List.forall_mem_cons.mpr ⟨lw_p68, List.forall_mem_cons.mpr ⟨lw_p69, List.forall_mem_cons.mpr ⟨lw_p70, List.forall_mem_cons.mpr ⟨lw_p71, List.forall_mem_cons.mpr ⟨lw_p72, List.forall_mem_cons.mpr ⟨lw_p73, List.forall_mem_cons.mpr ⟨lw_p74, List.forall_mem_cons.mpr ⟨lw_p75, List.forall_mem_cons.mpr ⟨lw_p76, List.forall_mem_cons.mpr ⟨lw_p77, List.forall_mem_cons.mpr ⟨lw_p78, List.forall_mem_cons.mpr ⟨lw_p79, fun _ h => absurd h List.not_mem_nil⟩⟩⟩⟩⟩⟩⟩⟩⟩⟩⟩⟩⟩⟩⟩⟩
theorem lw_p80 : lw_okq (⟨"MoveNotesModel", "ofMove", "(III)I"⟩, 52) := ⟨⟨by decide +kernel, by decide +kernel⟩, lw_t6 (List.mem_of_getElem? (i := 170) rfl), lw_t8 (List.mem_of_getElem? (i := 138) rfl), lw_t8 (List.mem_of_getElem? (i := 139) rfl)⟩
theorem lw_p81 : lw_okq (⟨"MoveNotesModel", "ofLost", "(III)I"⟩, 52) := ⟨⟨by decide +kernel, by decide +kernel⟩, lw_t6 (List.mem_of_getElem? (i := 170) rfl), lw_t8 (List.mem_of_getElem? (i := 148) rfl), lw_t8 (List.mem_of_getElem? (i := 149) rfl)⟩
theorem lw_p82 : lw_okq (⟨"MoveNotesModel", "ofTwice", "(III)I"⟩, 52) := ⟨⟨by decide +kernel, by decide +kernel⟩, lw_t6 (List.mem_of_getElem? (i := 170) rfl), lw_t8 (List.mem_of_getElem? (i := 152) rfl), lw_t8 (List.mem_of_getElem? (i := 153) rfl)⟩
theorem lw_p83 : lw_okq (⟨"MoveNotesModel", "isTwice", "(II)Z"⟩, 52) := ⟨⟨by decide +kernel, by decide +kernel⟩, lw_t6 (List.mem_of_getElem? (i := 170) rfl), lw_t8 (List.mem_of_getElem? (i := 156) rfl), lw_t8 (List.mem_of_getElem? (i := 157) rfl)⟩
theorem lw_p84 : lw_okq (⟨"MoveNotesModel", "lays", "(II)V"⟩, 52) := ⟨⟨by decide +kernel, by decide +kernel⟩, lw_t6 (List.mem_of_getElem? (i := 170) rfl), lw_t8 (List.mem_of_getElem? (i := 161) rfl), lw_t8 (List.mem_of_getElem? (i := 162) rfl)⟩
theorem lw_p85 : lw_okq (⟨"MoveNotesModel", "measures", "(I)V"⟩, 52) := ⟨⟨by decide +kernel, by decide +kernel⟩, lw_t6 (List.mem_of_getElem? (i := 170) rfl), lw_t8 (List.mem_of_getElem? (i := 166) rfl), lw_t8 (List.mem_of_getElem? (i := 167) rfl)⟩
theorem lw_p86 : lw_okq (⟨"MoveNotesModel", "valueOf", "(I)I"⟩, 52) := ⟨⟨by decide +kernel, by decide +kernel⟩, lw_t6 (List.mem_of_getElem? (i := 170) rfl), lw_t8 (List.mem_of_getElem? (i := 170) rfl), lw_t8 (List.mem_of_getElem? (i := 171) rfl)⟩
theorem lw_p87 : lw_okq (⟨"MoveNotesModel", "measured", "()I"⟩, 52) := ⟨⟨by decide +kernel, by decide +kernel⟩, lw_t6 (List.mem_of_getElem? (i := 170) rfl), lw_t8 (List.mem_of_getElem? (i := 174) rfl), lw_t8 (List.mem_of_getElem? (i := 175) rfl)⟩
theorem lw_p88 : lw_okq (⟨"MoveNotesModel", "holdsLine", "(I)Z"⟩, 52) := ⟨⟨by decide +kernel, by decide +kernel⟩, lw_t6 (List.mem_of_getElem? (i := 170) rfl), lw_t8 (List.mem_of_getElem? (i := 178) rfl), lw_t8 (List.mem_of_getElem? (i := 179) rfl)⟩
theorem lw_p89 : lw_okq (⟨"MoveNotesModel", "meets", "(II)V"⟩, 52) := ⟨⟨by decide +kernel, by decide +kernel⟩, lw_t6 (List.mem_of_getElem? (i := 170) rfl), lw_t8 (List.mem_of_getElem? (i := 182) rfl), lw_t8 (List.mem_of_getElem? (i := 183) rfl)⟩
theorem lw_p90 : lw_okq (⟨"MoveNotesModel", "isBarred", "(I)Z"⟩, 52) := ⟨⟨by decide +kernel, by decide +kernel⟩, lw_t6 (List.mem_of_getElem? (i := 170) rfl), lw_t8 (List.mem_of_getElem? (i := 186) rfl), lw_t8 (List.mem_of_getElem? (i := 187) rfl)⟩
theorem lw_p91 : lw_okq (⟨"MoveNotesModel", "isLongEnough", "(I)Z"⟩, 52) := ⟨⟨by decide +kernel, by decide +kernel⟩, lw_t6 (List.mem_of_getElem? (i := 170) rfl), lw_t8 (List.mem_of_getElem? (i := 190) rfl), lw_t8 (List.mem_of_getElem? (i := 191) rfl)⟩
theorem lw_p92 : lw_okq (⟨"MoveNotesModel", "takes", "([II)I"⟩, 52) := ⟨⟨by decide +kernel, by decide +kernel⟩, lw_t6 (List.mem_of_getElem? (i := 170) rfl), lw_t8 (List.mem_of_getElem? (i := 194) rfl), lw_t8 (List.mem_of_getElem? (i := 195) rfl)⟩
theorem lw_p93 : lw_okq (⟨"MoveNotesModel", "goesOn", "(I)Z"⟩, 52) := ⟨⟨by decide +kernel, by decide +kernel⟩, lw_t6 (List.mem_of_getElem? (i := 170) rfl), lw_t8 (List.mem_of_getElem? (i := 198) rfl), lw_t8 (List.mem_of_getElem? (i := 199) rfl)⟩
theorem lw_p94 : lw_okq (⟨"MoveNotesModel", "makes", "(II)V"⟩, 52) := ⟨⟨by decide +kernel, by decide +kernel⟩, lw_t6 (List.mem_of_getElem? (i := 170) rfl), lw_t8 (List.mem_of_getElem? (i := 202) rfl), lw_t8 (List.mem_of_getElem? (i := 203) rfl)⟩
theorem lw_p95 : lw_okq (⟨"MoveNotesModel", "tries", "(III)V"⟩, 52) := ⟨⟨by decide +kernel, by decide +kernel⟩, lw_t6 (List.mem_of_getElem? (i := 170) rfl), lw_t8 (List.mem_of_getElem? (i := 206) rfl), lw_t8 (List.mem_of_getElem? (i := 207) rfl)⟩
def lw_privs_6 : List (MethodName × Nat) := [(⟨"MoveNotesModel", "ofMove", "(III)I"⟩, 52), (⟨"MoveNotesModel", "ofLost", "(III)I"⟩, 52), (⟨"MoveNotesModel", "ofTwice", "(III)I"⟩, 52), (⟨"MoveNotesModel", "isTwice", "(II)Z"⟩, 52), (⟨"MoveNotesModel", "lays", "(II)V"⟩, 52), (⟨"MoveNotesModel", "measures", "(I)V"⟩, 52), (⟨"MoveNotesModel", "valueOf", "(I)I"⟩, 52), (⟨"MoveNotesModel", "measured", "()I"⟩, 52), (⟨"MoveNotesModel", "holdsLine", "(I)Z"⟩, 52), (⟨"MoveNotesModel", "meets", "(II)V"⟩, 52), (⟨"MoveNotesModel", "isBarred", "(I)Z"⟩, 52), (⟨"MoveNotesModel", "isLongEnough", "(I)Z"⟩, 52), (⟨"MoveNotesModel", "takes", "([II)I"⟩, 52), (⟨"MoveNotesModel", "goesOn", "(I)Z"⟩, 52), (⟨"MoveNotesModel", "makes", "(II)V"⟩, 52), (⟨"MoveNotesModel", "tries", "(III)V"⟩, 52)]
theorem lw_r6 : ∀ q ∈ lw_privs_6, lw_okq q := List.forall_mem_cons.mpr ⟨lw_p80, List.forall_mem_cons.mpr ⟨lw_p81, List.forall_mem_cons.mpr ⟨lw_p82, List.forall_mem_cons.mpr ⟨lw_p83, List.forall_mem_cons.mpr ⟨lw_p84, List.forall_mem_cons.mpr ⟨lw_p85, List.forall_mem_cons.mpr ⟨lw_p86, List.forall_mem_cons.mpr ⟨lw_p87, List.forall_mem_cons.mpr ⟨lw_p88, List.forall_mem_cons.mpr ⟨lw_p89, List.forall_mem_cons.mpr ⟨lw_p90, List.forall_mem_cons.mpr ⟨lw_p91, List.forall_mem_cons.mpr ⟨lw_p92, List.forall_mem_cons.mpr ⟨lw_p93, List.forall_mem_cons.mpr ⟨lw_p94, List.forall_mem_cons.mpr ⟨lw_p95, fun _ h => absurd h List.not_mem_nil⟩⟩⟩⟩⟩⟩⟩⟩⟩⟩⟩⟩⟩⟩⟩⟩
theorem lw_p96 : lw_okq (⟨"MoveNotesModel", "follows", "(I)V"⟩, 52) := ⟨⟨by decide +kernel, by decide +kernel⟩, lw_t6 (List.mem_of_getElem? (i := 170) rfl), lw_t8 (List.mem_of_getElem? (i := 230) rfl), lw_t8 (List.mem_of_getElem? (i := 231) rfl)⟩
theorem lw_p97 : lw_okq (⟨"MoveNotesModel", "draw", "()I"⟩, 52) := ⟨⟨by decide +kernel, by decide +kernel⟩, lw_t6 (List.mem_of_getElem? (i := 170) rfl), lw_t9 (List.mem_of_getElem? (i := 46) rfl), lw_t9 (List.mem_of_getElem? (i := 47) rfl)⟩
def lw_privs_7 : List (MethodName × Nat) := [(⟨"MoveNotesModel", "follows", "(I)V"⟩, 52), (⟨"MoveNotesModel", "draw", "()I"⟩, 52)]
theorem lw_r7 : ∀ q ∈ lw_privs_7, lw_okq q := List.forall_mem_cons.mpr ⟨lw_p96, List.forall_mem_cons.mpr ⟨lw_p97, fun _ h => absurd h List.not_mem_nil⟩⟩
def lw_privs : List (MethodName × Nat) := lw_privs_1 ++ (lw_privs_2 ++ (lw_privs_3 ++ (lw_privs_4 ++ (lw_privs_5 ++ (lw_privs_6 ++ (lw_privs_7))))))
def lw_tbl : List Cond := k2_sels lw_privs ++ tables_1
theorem lw_privs_ok : ∀ q ∈ lw_privs, lw_okq q := by
  show ∀ q ∈ lw_privs_1 ++ (lw_privs_2 ++ (lw_privs_3 ++ (lw_privs_4 ++ (lw_privs_5 ++ (lw_privs_6 ++ (lw_privs_7)))))), lw_okq q
  exact List.forall_mem_append.mpr ⟨lw_r1, List.forall_mem_append.mpr ⟨lw_r2, List.forall_mem_append.mpr ⟨lw_r3, List.forall_mem_append.mpr ⟨lw_r4, List.forall_mem_append.mpr ⟨lw_r5, List.forall_mem_append.mpr ⟨lw_r6, lw_r7⟩⟩⟩⟩⟩⟩
-- ===== ONE list of words for every method: the tables' words that hold all through a run =====
def lw_all : List Cond := lw_tbl.filter goodWord
/-- a word of the tables by its place: claim/WORDS.tsv -/
theorem lw_w {w : Cond} (i : Nat) (h : lw_tbl[i]? = some w) (g : goodWord w = true) : w ∈ lw_all := List.mem_filter.mpr ⟨List.mem_of_getElem? h, g⟩
theorem lw_all_tbl {w : Cond} (h : w ∈ lw_all) : w ∈ lw_tbl := (List.mem_filter.mp h).1
theorem lw_self : GoodIn lw_all lw_all := fun w h => ⟨h, good_of_word (List.mem_filter.mp h).2⟩
/-- a class's field words, by their places -/
theorem lw_in (ws : List Cond) (ps : List Nat) (hp : ws = ps.filterMap (fun i => lw_tbl[i]?)) (hg : ws.all goodWord = true) : ∀ w ∈ ws, w ∈ lw_all := by
  intro w h
  have h1 := List.all_eq_true.mp hg w h
  rw [hp] at h
  obtain ⟨i, -, hi⟩ := List.mem_filterMap.mp h
  exact lw_w i hi h1
/-- the words of a contract for the method y with code b, L locals, answer r -/
abbrev ws_ (y : MethodName) (b : ByteArray) (L : Nat) (r : Option FieldType) : List Cond := Cond.code y b L r :: lw_all
theorem lw_meth {y : MethodName} {b : ByteArray} {L : Nat} {r : Option FieldType} (h : Cond.code y b L r ∈ lw_all) : GoodIn lw_all (ws_ y b L r) := by
  intro w hw
  rcases List.mem_cons.mp hw with e | e
  · rw [e]
    exact lw_self _ h
  · exact lw_self _ e
theorem lw_app {a c : List Cond} (ha : ∀ w ∈ a, w ∈ lw_all) (hc : GoodIn lw_all c) : GoodIn lw_all (a ++ c) := by
  intro w hw
  rcases List.mem_append.mp hw with e | e
  · exact lw_self w (ha w e)
  · exact hc w e
/-- what a call through an object asks: cwV n hts (lw_V ..) -/
theorem lw_V {own : String} {idx : Nat} {C : String} {y : MethodName} {b : ByteArray} {L : Nat} {r : Option FieldType} (h1 : Cond.methodLink own idx y ∈ lw_all) (h2 : Cond.instanceMethod y ∈ lw_all) (h3 : Cond.selects C y y ∈ lw_all) (h4 : Cond.initialized C ∈ lw_all) (h5 : Cond.code y b L r ∈ lw_all) : GoodIn lw_all (wsV own idx C y (ws_ y b L r)) := by
  refine lw_app ?_ (lw_meth h5)
  intro w hw
  simp only [List.mem_cons, List.not_mem_nil, or_false] at hw
  rcases hw with e | e | e | e
  · rw [e]; exact h1
  · rw [e]; exact h2
  · rw [e]; exact h3
  · rw [e]; exact h4
/-- what a static call asks: va_cwS n hts (lw_S ..) -/
theorem lw_S {own : String} {idx : Nat} {y : MethodName} {b : ByteArray} {L : Nat} {r : Option FieldType} (h1 : Cond.methodLink own idx y ∈ lw_all) (h2 : Cond.static y ∈ lw_all) (h3 : Cond.initialized y.cls ∈ lw_all) (h4 : Cond.code y b L r ∈ lw_all) : GoodIn lw_all (va_wsS own idx y (ws_ y b L r)) := by
  refine lw_app ?_ (lw_meth h4)
  intro w hw
  simp only [List.mem_cons, List.not_mem_nil, or_false] at hw
  rcases hw with e | e | e
  · rw [e]; exact h1
  · rw [e]; exact h2
  · rw [e]; exact h3
/-- the words of a contract for a method WITH HANDLERS (hh: its table) -/
abbrev wsW_ (y : MethodName) (b : ByteArray) (L : Nat) (r : Option FieldType) (hh : List (Nat × Nat × Nat × Nat)) : List Cond := Cond.codeWith y b L r hh :: lw_all
theorem lw_methW {y : MethodName} {b : ByteArray} {L : Nat} {r : Option FieldType} {hh : List (Nat × Nat × Nat × Nat)} (h : Cond.codeWith y b L r hh ∈ lw_all) : GoodIn lw_all (wsW_ y b L r hh) := by
  intro w hw
  rcases List.mem_cons.mp hw with e | e
  · rw [e]
    exact lw_self _ h
  · exact lw_self _ e
/-- any list of words by their places (lw_in), good -/
theorem lw_good {ws : List Cond} (h : ∀ w ∈ ws, w ∈ lw_all) : GoodIn lw_all ws := fun w hw => lw_self w (h w hw)
/-- what a call of a method with handlers asks: vx_cwVW n hts (lw_VW ..), vx_cwSW n hts (lw_SW ..) -/
theorem lw_VW {own : String} {idx : Nat} {C : String} {y : MethodName} {b : ByteArray} {L : Nat} {r : Option FieldType} {hh : List (Nat × Nat × Nat × Nat)} (h1 : Cond.methodLink own idx y ∈ lw_all) (h2 : Cond.instanceMethod y ∈ lw_all) (h3 : Cond.selects C y y ∈ lw_all) (h4 : Cond.initialized C ∈ lw_all) (h5 : Cond.codeWith y b L r hh ∈ lw_all) : GoodIn lw_all (wsV own idx C y (wsW_ y b L r hh)) := by
  refine lw_app ?_ (lw_methW h5)
  intro w hw
  simp only [List.mem_cons, List.not_mem_nil, or_false] at hw
  rcases hw with e | e | e | e
  · rw [e]; exact h1
  · rw [e]; exact h2
  · rw [e]; exact h3
  · rw [e]; exact h4
theorem lw_SW {own : String} {idx : Nat} {y : MethodName} {b : ByteArray} {L : Nat} {r : Option FieldType} {hh : List (Nat × Nat × Nat × Nat)} (h1 : Cond.methodLink own idx y ∈ lw_all) (h2 : Cond.static y ∈ lw_all) (h3 : Cond.initialized y.cls ∈ lw_all) (h4 : Cond.codeWith y b L r hh ∈ lw_all) : GoodIn lw_all (va_wsS own idx y (wsW_ y b L r hh)) := by
  refine lw_app ?_ (lw_methW h4)
  intro w hw
  simp only [List.mem_cons, List.not_mem_nil, or_false] at hw
  rcases hw with e | e | e
  · rw [e]; exact h1
  · rw [e]; exact h2
  · rw [e]; exact h3
/-- a word by its place in its run of the tables -/
theorem lw_at {r : List Cond} (hr : ∀ w ∈ r, w ∈ lw_tbl) {w : Cond} (i : Nat) (h : r[i]? = some w) : w ∈ lw_tbl := hr w (List.mem_of_getElem? h)
theorem lw_g {w : Cond} (h : w ∈ lw_tbl) (g : goodWord w = true) : w ∈ lw_all := List.mem_filter.mpr ⟨h, g⟩
theorem lw_ms : ∀ w ∈ k2_sels lw_privs, w ∈ lw_tbl := fun w h => show w ∈ k2_sels lw_privs ++ tables_1 from List.mem_append_left _ h
theorem lw_m1 : ∀ w ∈ tables_1_1, w ∈ lw_tbl := fun w h => show w ∈ k2_sels lw_privs ++ tables_1 from List.mem_append_right (k2_sels lw_privs) (show w ∈ tables_1 from List.mem_append_left _ h)
theorem lw_m2 : ∀ w ∈ tables_1_2, w ∈ lw_tbl := fun w h => show w ∈ k2_sels lw_privs ++ tables_1 from List.mem_append_right (k2_sels lw_privs) (show w ∈ tables_1 from List.mem_append_right _ (List.mem_append_left _ h))
theorem lw_m3 : ∀ w ∈ tables_1_3, w ∈ lw_tbl := fun w h => show w ∈ k2_sels lw_privs ++ tables_1 from List.mem_append_right (k2_sels lw_privs) (show w ∈ tables_1 from List.mem_append_right _ (List.mem_append_right _ (List.mem_append_left _ h)))
theorem lw_m4 : ∀ w ∈ tables_1_4, w ∈ lw_tbl := fun w h => show w ∈ k2_sels lw_privs ++ tables_1 from List.mem_append_right (k2_sels lw_privs) (show w ∈ tables_1 from List.mem_append_right _ (List.mem_append_right _ (List.mem_append_right _ (List.mem_append_left _ h))))
theorem lw_m5 : ∀ w ∈ tables_1_5, w ∈ lw_tbl := fun w h => show w ∈ k2_sels lw_privs ++ tables_1 from List.mem_append_right (k2_sels lw_privs) (show w ∈ tables_1 from List.mem_append_right _ (List.mem_append_right _ (List.mem_append_right _ (List.mem_append_right _ (List.mem_append_left _ h)))))
theorem lw_m6 : ∀ w ∈ tables_1_6, w ∈ lw_tbl := fun w h => show w ∈ k2_sels lw_privs ++ tables_1 from List.mem_append_right (k2_sels lw_privs) (show w ∈ tables_1 from List.mem_append_right _ (List.mem_append_right _ (List.mem_append_right _ (List.mem_append_right _ (List.mem_append_right _ (List.mem_append_left _ h))))))
theorem lw_m7 : ∀ w ∈ tables_1_7, w ∈ lw_tbl := fun w h => show w ∈ k2_sels lw_privs ++ tables_1 from List.mem_append_right (k2_sels lw_privs) (show w ∈ tables_1 from List.mem_append_right _ (List.mem_append_right _ (List.mem_append_right _ (List.mem_append_right _ (List.mem_append_right _ (List.mem_append_right _ (List.mem_append_left _ h)))))))
theorem lw_m8 : ∀ w ∈ tables_1_8, w ∈ lw_tbl := fun w h => show w ∈ k2_sels lw_privs ++ tables_1 from List.mem_append_right (k2_sels lw_privs) (show w ∈ tables_1 from List.mem_append_right _ (List.mem_append_right _ (List.mem_append_right _ (List.mem_append_right _ (List.mem_append_right _ (List.mem_append_right _ (List.mem_append_right _ (List.mem_append_left _ h))))))))
theorem lw_m9 : ∀ w ∈ tables_1_9, w ∈ lw_tbl := fun w h => show w ∈ k2_sels lw_privs ++ tables_1 from List.mem_append_right (k2_sels lw_privs) (show w ∈ tables_1 from List.mem_append_right _ (List.mem_append_right _ (List.mem_append_right _ (List.mem_append_right _ (List.mem_append_right _ (List.mem_append_right _ (List.mem_append_right _ (List.mem_append_right _ h))))))))
theorem qs0 : (Cond.selects "java/lang/Throwable" ⟨"java/lang/Throwable", "fillInStackTrace", "(I)Ljava/lang/Throwable;"⟩ ⟨"java/lang/Throwable", "fillInStackTrace", "(I)Ljava/lang/Throwable;"⟩) ∈ lw_all := lw_g (lw_at lw_ms 0 rfl) rfl
theorem qs1 : (Cond.selects "MoveNotes" ⟨"MoveNotes", "four", "(I)V"⟩ ⟨"MoveNotes", "four", "(I)V"⟩) ∈ lw_all := lw_g (lw_at lw_ms 1 rfl) rfl
theorem qs2 : (Cond.selects "MoveNotes" ⟨"MoveNotes", "reads", "()I"⟩ ⟨"MoveNotes", "reads", "()I"⟩) ∈ lw_all := lw_g (lw_at lw_ms 2 rfl) rfl
theorem qs3 : (Cond.selects "MoveNotes" ⟨"MoveNotes", "allBooks", "()I"⟩ ⟨"MoveNotes", "allBooks", "()I"⟩) ∈ lw_all := lw_g (lw_at lw_ms 3 rfl) rfl
theorem qs4 : (Cond.selects "MoveNotes$Search" ⟨"MoveNotes$Search", "begins", "(IZ)V"⟩ ⟨"MoveNotes$Search", "begins", "(IZ)V"⟩) ∈ lw_all := lw_g (lw_at lw_ms 4 rfl) rfl
theorem qs5 : (Cond.selects "MoveNotes$Search" ⟨"MoveNotes$Search", "walks", "(I)V"⟩ ⟨"MoveNotes$Search", "walks", "(I)V"⟩) ∈ lw_all := lw_g (lw_at lw_ms 5 rfl) rfl
theorem qs6 : (Cond.selects "MoveNotes$Search" ⟨"MoveNotes$Search", "goes", "(I)V"⟩ ⟨"MoveNotes$Search", "goes", "(I)V"⟩) ∈ lw_all := lw_g (lw_at lw_ms 6 rfl) rfl
theorem qs7 : (Cond.selects "MoveNotes$Search" ⟨"MoveNotes$Search", "bars", "(I)Z"⟩ ⟨"MoveNotes$Search", "bars", "(I)Z"⟩) ∈ lw_all := lw_g (lw_at lw_ms 7 rfl) rfl
theorem qs8 : (Cond.selects "MoveNotes$Search" ⟨"MoveNotes$Search", "isReading", "(I)Z"⟩ ⟨"MoveNotes$Search", "isReading", "(I)Z"⟩) ∈ lw_all := lw_g (lw_at lw_ms 8 rfl) rfl
theorem qs9 : (Cond.selects "MoveNotes$Search" ⟨"MoveNotes$Search", "isIn", "(I)Z"⟩ ⟨"MoveNotes$Search", "isIn", "(I)Z"⟩) ∈ lw_all := lw_g (lw_at lw_ms 9 rfl) rfl
theorem qs10 : (Cond.selects "MoveNotes$Search" ⟨"MoveNotes$Search", "found", "(I)V"⟩ ⟨"MoveNotes$Search", "found", "(I)V"⟩) ∈ lw_all := lw_g (lw_at lw_ms 10 rfl) rfl
theorem qs11 : (Cond.selects "MoveNotes$Search" ⟨"MoveNotes$Search", "played", "(I)I"⟩ ⟨"MoveNotes$Search", "played", "(I)I"⟩) ∈ lw_all := lw_g (lw_at lw_ms 11 rfl) rfl
theorem qs12 : (Cond.selects "MoveNotes$Search" ⟨"MoveNotes$Search", "isTaken", "(II)Z"⟩ ⟨"MoveNotes$Search", "isTaken", "(II)Z"⟩) ∈ lw_all := lw_g (lw_at lw_ms 12 rfl) rfl
theorem qs13 : (Cond.selects "MoveNotes$Search" ⟨"MoveNotes$Search", "leads", "(LMoveNotes$Book;[I[IIII)I"⟩ ⟨"MoveNotes$Search", "leads", "(LMoveNotes$Book;[I[IIII)I"⟩) ∈ lw_all := lw_g (lw_at lw_ms 13 rfl) rfl
theorem qs14 : (Cond.selects "MoveNotes$Search" ⟨"MoveNotes$Search", "cost", "(LMoveNotes$Book;IIII)I"⟩ ⟨"MoveNotes$Search", "cost", "(LMoveNotes$Book;IIII)I"⟩) ∈ lw_all := lw_g (lw_at lw_ms 14 rfl) rfl
theorem qs15 : (Cond.selects "MoveNotes" ⟨"MoveNotes", "lays", "(I)V"⟩ ⟨"MoveNotes", "lays", "(I)V"⟩) ∈ lw_all := lw_g (lw_at lw_ms 15 rfl) rfl
theorem qs16 : (Cond.selects "MoveNotes" ⟨"MoveNotes", "use", "()I"⟩ ⟨"MoveNotes", "use", "()I"⟩) ∈ lw_all := lw_g (lw_at lw_ms 16 rfl) rfl
theorem qs17 : (Cond.selects "MoveNotes$Reader" ⟨"MoveNotes$Reader", "lines", "(IZ)I"⟩ ⟨"MoveNotes$Reader", "lines", "(IZ)I"⟩) ∈ lw_all := lw_g (lw_at lw_ms 17 rfl) rfl
theorem qs18 : (Cond.selects "MoveNotes$Reader" ⟨"MoveNotes$Reader", "sign", "()I"⟩ ⟨"MoveNotes$Reader", "sign", "()I"⟩) ∈ lw_all := lw_g (lw_at lw_ms 18 rfl) rfl
theorem qs19 : (Cond.selects "MoveNotes$Reader" ⟨"MoveNotes$Reader", "fail", "(I)V"⟩ ⟨"MoveNotes$Reader", "fail", "(I)V"⟩) ∈ lw_all := lw_g (lw_at lw_ms 19 rfl) rfl
theorem qs20 : (Cond.selects "MoveNotes$Reader" ⟨"MoveNotes$Reader", "going", "()LMoveNotes$Going;"⟩ ⟨"MoveNotes$Reader", "going", "()LMoveNotes$Going;"⟩) ∈ lw_all := lw_g (lw_at lw_ms 20 rfl) rfl
theorem qs21 : (Cond.selects "MoveNotes$Reader" ⟨"MoveNotes$Reader", "takes", "(Ljava/lang/String;)Z"⟩ ⟨"MoveNotes$Reader", "takes", "(Ljava/lang/String;)Z"⟩) ∈ lw_all := lw_g (lw_at lw_ms 21 rfl) rfl
theorem qs22 : (Cond.selects "MoveNotes$Reader" ⟨"MoveNotes$Reader", "number", "(II)I"⟩ ⟨"MoveNotes$Reader", "number", "(II)I"⟩) ∈ lw_all := lw_g (lw_at lw_ms 22 rfl) rfl
theorem qs23 : (Cond.selects "MoveNotes$Reader" ⟨"MoveNotes$Reader", "playLine", "()LMoveNotes$PlayLine;"⟩ ⟨"MoveNotes$Reader", "playLine", "()LMoveNotes$PlayLine;"⟩) ∈ lw_all := lw_g (lw_at lw_ms 23 rfl) rfl
theorem qs24 : (Cond.selects "MoveNotes$Reader" ⟨"MoveNotes$Reader", "fact", "()I"⟩ ⟨"MoveNotes$Reader", "fact", "()I"⟩) ∈ lw_all := lw_g (lw_at lw_ms 24 rfl) rfl
theorem qs25 : (Cond.selects "MoveNotes$Reader" ⟨"MoveNotes$Reader", "row", "(Z)LMoveNotes$Cond;"⟩ ⟨"MoveNotes$Reader", "row", "(Z)LMoveNotes$Cond;"⟩) ∈ lw_all := lw_g (lw_at lw_ms 25 rfl) rfl
theorem qs26 : (Cond.selects "MoveNotes$Reader" ⟨"MoveNotes$Reader", "atom", "()LMoveNotes$Cond;"⟩ ⟨"MoveNotes$Reader", "atom", "()LMoveNotes$Cond;"⟩) ∈ lw_all := lw_g (lw_at lw_ms 26 rfl) rfl
theorem qs27 : (Cond.selects "MoveNotes$Reader" ⟨"MoveNotes$Reader", "tag", "()LMoveNotes$Cond;"⟩ ⟨"MoveNotes$Reader", "tag", "()LMoveNotes$Cond;"⟩) ∈ lw_all := lw_g (lw_at lw_ms 27 rfl) rfl
theorem qs28 : (Cond.selects "MoveNotes$Reader" ⟨"MoveNotes$Reader", "sum", "()LMoveNotes$Sum;"⟩ ⟨"MoveNotes$Reader", "sum", "()LMoveNotes$Sum;"⟩) ∈ lw_all := lw_g (lw_at lw_ms 28 rfl) rfl
theorem qs29 : (Cond.selects "MoveNotes$Reader" ⟨"MoveNotes$Reader", "part", "(LMoveNotes$Sum;)V"⟩ ⟨"MoveNotes$Reader", "part", "(LMoveNotes$Sum;)V"⟩) ∈ lw_all := lw_g (lw_at lw_ms 29 rfl) rfl
theorem qs30 : (Cond.selects "MoveNotes" ⟨"MoveNotes", "isKind", "(II)V"⟩ ⟨"MoveNotes", "isKind", "(II)V"⟩) ∈ lw_all := lw_g (lw_at lw_ms 30 rfl) rfl
theorem qs31 : (Cond.selects "MoveNotes" ⟨"MoveNotes", "newBook", "(I)I"⟩ ⟨"MoveNotes", "newBook", "(I)I"⟩) ∈ lw_all := lw_g (lw_at lw_ms 31 rfl) rfl
theorem qs32 : (Cond.selects "MoveNotes" ⟨"MoveNotes", "bookAt", "(I)LMoveNotes$Book;"⟩ ⟨"MoveNotes", "bookAt", "(I)LMoveNotes$Book;"⟩) ∈ lw_all := lw_g (lw_at lw_ms 32 rfl) rfl
theorem qs33 : (Cond.selects "MoveNotes" ⟨"MoveNotes", "isNote", "(II)V"⟩ ⟨"MoveNotes", "isNote", "(II)V"⟩) ∈ lw_all := lw_g (lw_at lw_ms 33 rfl) rfl
theorem qs34 : (Cond.selects "MoveNotes" ⟨"MoveNotes", "draw", "()I"⟩ ⟨"MoveNotes", "draw", "()I"⟩) ∈ lw_all := lw_g (lw_at lw_ms 34 rfl) rfl
theorem qs35 : (Cond.selects "MoveNotesModel" ⟨"MoveNotesModel", "readAll", "(Z)I"⟩ ⟨"MoveNotesModel", "readAll", "(Z)I"⟩) ∈ lw_all := lw_g (lw_at lw_ms 35 rfl) rfl
theorem qs36 : (Cond.selects "MoveNotesModel" ⟨"MoveNotesModel", "blanks", "()V"⟩ ⟨"MoveNotesModel", "blanks", "()V"⟩) ∈ lw_all := lw_g (lw_at lw_ms 36 rfl) rfl
theorem qs37 : (Cond.selects "MoveNotesModel" ⟨"MoveNotesModel", "isAt", "(II)Z"⟩ ⟨"MoveNotesModel", "isAt", "(II)Z"⟩) ∈ lw_all := lw_g (lw_at lw_ms 37 rfl) rfl
theorem qs38 : (Cond.selects "MoveNotesModel" ⟨"MoveNotesModel", "letters", "()V"⟩ ⟨"MoveNotesModel", "letters", "()V"⟩) ∈ lw_all := lw_g (lw_at lw_ms 38 rfl) rfl
theorem qs39 : (Cond.selects "MoveNotesModel" ⟨"MoveNotesModel", "readKindLine", "(I)Z"⟩ ⟨"MoveNotesModel", "readKindLine", "(I)Z"⟩) ∈ lw_all := lw_g (lw_at lw_ms 39 rfl) rfl
theorem qs40 : (Cond.selects "MoveNotesModel" ⟨"MoveNotesModel", "isWord", "(Ljava/lang/String;)Z"⟩ ⟨"MoveNotesModel", "isWord", "(Ljava/lang/String;)Z"⟩) ∈ lw_all := lw_g (lw_at lw_ms 40 rfl) rfl
theorem qs41 : (Cond.selects "MoveNotesModel" ⟨"MoveNotesModel", "number", "(II)I"⟩ ⟨"MoveNotesModel", "number", "(II)I"⟩) ∈ lw_all := lw_g (lw_at lw_ms 41 rfl) rfl
theorem qs42 : (Cond.selects "MoveNotesModel" ⟨"MoveNotesModel", "readMeasureLine", "(I)Z"⟩ ⟨"MoveNotesModel", "readMeasureLine", "(I)Z"⟩) ∈ lw_all := lw_g (lw_at lw_ms 42 rfl) rfl
theorem qs43 : (Cond.selects "MoveNotesModel" ⟨"MoveNotesModel", "keepsAt", "(II)Z"⟩ ⟨"MoveNotesModel", "keepsAt", "(II)Z"⟩) ∈ lw_all := lw_g (lw_at lw_ms 43 rfl) rfl
theorem qs44 : (Cond.selects "MoveNotesModel" ⟨"MoveNotesModel", "sign", "(I)Z"⟩ ⟨"MoveNotesModel", "sign", "(I)Z"⟩) ∈ lw_all := lw_g (lw_at lw_ms 44 rfl) rfl
theorem qs45 : (Cond.selects "MoveNotesModel" ⟨"MoveNotesModel", "factAt", "()I"⟩ ⟨"MoveNotesModel", "factAt", "()I"⟩) ∈ lw_all := lw_g (lw_at lw_ms 45 rfl) rfl
theorem qs46 : (Cond.selects "MoveNotesModel" ⟨"MoveNotesModel", "passes", "(Ljava/lang/String;)Z"⟩ ⟨"MoveNotesModel", "passes", "(Ljava/lang/String;)Z"⟩) ∈ lw_all := lw_g (lw_at lw_ms 46 rfl) rfl
theorem qs47 : (Cond.selects "MoveNotesModel" ⟨"MoveNotesModel", "readCond", "()Z"⟩ ⟨"MoveNotesModel", "readCond", "()Z"⟩) ∈ lw_all := lw_g (lw_at lw_ms 47 rfl) rfl
theorem qs48 : (Cond.selects "MoveNotesModel" ⟨"MoveNotesModel", "readAllOf", "()Z"⟩ ⟨"MoveNotesModel", "readAllOf", "()Z"⟩) ∈ lw_all := lw_g (lw_at lw_ms 48 rfl) rfl
theorem qs49 : (Cond.selects "MoveNotesModel" ⟨"MoveNotesModel", "readAtom", "()Z"⟩ ⟨"MoveNotesModel", "readAtom", "()Z"⟩) ∈ lw_all := lw_g (lw_at lw_ms 49 rfl) rfl
theorem qs50 : (Cond.selects "MoveNotesModel" ⟨"MoveNotesModel", "emits", "(II)V"⟩ ⟨"MoveNotesModel", "emits", "(II)V"⟩) ∈ lw_all := lw_g (lw_at lw_ms 50 rfl) rfl
theorem qs51 : (Cond.selects "MoveNotesModel" ⟨"MoveNotesModel", "readSum", "()Z"⟩ ⟨"MoveNotesModel", "readSum", "()Z"⟩) ∈ lw_all := lw_g (lw_at lw_ms 51 rfl) rfl
theorem qs52 : (Cond.selects "MoveNotesModel" ⟨"MoveNotesModel", "readPart", "()Z"⟩ ⟨"MoveNotesModel", "readPart", "()Z"⟩) ∈ lw_all := lw_g (lw_at lw_ms 52 rfl) rfl
theorem qs53 : (Cond.selects "MoveNotesModel" ⟨"MoveNotesModel", "throwsIf", "(ZI)Z"⟩ ⟨"MoveNotesModel", "throwsIf", "(ZI)Z"⟩) ∈ lw_all := lw_g (lw_at lw_ms 53 rfl) rfl
theorem qs54 : (Cond.selects "MoveNotesModel" ⟨"MoveNotesModel", "noKind", "(I)Z"⟩ ⟨"MoveNotesModel", "noKind", "(I)Z"⟩) ∈ lw_all := lw_g (lw_at lw_ms 54 rfl) rfl
theorem qs55 : (Cond.selects "MoveNotesModel" ⟨"MoveNotesModel", "none", "(II)Z"⟩ ⟨"MoveNotesModel", "none", "(II)Z"⟩) ∈ lw_all := lw_g (lw_at lw_ms 55 rfl) rfl
theorem qs56 : (Cond.selects "MoveNotesModel" ⟨"MoveNotesModel", "noBook", "(I)Z"⟩ ⟨"MoveNotesModel", "noBook", "(I)Z"⟩) ∈ lw_all := lw_g (lw_at lw_ms 56 rfl) rfl
theorem qs57 : (Cond.selects "MoveNotesModel" ⟨"MoveNotesModel", "notes", "(I)I"⟩ ⟨"MoveNotesModel", "notes", "(I)I"⟩) ∈ lw_all := lw_g (lw_at lw_ms 57 rfl) rfl
theorem qs58 : (Cond.selects "MoveNotesModel" ⟨"MoveNotesModel", "ofBook", "(II)I"⟩ ⟨"MoveNotesModel", "ofBook", "(II)I"⟩) ∈ lw_all := lw_g (lw_at lw_ms 58 rfl) rfl
theorem qs59 : (Cond.selects "MoveNotesModel" ⟨"MoveNotesModel", "addsNote", "(IIIII)I"⟩ ⟨"MoveNotesModel", "addsNote", "(IIIII)I"⟩) ∈ lw_all := lw_g (lw_at lw_ms 59 rfl) rfl
theorem qs60 : (Cond.selects "MoveNotesModel" ⟨"MoveNotesModel", "setsNote", "(IIIIII)V"⟩ ⟨"MoveNotesModel", "setsNote", "(IIIIII)V"⟩) ∈ lw_all := lw_g (lw_at lw_ms 60 rfl) rfl
theorem qs61 : (Cond.selects "MoveNotesModel" ⟨"MoveNotesModel", "noNote", "(II)Z"⟩ ⟨"MoveNotesModel", "noNote", "(II)Z"⟩) ∈ lw_all := lw_g (lw_at lw_ms 61 rfl) rfl
theorem qs62 : (Cond.selects "MoveNotesModel" ⟨"MoveNotesModel", "ofNote", "(III)I"⟩ ⟨"MoveNotesModel", "ofNote", "(III)I"⟩) ∈ lw_all := lw_g (lw_at lw_ms 62 rfl) rfl
theorem qs63 : (Cond.selects "MoveNotesModel" ⟨"MoveNotesModel", "begins", "()V"⟩ ⟨"MoveNotesModel", "begins", "()V"⟩) ∈ lw_all := lw_g (lw_at lw_ms 63 rfl) rfl
theorem qs64 : (Cond.selects "MoveNotesModel" ⟨"MoveNotesModel", "finds", "(II)V"⟩ ⟨"MoveNotesModel", "finds", "(II)V"⟩) ∈ lw_all := lw_g (lw_at lw_ms 64 rfl) rfl
theorem qs65 : (Cond.selects "MoveNotesModel" ⟨"MoveNotesModel", "at", "(II)I"⟩ ⟨"MoveNotesModel", "at", "(II)I"⟩) ∈ lw_all := lw_g (lw_at lw_ms 65 rfl) rfl
theorem qs66 : (Cond.selects "MoveNotesModel" ⟨"MoveNotesModel", "goes", "(II)V"⟩ ⟨"MoveNotesModel", "goes", "(II)V"⟩) ∈ lw_all := lw_g (lw_at lw_ms 66 rfl) rfl
theorem qs67 : (Cond.selects "MoveNotesModel" ⟨"MoveNotesModel", "along", "(IIIIIZ)V"⟩ ⟨"MoveNotesModel", "along", "(IIIIIZ)V"⟩) ∈ lw_all := lw_g (lw_at lw_ms 67 rfl) rfl
theorem qs68 : (Cond.selects "MoveNotesModel" ⟨"MoveNotesModel", "may", "(III)V"⟩ ⟨"MoveNotesModel", "may", "(III)V"⟩) ∈ lw_all := lw_g (lw_at lw_ms 68 rfl) rfl
theorem qs69 : (Cond.selects "MoveNotesModel" ⟨"MoveNotesModel", "leaps", "(II)V"⟩ ⟨"MoveNotesModel", "leaps", "(II)V"⟩) ∈ lw_all := lw_g (lw_at lw_ms 69 rfl) rfl
theorem qs70 : (Cond.selects "MoveNotesModel" ⟨"MoveNotesModel", "bites", "(III)V"⟩ ⟨"MoveNotesModel", "bites", "(III)V"⟩) ∈ lw_all := lw_g (lw_at lw_ms 70 rfl) rfl
theorem qs71 : (Cond.selects "MoveNotesModel" ⟨"MoveNotesModel", "manyAt", "(I)I"⟩ ⟨"MoveNotesModel", "manyAt", "(I)I"⟩) ∈ lw_all := lw_g (lw_at lw_ms 71 rfl) rfl
theorem qs72 : (Cond.selects "MoveNotesModel" ⟨"MoveNotesModel", "moveAt", "(II)I"⟩ ⟨"MoveNotesModel", "moveAt", "(II)I"⟩) ∈ lw_all := lw_g (lw_at lw_ms 72 rfl) rfl
theorem qs73 : (Cond.selects "MoveNotesModel" ⟨"MoveNotesModel", "asksWhole", "()I"⟩ ⟨"MoveNotesModel", "asksWhole", "()I"⟩) ∈ lw_all := lw_g (lw_at lw_ms 73 rfl) rfl
theorem qs74 : (Cond.selects "MoveNotesModel" ⟨"MoveNotesModel", "asksAll", "()V"⟩ ⟨"MoveNotesModel", "asksAll", "()V"⟩) ∈ lw_all := lw_g (lw_at lw_ms 74 rfl) rfl
theorem qs75 : (Cond.selects "MoveNotesModel" ⟨"MoveNotesModel", "asks", "()I"⟩ ⟨"MoveNotesModel", "asks", "()I"⟩) ∈ lw_all := lw_g (lw_at lw_ms 75 rfl) rfl
theorem qs76 : (Cond.selects "MoveNotesModel" ⟨"MoveNotesModel", "laysAll", "(I)V"⟩ ⟨"MoveNotesModel", "laysAll", "(I)V"⟩) ∈ lw_all := lw_g (lw_at lw_ms 76 rfl) rfl
theorem qs77 : (Cond.selects "MoveNotesModel" ⟨"MoveNotesModel", "prices", "(I)V"⟩ ⟨"MoveNotesModel", "prices", "(I)V"⟩) ∈ lw_all := lw_g (lw_at lw_ms 77 rfl) rfl
theorem qs78 : (Cond.selects "MoveNotesModel" ⟨"MoveNotesModel", "isAsked", "(I)Z"⟩ ⟨"MoveNotesModel", "isAsked", "(I)Z"⟩) ∈ lw_all := lw_g (lw_at lw_ms 78 rfl) rfl
theorem qs79 : (Cond.selects "MoveNotesModel" ⟨"MoveNotesModel", "sums", "(II)V"⟩ ⟨"MoveNotesModel", "sums", "(II)V"⟩) ∈ lw_all := lw_g (lw_at lw_ms 79 rfl) rfl
theorem qs80 : (Cond.selects "MoveNotesModel" ⟨"MoveNotesModel", "ofMove", "(III)I"⟩ ⟨"MoveNotesModel", "ofMove", "(III)I"⟩) ∈ lw_all := lw_g (lw_at lw_ms 80 rfl) rfl
theorem qs81 : (Cond.selects "MoveNotesModel" ⟨"MoveNotesModel", "ofLost", "(III)I"⟩ ⟨"MoveNotesModel", "ofLost", "(III)I"⟩) ∈ lw_all := lw_g (lw_at lw_ms 81 rfl) rfl
theorem qs82 : (Cond.selects "MoveNotesModel" ⟨"MoveNotesModel", "ofTwice", "(III)I"⟩ ⟨"MoveNotesModel", "ofTwice", "(III)I"⟩) ∈ lw_all := lw_g (lw_at lw_ms 82 rfl) rfl
theorem qs83 : (Cond.selects "MoveNotesModel" ⟨"MoveNotesModel", "isTwice", "(II)Z"⟩ ⟨"MoveNotesModel", "isTwice", "(II)Z"⟩) ∈ lw_all := lw_g (lw_at lw_ms 83 rfl) rfl
theorem qs84 : (Cond.selects "MoveNotesModel" ⟨"MoveNotesModel", "lays", "(II)V"⟩ ⟨"MoveNotesModel", "lays", "(II)V"⟩) ∈ lw_all := lw_g (lw_at lw_ms 84 rfl) rfl
theorem qs85 : (Cond.selects "MoveNotesModel" ⟨"MoveNotesModel", "measures", "(I)V"⟩ ⟨"MoveNotesModel", "measures", "(I)V"⟩) ∈ lw_all := lw_g (lw_at lw_ms 85 rfl) rfl
theorem qs86 : (Cond.selects "MoveNotesModel" ⟨"MoveNotesModel", "valueOf", "(I)I"⟩ ⟨"MoveNotesModel", "valueOf", "(I)I"⟩) ∈ lw_all := lw_g (lw_at lw_ms 86 rfl) rfl
theorem qs87 : (Cond.selects "MoveNotesModel" ⟨"MoveNotesModel", "measured", "()I"⟩ ⟨"MoveNotesModel", "measured", "()I"⟩) ∈ lw_all := lw_g (lw_at lw_ms 87 rfl) rfl
theorem qs88 : (Cond.selects "MoveNotesModel" ⟨"MoveNotesModel", "holdsLine", "(I)Z"⟩ ⟨"MoveNotesModel", "holdsLine", "(I)Z"⟩) ∈ lw_all := lw_g (lw_at lw_ms 88 rfl) rfl
theorem qs89 : (Cond.selects "MoveNotesModel" ⟨"MoveNotesModel", "meets", "(II)V"⟩ ⟨"MoveNotesModel", "meets", "(II)V"⟩) ∈ lw_all := lw_g (lw_at lw_ms 89 rfl) rfl
theorem qs90 : (Cond.selects "MoveNotesModel" ⟨"MoveNotesModel", "isBarred", "(I)Z"⟩ ⟨"MoveNotesModel", "isBarred", "(I)Z"⟩) ∈ lw_all := lw_g (lw_at lw_ms 90 rfl) rfl
theorem qs91 : (Cond.selects "MoveNotesModel" ⟨"MoveNotesModel", "isLongEnough", "(I)Z"⟩ ⟨"MoveNotesModel", "isLongEnough", "(I)Z"⟩) ∈ lw_all := lw_g (lw_at lw_ms 91 rfl) rfl
theorem qs92 : (Cond.selects "MoveNotesModel" ⟨"MoveNotesModel", "takes", "([II)I"⟩ ⟨"MoveNotesModel", "takes", "([II)I"⟩) ∈ lw_all := lw_g (lw_at lw_ms 92 rfl) rfl
theorem qs93 : (Cond.selects "MoveNotesModel" ⟨"MoveNotesModel", "goesOn", "(I)Z"⟩ ⟨"MoveNotesModel", "goesOn", "(I)Z"⟩) ∈ lw_all := lw_g (lw_at lw_ms 93 rfl) rfl
theorem qs94 : (Cond.selects "MoveNotesModel" ⟨"MoveNotesModel", "makes", "(II)V"⟩ ⟨"MoveNotesModel", "makes", "(II)V"⟩) ∈ lw_all := lw_g (lw_at lw_ms 94 rfl) rfl
theorem qs95 : (Cond.selects "MoveNotesModel" ⟨"MoveNotesModel", "tries", "(III)V"⟩ ⟨"MoveNotesModel", "tries", "(III)V"⟩) ∈ lw_all := lw_g (lw_at lw_ms 95 rfl) rfl
theorem qs96 : (Cond.selects "MoveNotesModel" ⟨"MoveNotesModel", "follows", "(I)V"⟩ ⟨"MoveNotesModel", "follows", "(I)V"⟩) ∈ lw_all := lw_g (lw_at lw_ms 96 rfl) rfl
theorem qs97 : (Cond.selects "MoveNotesModel" ⟨"MoveNotesModel", "draw", "()I"⟩ ⟨"MoveNotesModel", "draw", "()I"⟩) ∈ lw_all := lw_g (lw_at lw_ms 97 rfl) rfl
