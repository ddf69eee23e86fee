-- ===== PART A: goes FIRST, ahead of the names: the tables' words, and 'selects' of the private methods out of them =====
/-- a private method of a class that the tables say can be made, by its rows of tables_1 -/
def lw_okq (q : MethodName × Nat) : Prop := (q.1.cls ≠ "java/lang/invoke/MethodHandle" ∧ q.1.cls ≠ "java/lang/invoke/VarHandle") ∧ Cond.instantiable q.1.cls q.2 ∈ tables_1 ∧ Cond.privateMethod q.1 ∈ tables_1 ∧ Cond.instanceMethod q.1 ∈ tables_1
set_option maxRecDepth 100000
theorem lw_t1 {w : Cond} (h : w ∈ tables_1_1) : w ∈ tables_1 := List.mem_append_left _ h
theorem lw_t2 {w : Cond} (h : w ∈ tables_1_2) : w ∈ tables_1 := List.mem_append_right _ (List.mem_append_left _ h)
theorem lw_t3 {w : Cond} (h : w ∈ tables_1_3) : w ∈ tables_1 := List.mem_append_right _ (List.mem_append_right _ (List.mem_append_left _ h))
theorem lw_t4 {w : Cond} (h : w ∈ tables_1_4) : w ∈ tables_1 := List.mem_append_right _ (List.mem_append_right _ (List.mem_append_right _ (List.mem_append_left _ h)))
theorem lw_t5 {w : Cond} (h : w ∈ tables_1_5) : w ∈ tables_1 := List.mem_append_right _ (List.mem_append_right _ (List.mem_append_right _ (List.mem_append_right _ (List.mem_append_left _ h))))
theorem lw_t6 {w : Cond} (h : w ∈ tables_1_6) : w ∈ tables_1 := List.mem_append_right _ (List.mem_append_right _ (List.mem_append_right _ (List.mem_append_right _ (List.mem_append_right _ (List.mem_append_left _ h)))))
theorem lw_t7 {w : Cond} (h : w ∈ tables_1_7) : w ∈ tables_1 := List.mem_append_right _ (List.mem_append_right _ (List.mem_append_right _ (List.mem_append_right _ (List.mem_append_right _ (List.mem_append_right _ (List.mem_append_left _ h))))))
theorem lw_t8 {w : Cond} (h : w ∈ tables_1_8) : w ∈ tables_1 := List.mem_append_right _ (List.mem_append_right _ (List.mem_append_right _ (List.mem_append_right _ (List.mem_append_right _ (List.mem_append_right _ (List.mem_append_right _ (List.mem_append_left _ h)))))))
theorem lw_t9 {w : Cond} (h : w ∈ tables_1_9) : w ∈ tables_1 := List.mem_append_right _ (List.mem_append_right _ (List.mem_append_right _ (List.mem_append_right _ (List.mem_append_right _ (List.mem_append_right _ (List.mem_append_right _ (List.mem_append_right _ h)))))))
theorem lw_p0 : lw_okq (⟨"java/util/ArrayList", "add", "(Ljava/lang/Object;[Ljava/lang/Object;I)V"⟩, 3) := ⟨⟨by decide +kernel, by decide +kernel⟩, lw_t1 (List.mem_of_getElem? (i := 192) rfl), lw_t1 (List.mem_of_getElem? (i := 190) rfl), lw_t1 (List.mem_of_getElem? (i := 191) rfl)⟩
theorem lw_p1 : lw_okq (⟨"java/util/ArrayList", "grow", "()[Ljava/lang/Object;"⟩, 3) := ⟨⟨by decide +kernel, by decide +kernel⟩, lw_t1 (List.mem_of_getElem? (i := 192) rfl), lw_t1 (List.mem_of_getElem? (i := 195) rfl), lw_t1 (List.mem_of_getElem? (i := 196) rfl)⟩
theorem lw_p2 : lw_okq (⟨"java/util/ArrayList", "grow", "(I)[Ljava/lang/Object;"⟩, 3) := ⟨⟨by decide +kernel, by decide +kernel⟩, lw_t1 (List.mem_of_getElem? (i := 192) rfl), lw_t1 (List.mem_of_getElem? (i := 199) rfl), lw_t1 (List.mem_of_getElem? (i := 200) rfl)⟩
theorem lw_p3 : lw_okq (⟨"java/util/ArrayList", "fastRemove", "([Ljava/lang/Object;I)V"⟩, 3) := ⟨⟨by decide +kernel, by decide +kernel⟩, lw_t1 (List.mem_of_getElem? (i := 192) rfl), lw_t2 (List.mem_of_getElem? (i := 37) rfl), lw_t2 (List.mem_of_getElem? (i := 38) rfl)⟩
theorem lw_p4 : lw_okq (⟨"LameClocks", "isClock", "(I)Z"⟩, 19) := ⟨⟨by decide +kernel, by decide +kernel⟩, lw_t2 (List.mem_of_getElem? (i := 62) rfl), lw_t2 (List.mem_of_getElem? (i := 60) rfl), lw_t2 (List.mem_of_getElem? (i := 61) rfl)⟩
theorem lw_p5 : lw_okq (⟨"LameClocks", "isWindow", "(I)Z"⟩, 19) := ⟨⟨by decide +kernel, by decide +kernel⟩, lw_t2 (List.mem_of_getElem? (i := 62) rfl), lw_t2 (List.mem_of_getElem? (i := 155) rfl), lw_t2 (List.mem_of_getElem? (i := 156) rfl)⟩
theorem lw_p6 : lw_okq (⟨"LameClocks$Race", "moves", "(LLameClocks$Plain;)V"⟩, 9) := ⟨⟨by decide +kernel, by decide +kernel⟩, lw_t3 (List.mem_of_getElem? (i := 29) rfl), lw_t3 (List.mem_of_getElem? (i := 27) rfl), lw_t3 (List.mem_of_getElem? (i := 28) rfl)⟩
theorem lw_p7 : lw_okq (⟨"LameClocks", "runs", "(I)V"⟩, 19) := ⟨⟨by decide +kernel, by decide +kernel⟩, lw_t2 (List.mem_of_getElem? (i := 62) rfl), lw_t4 (List.mem_of_getElem? (i := 35) rfl), lw_t4 (List.mem_of_getElem? (i := 36) rfl)⟩
theorem lw_p8 : lw_okq (⟨"LameClocks", "goOn", "(I)V"⟩, 19) := ⟨⟨by decide +kernel, by decide +kernel⟩, lw_t2 (List.mem_of_getElem? (i := 62) rfl), lw_t4 (List.mem_of_getElem? (i := 73) rfl), lw_t4 (List.mem_of_getElem? (i := 74) rfl)⟩
theorem lw_p9 : lw_okq (⟨"LameClocks", "isAsked", "(III)Z"⟩, 19) := ⟨⟨by decide +kernel, by decide +kernel⟩, lw_t2 (List.mem_of_getElem? (i := 62) rfl), lw_t4 (List.mem_of_getElem? (i := 94) rfl), lw_t4 (List.mem_of_getElem? (i := 95) rfl)⟩
theorem lw_p10 : lw_okq (⟨"LameClocks", "comesTo", "(IIIII)Z"⟩, 19) := ⟨⟨by decide +kernel, by decide +kernel⟩, lw_t2 (List.mem_of_getElem? (i := 62) rfl), lw_t4 (List.mem_of_getElem? (i := 99) rfl), lw_t4 (List.mem_of_getElem? (i := 100) rfl)⟩
theorem lw_p11 : lw_okq (⟨"LameClocks", "rests", "(II)Z"⟩, 19) := ⟨⟨by decide +kernel, by decide +kernel⟩, lw_t2 (List.mem_of_getElem? (i := 62) rfl), lw_t4 (List.mem_of_getElem? (i := 115) rfl), lw_t4 (List.mem_of_getElem? (i := 116) rfl)⟩
theorem lw_p12 : lw_okq (⟨"LameClocks", "spanBy", "(II)I"⟩, 19) := ⟨⟨by decide +kernel, by decide +kernel⟩, lw_t2 (List.mem_of_getElem? (i := 62) rfl), lw_t4 (List.mem_of_getElem? (i := 135) rfl), lw_t4 (List.mem_of_getElem? (i := 136) rfl)⟩
theorem lw_p13 : lw_okq (⟨"LameClocks", "areClocks", "(I)Z"⟩, 19) := ⟨⟨by decide +kernel, by decide +kernel⟩, lw_t2 (List.mem_of_getElem? (i := 62) rfl), lw_t4 (List.mem_of_getElem? (i := 145) rfl), lw_t4 (List.mem_of_getElem? (i := 146) rfl)⟩
theorem lw_p14 : lw_okq (⟨"LameClocks", "strokesOf", "(I)I"⟩, 19) := ⟨⟨by decide +kernel, by decide +kernel⟩, lw_t2 (List.mem_of_getElem? (i := 62) rfl), lw_t4 (List.mem_of_getElem? (i := 151) rfl), lw_t4 (List.mem_of_getElem? (i := 152) rfl)⟩
theorem lw_p15 : lw_okq (⟨"java/lang/NullPointerException", "getExtendedNPEMessage", "()Ljava/lang/String;"⟩, 8) := ⟨⟨by decide +kernel, by decide +kernel⟩, lw_t4 (List.mem_of_getElem? (i := 215) rfl), lw_t4 (List.mem_of_getElem? (i := 213) rfl), lw_t4 (List.mem_of_getElem? (i := 214) rfl)⟩
def lw_privs_1 : List (MethodName × Nat) := [(⟨"java/util/ArrayList", "add", "(Ljava/lang/Object;[Ljava/lang/Object;I)V"⟩, 3), (⟨"java/util/ArrayList", "grow", "()[Ljava/lang/Object;"⟩, 3), (⟨"java/util/ArrayList", "grow", "(I)[Ljava/lang/Object;"⟩, 3), (⟨"java/util/ArrayList", "fastRemove", "([Ljava/lang/Object;I)V"⟩, 3), (⟨"LameClocks", "isClock", "(I)Z"⟩, 19), (⟨"LameClocks", "isWindow", "(I)Z"⟩, 19), (⟨"LameClocks$Race", "moves", "(LLameClocks$Plain;)V"⟩, 9), (⟨"LameClocks", "runs", "(I)V"⟩, 19), (⟨"LameClocks", "goOn", "(I)V"⟩, 19), (⟨"LameClocks", "isAsked", "(III)Z"⟩, 19), (⟨"LameClocks", "comesTo", "(IIIII)Z"⟩, 19), (⟨"LameClocks", "rests", "(II)Z"⟩, 19), (⟨"LameClocks", "spanBy", "(II)I"⟩, 19), (⟨"LameClocks", "areClocks", "(I)Z"⟩, 19), (⟨"LameClocks", "strokesOf", "(I)I"⟩, 19), (⟨"java/lang/NullPointerException", "getExtendedNPEMessage", "()Ljava/lang/String;"⟩, 8)]
theorem lw_r1 : ∀ q ∈ lw_privs_1, lw_okq q := List.forall_mem_cons.mpr ⟨lw_p0, List.forall_mem_cons.mpr ⟨lw_p1, List.forall_mem_cons.mpr ⟨lw_p2, List.forall_mem_cons.mpr ⟨lw_p3, List.forall_mem_cons.mpr ⟨lw_p4, List.forall_mem_cons.mpr ⟨lw_p5, List.forall_mem_cons.mpr ⟨lw_p6, List.forall_mem_cons.mpr ⟨lw_p7, List.forall_mem_cons.mpr ⟨lw_p8, List.forall_mem_cons.mpr ⟨lw_p9, List.forall_mem_cons.mpr ⟨lw_p10, List.forall_mem_cons.mpr ⟨lw_p11, List.forall_mem_cons.mpr ⟨lw_p12, List.forall_mem_cons.mpr ⟨lw_p13, List.forall_mem_cons.mpr ⟨lw_p14, List.forall_mem_cons.mpr ⟨lw_p15, fun _ h => absurd h List.not_mem_nil⟩⟩⟩⟩⟩⟩⟩⟩⟩⟩⟩⟩⟩⟩⟩⟩
theorem lw_p16 : lw_okq (⟨"java/lang/Throwable", "fillInStackTrace", "(I)Ljava/lang/Throwable;"⟩, 6) := ⟨⟨by decide +kernel, by decide +kernel⟩, lw_t4 (List.mem_of_getElem? (i := 227) rfl), lw_t4 (List.mem_of_getElem? (i := 225) rfl), lw_t4 (List.mem_of_getElem? (i := 226) rfl)⟩
theorem lw_p17 : lw_okq (⟨"LameClocks", "readSigns", "(Ljava/lang/String;II)I"⟩, 19) := ⟨⟨by decide +kernel, by decide +kernel⟩, lw_t2 (List.mem_of_getElem? (i := 62) rfl), lw_t5 (List.mem_of_getElem? (i := 63) rfl), lw_t5 (List.mem_of_getElem? (i := 64) rfl)⟩
theorem lw_p18 : lw_okq (⟨"LameClocks", "here", "()I"⟩, 19) := ⟨⟨by decide +kernel, by decide +kernel⟩, lw_t2 (List.mem_of_getElem? (i := 62) rfl), lw_t5 (List.mem_of_getElem? (i := 67) rfl), lw_t5 (List.mem_of_getElem? (i := 68) rfl)⟩
theorem lw_p19 : lw_okq (⟨"LameClocks", "letter", "(Ljava/lang/String;)I"⟩, 19) := ⟨⟨by decide +kernel, by decide +kernel⟩, lw_t2 (List.mem_of_getElem? (i := 62) rfl), lw_t5 (List.mem_of_getElem? (i := 71) rfl), lw_t5 (List.mem_of_getElem? (i := 72) rfl)⟩
theorem lw_p20 : lw_okq (⟨"LameClocks", "ends", "()V"⟩, 19) := ⟨⟨by decide +kernel, by decide +kernel⟩, lw_t2 (List.mem_of_getElem? (i := 62) rfl), lw_t5 (List.mem_of_getElem? (i := 180) rfl), lw_t5 (List.mem_of_getElem? (i := 181) rfl)⟩
theorem lw_p21 : lw_okq (⟨"LameClocks", "readClock", "()LLameClocks$Plain;"⟩, 19) := ⟨⟨by decide +kernel, by decide +kernel⟩, lw_t2 (List.mem_of_getElem? (i := 62) rfl), lw_t5 (List.mem_of_getElem? (i := 194) rfl), lw_t5 (List.mem_of_getElem? (i := 195) rfl)⟩
theorem lw_p22 : lw_okq (⟨"LameClocks", "number", "(II)I"⟩, 19) := ⟨⟨by decide +kernel, by decide +kernel⟩, lw_t2 (List.mem_of_getElem? (i := 62) rfl), lw_t5 (List.mem_of_getElem? (i := 199) rfl), lw_t5 (List.mem_of_getElem? (i := 200) rfl)⟩
theorem lw_p23 : lw_okq (⟨"LameClocks", "passes", "(I)Z"⟩, 19) := ⟨⟨by decide +kernel, by decide +kernel⟩, lw_t2 (List.mem_of_getElem? (i := 62) rfl), lw_t5 (List.mem_of_getElem? (i := 205) rfl), lw_t5 (List.mem_of_getElem? (i := 206) rfl)⟩
theorem lw_p24 : lw_okq (⟨"LameClocks", "readAct", "()LLameClocks$Act;"⟩, 19) := ⟨⟨by decide +kernel, by decide +kernel⟩, lw_t2 (List.mem_of_getElem? (i := 62) rfl), lw_t5 (List.mem_of_getElem? (i := 213) rfl), lw_t5 (List.mem_of_getElem? (i := 214) rfl)⟩
theorem lw_p25 : lw_okq (⟨"LameClocks", "must", "(I)V"⟩, 19) := ⟨⟨by decide +kernel, by decide +kernel⟩, lw_t2 (List.mem_of_getElem? (i := 62) rfl), lw_t6 (List.mem_of_getElem? (i := 0) rfl), lw_t6 (List.mem_of_getElem? (i := 1) rfl)⟩
theorem lw_p26 : lw_okq (⟨"LameClocks", "digit", "(I)I"⟩, 19) := ⟨⟨by decide +kernel, by decide +kernel⟩, lw_t2 (List.mem_of_getElem? (i := 62) rfl), lw_t6 (List.mem_of_getElem? (i := 4) rfl), lw_t6 (List.mem_of_getElem? (i := 5) rfl)⟩
theorem lw_p27 : lw_okq (⟨"LameClocks", "refusal", "(IIII)I"⟩, 19) := ⟨⟨by decide +kernel, by decide +kernel⟩, lw_t2 (List.mem_of_getElem? (i := 62) rfl), lw_t6 (List.mem_of_getElem? (i := 209) rfl), lw_t6 (List.mem_of_getElem? (i := 210) rfl)⟩
theorem lw_p28 : lw_okq (⟨"LameClocks", "looksAt", "(Ljava/lang/Object;III)V"⟩, 19) := ⟨⟨by decide +kernel, by decide +kernel⟩, lw_t2 (List.mem_of_getElem? (i := 62) rfl), lw_t6 (List.mem_of_getElem? (i := 213) rfl), lw_t6 (List.mem_of_getElem? (i := 214) rfl)⟩
theorem lw_p29 : lw_okq (⟨"LameClocks", "isAsTaken", "()Z"⟩, 19) := ⟨⟨by decide +kernel, by decide +kernel⟩, lw_t2 (List.mem_of_getElem? (i := 62) rfl), lw_t6 (List.mem_of_getElem? (i := 235) rfl), lw_t6 (List.mem_of_getElem? (i := 236) rfl)⟩
theorem lw_p30 : lw_okq (⟨"LameClocksModel", "add", "(IIII)V"⟩, 27) := ⟨⟨by decide +kernel, by decide +kernel⟩, lw_t7 (List.mem_of_getElem? (i := 166) rfl), lw_t8 (List.mem_of_getElem? (i := 26) rfl), lw_t8 (List.mem_of_getElem? (i := 27) rfl)⟩
theorem lw_p31 : lw_okq (⟨"LameClocksModel", "isClock", "(I)Z"⟩, 27) := ⟨⟨by decide +kernel, by decide +kernel⟩, lw_t7 (List.mem_of_getElem? (i := 166) rfl), lw_t8 (List.mem_of_getElem? (i := 38) rfl), lw_t8 (List.mem_of_getElem? (i := 39) rfl)⟩
def lw_privs_2 : List (MethodName × Nat) := [(⟨"java/lang/Throwable", "fillInStackTrace", "(I)Ljava/lang/Throwable;"⟩, 6), (⟨"LameClocks", "readSigns", "(Ljava/lang/String;II)I"⟩, 19), (⟨"LameClocks", "here", "()I"⟩, 19), (⟨"LameClocks", "letter", "(Ljava/lang/String;)I"⟩, 19), (⟨"LameClocks", "ends", "()V"⟩, 19), (⟨"LameClocks", "readClock", "()LLameClocks$Plain;"⟩, 19), (⟨"LameClocks", "number", "(II)I"⟩, 19), (⟨"LameClocks", "passes", "(I)Z"⟩, 19), (⟨"LameClocks", "readAct", "()LLameClocks$Act;"⟩, 19), (⟨"LameClocks", "must", "(I)V"⟩, 19), (⟨"LameClocks", "digit", "(I)I"⟩, 19), (⟨"LameClocks", "refusal", "(IIII)I"⟩, 19), (⟨"LameClocks", "looksAt", "(Ljava/lang/Object;III)V"⟩, 19), (⟨"LameClocks", "isAsTaken", "()Z"⟩, 19), (⟨"LameClocksModel", "add", "(IIII)V"⟩, 27), (⟨"LameClocksModel", "isClock", "(I)Z"⟩, 27)]
theorem lw_r2 : ∀ q ∈ lw_privs_2, lw_okq q := List.forall_mem_cons.mpr ⟨lw_p16, List.forall_mem_cons.mpr ⟨lw_p17, List.forall_mem_cons.mpr ⟨lw_p18, List.forall_mem_cons.mpr ⟨lw_p19, List.forall_mem_cons.mpr ⟨lw_p20, List.forall_mem_cons.mpr ⟨lw_p21, List.forall_mem_cons.mpr ⟨lw_p22, List.forall_mem_cons.mpr ⟨lw_p23, List.forall_mem_cons.mpr ⟨lw_p24, List.forall_mem_cons.mpr ⟨lw_p25, List.forall_mem_cons.mpr ⟨lw_p26, List.forall_mem_cons.mpr ⟨lw_p27, List.forall_mem_cons.mpr ⟨lw_p28, List.forall_mem_cons.mpr ⟨lw_p29, List.forall_mem_cons.mpr ⟨lw_p30, List.forall_mem_cons.mpr ⟨lw_p31, fun _ h => absurd h List.not_mem_nil⟩⟩⟩⟩⟩⟩⟩⟩⟩⟩⟩⟩⟩⟩⟩⟩
theorem lw_p32 : lw_okq (⟨"LameClocksModel", "shownBy", "(I)I"⟩, 27) := ⟨⟨by decide +kernel, by decide +kernel⟩, lw_t7 (List.mem_of_getElem? (i := 166) rfl), lw_t8 (List.mem_of_getElem? (i := 42) rfl), lw_t8 (List.mem_of_getElem? (i := 43) rfl)⟩
theorem lw_p33 : lw_okq (⟨"LameClocksModel", "truth", "()I"⟩, 27) := ⟨⟨by decide +kernel, by decide +kernel⟩, lw_t7 (List.mem_of_getElem? (i := 166) rfl), lw_t8 (List.mem_of_getElem? (i := 46) rfl), lw_t8 (List.mem_of_getElem? (i := 47) rfl)⟩
theorem lw_p34 : lw_okq (⟨"LameClocksModel", "strikes", "(I)I"⟩, 27) := ⟨⟨by decide +kernel, by decide +kernel⟩, lw_t7 (List.mem_of_getElem? (i := 166) rfl), lw_t8 (List.mem_of_getElem? (i := 50) rfl), lw_t8 (List.mem_of_getElem? (i := 51) rfl)⟩
theorem lw_p35 : lw_okq (⟨"LameClocksModel", "isWindow", "(I)Z"⟩, 27) := ⟨⟨by decide +kernel, by decide +kernel⟩, lw_t7 (List.mem_of_getElem? (i := 166) rfl), lw_t8 (List.mem_of_getElem? (i := 62) rfl), lw_t8 (List.mem_of_getElem? (i := 63) rfl)⟩
theorem lw_p36 : lw_okq (⟨"LameClocksModel", "readSigns", "(IIZ)Z"⟩, 27) := ⟨⟨by decide +kernel, by decide +kernel⟩, lw_t7 (List.mem_of_getElem? (i := 166) rfl), lw_t8 (List.mem_of_getElem? (i := 86) rfl), lw_t8 (List.mem_of_getElem? (i := 87) rfl)⟩
theorem lw_p37 : lw_okq (⟨"LameClocksModel", "nextLetter", "()I"⟩, 27) := ⟨⟨by decide +kernel, by decide +kernel⟩, lw_t7 (List.mem_of_getElem? (i := 166) rfl), lw_t8 (List.mem_of_getElem? (i := 90) rfl), lw_t8 (List.mem_of_getElem? (i := 91) rfl)⟩
theorem lw_p38 : lw_okq (⟨"LameClocksModel", "end", "(Z)I"⟩, 27) := ⟨⟨by decide +kernel, by decide +kernel⟩, lw_t7 (List.mem_of_getElem? (i := 166) rfl), lw_t8 (List.mem_of_getElem? (i := 102) rfl), lw_t8 (List.mem_of_getElem? (i := 103) rfl)⟩
theorem lw_p39 : lw_okq (⟨"LameClocksModel", "allBack", "()V"⟩, 27) := ⟨⟨by decide +kernel, by decide +kernel⟩, lw_t7 (List.mem_of_getElem? (i := 166) rfl), lw_t8 (List.mem_of_getElem? (i := 106) rfl), lw_t8 (List.mem_of_getElem? (i := 107) rfl)⟩
theorem lw_p40 : lw_okq (⟨"LameClocksModel", "readStreet", "()Z"⟩, 27) := ⟨⟨by decide +kernel, by decide +kernel⟩, lw_t7 (List.mem_of_getElem? (i := 166) rfl), lw_t8 (List.mem_of_getElem? (i := 118) rfl), lw_t8 (List.mem_of_getElem? (i := 119) rfl)⟩
theorem lw_p41 : lw_okq (⟨"LameClocksModel", "readClock", "(I)Z"⟩, 27) := ⟨⟨by decide +kernel, by decide +kernel⟩, lw_t7 (List.mem_of_getElem? (i := 166) rfl), lw_t8 (List.mem_of_getElem? (i := 122) rfl), lw_t8 (List.mem_of_getElem? (i := 123) rfl)⟩
theorem lw_p42 : lw_okq (⟨"LameClocksModel", "readNumber", "(II)I"⟩, 27) := ⟨⟨by decide +kernel, by decide +kernel⟩, lw_t7 (List.mem_of_getElem? (i := 166) rfl), lw_t8 (List.mem_of_getElem? (i := 129) rfl), lw_t8 (List.mem_of_getElem? (i := 130) rfl)⟩
theorem lw_p43 : lw_okq (⟨"LameClocksModel", "takes", "(I)Z"⟩, 27) := ⟨⟨by decide +kernel, by decide +kernel⟩, lw_t7 (List.mem_of_getElem? (i := 166) rfl), lw_t8 (List.mem_of_getElem? (i := 134) rfl), lw_t8 (List.mem_of_getElem? (i := 135) rfl)⟩
theorem lw_p44 : lw_okq (⟨"LameClocksModel", "readDay", "()Z"⟩, 27) := ⟨⟨by decide +kernel, by decide +kernel⟩, lw_t7 (List.mem_of_getElem? (i := 166) rfl), lw_t8 (List.mem_of_getElem? (i := 142) rfl), lw_t8 (List.mem_of_getElem? (i := 143) rfl)⟩
theorem lw_p45 : lw_okq (⟨"LameClocksModel", "readAct", "(I)Z"⟩, 27) := ⟨⟨by decide +kernel, by decide +kernel⟩, lw_t7 (List.mem_of_getElem? (i := 166) rfl), lw_t8 (List.mem_of_getElem? (i := 146) rfl), lw_t8 (List.mem_of_getElem? (i := 147) rfl)⟩
theorem lw_p46 : lw_okq (⟨"LameClocksModel", "does", "(I)Z"⟩, 27) := ⟨⟨by decide +kernel, by decide +kernel⟩, lw_t7 (List.mem_of_getElem? (i := 166) rfl), lw_t8 (List.mem_of_getElem? (i := 150) rfl), lw_t8 (List.mem_of_getElem? (i := 151) rfl)⟩
theorem lw_p47 : lw_okq (⟨"LameClocksModel", "note", "(III)V"⟩, 27) := ⟨⟨by decide +kernel, by decide +kernel⟩, lw_t7 (List.mem_of_getElem? (i := 166) rfl), lw_t8 (List.mem_of_getElem? (i := 158) rfl), lw_t8 (List.mem_of_getElem? (i := 159) rfl)⟩
def lw_privs_3 : List (MethodName × Nat) := [(⟨"LameClocksModel", "shownBy", "(I)I"⟩, 27), (⟨"LameClocksModel", "truth", "()I"⟩, 27), (⟨"LameClocksModel", "strikes", "(I)I"⟩, 27), (⟨"LameClocksModel", "isWindow", "(I)Z"⟩, 27), (⟨"LameClocksModel", "readSigns", "(IIZ)Z"⟩, 27), (⟨"LameClocksModel", "nextLetter", "()I"⟩, 27), (⟨"LameClocksModel", "end", "(Z)I"⟩, 27), (⟨"LameClocksModel", "allBack", "()V"⟩, 27), (⟨"LameClocksModel", "readStreet", "()Z"⟩, 27), (⟨"LameClocksModel", "readClock", "(I)Z"⟩, 27), (⟨"LameClocksModel", "readNumber", "(II)I"⟩, 27), (⟨"LameClocksModel", "takes", "(I)Z"⟩, 27), (⟨"LameClocksModel", "readDay", "()Z"⟩, 27), (⟨"LameClocksModel", "readAct", "(I)Z"⟩, 27), (⟨"LameClocksModel", "does", "(I)Z"⟩, 27), (⟨"LameClocksModel", "note", "(III)V"⟩, 27)]
theorem lw_r3 : ∀ q ∈ lw_privs_3, lw_okq q := List.forall_mem_cons.mpr ⟨lw_p32, List.forall_mem_cons.mpr ⟨lw_p33, List.forall_mem_cons.mpr ⟨lw_p34, List.forall_mem_cons.mpr ⟨lw_p35, List.forall_mem_cons.mpr ⟨lw_p36, List.forall_mem_cons.mpr ⟨lw_p37, List.forall_mem_cons.mpr ⟨lw_p38, List.forall_mem_cons.mpr ⟨lw_p39, List.forall_mem_cons.mpr ⟨lw_p40, List.forall_mem_cons.mpr ⟨lw_p41, List.forall_mem_cons.mpr ⟨lw_p42, List.forall_mem_cons.mpr ⟨lw_p43, List.forall_mem_cons.mpr ⟨lw_p44, List.forall_mem_cons.mpr ⟨lw_p45, List.forall_mem_cons.mpr ⟨lw_p46, List.forall_mem_cons.mpr ⟨lw_p47, fun _ h => absurd h List.not_mem_nil⟩⟩⟩⟩⟩⟩⟩⟩⟩⟩⟩⟩⟩⟩⟩⟩
theorem lw_p48 : lw_okq (⟨"LameClocksModel", "addSpring", "(II)V"⟩, 27) := ⟨⟨by decide +kernel, by decide +kernel⟩, lw_t7 (List.mem_of_getElem? (i := 166) rfl), lw_t8 (List.mem_of_getElem? (i := 162) rfl), lw_t8 (List.mem_of_getElem? (i := 163) rfl)⟩
theorem lw_p49 : lw_okq (⟨"LameClocksModel", "addHands", "(II)V"⟩, 27) := ⟨⟨by decide +kernel, by decide +kernel⟩, lw_t7 (List.mem_of_getElem? (i := 166) rfl), lw_t8 (List.mem_of_getElem? (i := 170) rfl), lw_t8 (List.mem_of_getElem? (i := 171) rfl)⟩
theorem lw_p50 : lw_okq (⟨"LameClocksModel", "skyNow", "()I"⟩, 27) := ⟨⟨by decide +kernel, by decide +kernel⟩, lw_t7 (List.mem_of_getElem? (i := 166) rfl), lw_t8 (List.mem_of_getElem? (i := 182) rfl), lw_t8 (List.mem_of_getElem? (i := 183) rfl)⟩
theorem lw_p51 : lw_okq (⟨"LameClocksModel", "goOn", "(I)I"⟩, 27) := ⟨⟨by decide +kernel, by decide +kernel⟩, lw_t7 (List.mem_of_getElem? (i := 166) rfl), lw_t8 (List.mem_of_getElem? (i := 186) rfl), lw_t8 (List.mem_of_getElem? (i := 187) rfl)⟩
theorem lw_p52 : lw_okq (⟨"LameClocksModel", "isHome", "(I)Z"⟩, 27) := ⟨⟨by decide +kernel, by decide +kernel⟩, lw_t7 (List.mem_of_getElem? (i := 166) rfl), lw_t8 (List.mem_of_getElem? (i := 190) rfl), lw_t8 (List.mem_of_getElem? (i := 191) rfl)⟩
theorem lw_p53 : lw_okq (⟨"LameClocksModel", "goes", "(II)Z"⟩, 27) := ⟨⟨by decide +kernel, by decide +kernel⟩, lw_t7 (List.mem_of_getElem? (i := 166) rfl), lw_t8 (List.mem_of_getElem? (i := 194) rfl), lw_t8 (List.mem_of_getElem? (i := 195) rfl)⟩
theorem lw_p54 : lw_okq (⟨"LameClocksModel", "run", "(I)V"⟩, 27) := ⟨⟨by decide +kernel, by decide +kernel⟩, lw_t7 (List.mem_of_getElem? (i := 166) rfl), lw_t8 (List.mem_of_getElem? (i := 201) rfl), lw_t8 (List.mem_of_getElem? (i := 202) rfl)⟩
theorem lw_p55 : lw_okq (⟨"LameClocksModel", "placeOf", "(I)I"⟩, 27) := ⟨⟨by decide +kernel, by decide +kernel⟩, lw_t7 (List.mem_of_getElem? (i := 166) rfl), lw_t8 (List.mem_of_getElem? (i := 209) rfl), lw_t8 (List.mem_of_getElem? (i := 210) rfl)⟩
theorem lw_p56 : lw_okq (⟨"LameClocksModel", "isAhead", "(II)Z"⟩, 27) := ⟨⟨by decide +kernel, by decide +kernel⟩, lw_t7 (List.mem_of_getElem? (i := 166) rfl), lw_t8 (List.mem_of_getElem? (i := 213) rfl), lw_t8 (List.mem_of_getElem? (i := 214) rfl)⟩
theorem lw_p57 : lw_okq (⟨"LameClocksModel", "homes", "()I"⟩, 27) := ⟨⟨by decide +kernel, by decide +kernel⟩, lw_t7 (List.mem_of_getElem? (i := 166) rfl), lw_t8 (List.mem_of_getElem? (i := 221) rfl), lw_t8 (List.mem_of_getElem? (i := 222) rfl)⟩
theorem lw_p58 : lw_okq (⟨"LameClocksModel", "tied", "()I"⟩, 27) := ⟨⟨by decide +kernel, by decide +kernel⟩, lw_t7 (List.mem_of_getElem? (i := 166) rfl), lw_t8 (List.mem_of_getElem? (i := 225) rfl), lw_t8 (List.mem_of_getElem? (i := 226) rfl)⟩
theorem lw_p59 : lw_okq (⟨"LameClocksModel", "keepAside", "()V"⟩, 27) := ⟨⟨by decide +kernel, by decide +kernel⟩, lw_t7 (List.mem_of_getElem? (i := 166) rfl), lw_t9 (List.mem_of_getElem? (i := 17) rfl), lw_t9 (List.mem_of_getElem? (i := 18) rfl)⟩
theorem lw_p60 : lw_okq (⟨"LameClocksModel", "goHours", "(I)V"⟩, 27) := ⟨⟨by decide +kernel, by decide +kernel⟩, lw_t7 (List.mem_of_getElem? (i := 166) rfl), lw_t9 (List.mem_of_getElem? (i := 21) rfl), lw_t9 (List.mem_of_getElem? (i := 22) rfl)⟩
theorem lw_p61 : lw_okq (⟨"LameClocksModel", "bringBack", "()V"⟩, 27) := ⟨⟨by decide +kernel, by decide +kernel⟩, lw_t7 (List.mem_of_getElem? (i := 166) rfl), lw_t9 (List.mem_of_getElem? (i := 25) rfl), lw_t9 (List.mem_of_getElem? (i := 26) rfl)⟩
theorem lw_p62 : lw_okq (⟨"LameClocksModel", "isAsked", "(III)Z"⟩, 27) := ⟨⟨by decide +kernel, by decide +kernel⟩, lw_t7 (List.mem_of_getElem? (i := 166) rfl), lw_t9 (List.mem_of_getElem? (i := 45) rfl), lw_t9 (List.mem_of_getElem? (i := 46) rfl)⟩
theorem lw_p63 : lw_okq (⟨"LameClocksModel", "placeWith", "(IIII)I"⟩, 27) := ⟨⟨by decide +kernel, by decide +kernel⟩, lw_t7 (List.mem_of_getElem? (i := 166) rfl), lw_t9 (List.mem_of_getElem? (i := 50) rfl), lw_t9 (List.mem_of_getElem? (i := 51) rfl)⟩
def lw_privs_4 : List (MethodName × Nat) := [(⟨"LameClocksModel", "addSpring", "(II)V"⟩, 27), (⟨"LameClocksModel", "addHands", "(II)V"⟩, 27), (⟨"LameClocksModel", "skyNow", "()I"⟩, 27), (⟨"LameClocksModel", "goOn", "(I)I"⟩, 27), (⟨"LameClocksModel", "isHome", "(I)Z"⟩, 27), (⟨"LameClocksModel", "goes", "(II)Z"⟩, 27), (⟨"LameClocksModel", "run", "(I)V"⟩, 27), (⟨"LameClocksModel", "placeOf", "(I)I"⟩, 27), (⟨"LameClocksModel", "isAhead", "(II)Z"⟩, 27), (⟨"LameClocksModel", "homes", "()I"⟩, 27), (⟨"LameClocksModel", "tied", "()I"⟩, 27), (⟨"LameClocksModel", "keepAside", "()V"⟩, 27), (⟨"LameClocksModel", "goHours", "(I)V"⟩, 27), (⟨"LameClocksModel", "bringBack", "()V"⟩, 27), (⟨"LameClocksModel", "isAsked", "(III)Z"⟩, 27), (⟨"LameClocksModel", "placeWith", "(IIII)I"⟩, 27)]
theorem lw_r4 : ∀ q ∈ lw_privs_4, lw_okq q := List.forall_mem_cons.mpr ⟨lw_p48, List.forall_mem_cons.mpr ⟨lw_p49, List.forall_mem_cons.mpr ⟨lw_p50, List.forall_mem_cons.mpr ⟨lw_p51, List.forall_mem_cons.mpr ⟨lw_p52, List.forall_mem_cons.mpr ⟨lw_p53, List.forall_mem_cons.mpr ⟨lw_p54, List.forall_mem_cons.mpr ⟨lw_p55, List.forall_mem_cons.mpr ⟨lw_p56, List.forall_mem_cons.mpr ⟨lw_p57, List.forall_mem_cons.mpr ⟨lw_p58, List.forall_mem_cons.mpr ⟨lw_p59, List.forall_mem_cons.mpr ⟨lw_p60, List.forall_mem_cons.mpr ⟨lw_p61, List.forall_mem_cons.mpr ⟨lw_p62, List.forall_mem_cons.mpr ⟨lw_p63, fun _ h => absurd h List.not_mem_nil⟩⟩⟩⟩⟩⟩⟩⟩⟩⟩⟩⟩⟩⟩⟩⟩
theorem lw_p64 : lw_okq (⟨"LameClocksModel", "doesRest", "(I)Z"⟩, 27) := ⟨⟨by decide +kernel, by decide +kernel⟩, lw_t7 (List.mem_of_getElem? (i := 166) rfl), lw_t9 (List.mem_of_getElem? (i := 66) rfl), lw_t9 (List.mem_of_getElem? (i := 67) rfl)⟩
theorem lw_p65 : lw_okq (⟨"LameClocksModel", "areClocks", "(I)Z"⟩, 27) := ⟨⟨by decide +kernel, by decide +kernel⟩, lw_t7 (List.mem_of_getElem? (i := 166) rfl), lw_t9 (List.mem_of_getElem? (i := 91) rfl), lw_t9 (List.mem_of_getElem? (i := 92) rfl)⟩
theorem lw_p66 : lw_okq (⟨"LameClocksModel", "carried", "(IIZ)I"⟩, 27) := ⟨⟨by decide +kernel, by decide +kernel⟩, lw_t7 (List.mem_of_getElem? (i := 166) rfl), lw_t9 (List.mem_of_getElem? (i := 130) rfl), lw_t9 (List.mem_of_getElem? (i := 131) rfl)⟩
theorem lw_p67 : lw_okq (⟨"LameClocksModel", "lacksRow", "(IIII)I"⟩, 27) := ⟨⟨by decide +kernel, by decide +kernel⟩, lw_t7 (List.mem_of_getElem? (i := 166) rfl), lw_t9 (List.mem_of_getElem? (i := 154) rfl), lw_t9 (List.mem_of_getElem? (i := 155) rfl)⟩
theorem lw_p68 : lw_okq (⟨"LameClocksModel", "areSo", "(I)Z"⟩, 27) := ⟨⟨by decide +kernel, by decide +kernel⟩, lw_t7 (List.mem_of_getElem? (i := 166) rfl), lw_t9 (List.mem_of_getElem? (i := 173) rfl), lw_t9 (List.mem_of_getElem? (i := 174) rfl)⟩
def lw_privs_5 : List (MethodName × Nat) := [(⟨"LameClocksModel", "doesRest", "(I)Z"⟩, 27), (⟨"LameClocksModel", "areClocks", "(I)Z"⟩, 27), (⟨"LameClocksModel", "carried", "(IIZ)I"⟩, 27), (⟨"LameClocksModel", "lacksRow", "(IIII)I"⟩, 27), (⟨"LameClocksModel", "areSo", "(I)Z"⟩, 27)]
theorem lw_r5 : ∀ q ∈ lw_privs_5, lw_okq q := List.forall_mem_cons.mpr ⟨lw_p64, List.forall_mem_cons.mpr ⟨lw_p65, List.forall_mem_cons.mpr ⟨lw_p66, List.forall_mem_cons.mpr ⟨lw_p67, List.forall_mem_cons.mpr ⟨lw_p68, fun _ h => absurd h List.not_mem_nil⟩⟩⟩⟩⟩
def lw_privs : List (MethodName × Nat) := lw_privs_1 ++ (lw_privs_2 ++ (lw_privs_3 ++ (lw_privs_4 ++ (lw_privs_5))))
def lw_tbl : List Cond := k2_sels lw_privs ++ tables_1
theorem lw_privs_ok : ∀ q ∈ lw_privs, lw_okq q := by
  show ∀ q ∈ lw_privs_1 ++ (lw_privs_2 ++ (lw_privs_3 ++ (lw_privs_4 ++ (lw_privs_5)))), lw_okq q
  exact List.forall_mem_append.mpr ⟨lw_r1, List.forall_mem_append.mpr ⟨lw_r2, List.forall_mem_append.mpr ⟨lw_r3, List.forall_mem_append.mpr ⟨lw_r4, lw_r5⟩⟩⟩⟩
-- ===== ONE list of words for every method: the tables' words that hold all through a run =====
def lw_all : List Cond := lw_tbl.filter goodWord
/-- a word of the tables by its place: claim/WORDS.tsv -/
theorem lw_w {w : Cond} (i : Nat) (h : lw_tbl[i]? = some w) (g : goodWord w = true) : w ∈ lw_all := List.mem_filter.mpr ⟨List.mem_of_getElem? h, g⟩
theorem lw_all_tbl {w : Cond} (h : w ∈ lw_all) : w ∈ lw_tbl := (List.mem_filter.mp h).1
theorem lw_self : GoodIn lw_all lw_all := fun w h => ⟨h, good_of_word (List.mem_filter.mp h).2⟩
/-- a class's field words, by their places -/
theorem lw_in (ws : List Cond) (ps : List Nat) (hp : ws = ps.filterMap (fun i => lw_tbl[i]?)) (hg : ws.all goodWord = true) : ∀ w ∈ ws, w ∈ lw_all := by
  intro w h
  have h1 := List.all_eq_true.mp hg w h
  rw [hp] at h
  obtain ⟨i, -, hi⟩ := List.mem_filterMap.mp h
  exact lw_w i hi h1
/-- the words of a contract for the method y with code b, L locals, answer r -/
abbrev ws_ (y : MethodName) (b : ByteArray) (L : Nat) (r : Option FieldType) : List Cond := Cond.code y b L r :: lw_all
theorem lw_meth {y : MethodName} {b : ByteArray} {L : Nat} {r : Option FieldType} (h : Cond.code y b L r ∈ lw_all) : GoodIn lw_all (ws_ y b L r) := by
  intro w hw
  rcases List.mem_cons.mp hw with e | e
  · rw [e]
    exact lw_self _ h
  · exact lw_self _ e
theorem lw_app {a c : List Cond} (ha : ∀ w ∈ a, w ∈ lw_all) (hc : GoodIn lw_all c) : GoodIn lw_all (a ++ c) := by
  intro w hw
  rcases List.mem_append.mp hw with e | e
  · exact lw_self w (ha w e)
  · exact hc w e
/-- what a call through an object asks: cwV n hts (lw_V ..) -/
theorem lw_V {own : String} {idx : Nat} {C : String} {y : MethodName} {b : ByteArray} {L : Nat} {r : Option FieldType} (h1 : Cond.methodLink own idx y ∈ lw_all) (h2 : Cond.instanceMethod y ∈ lw_all) (h3 : Cond.selects C y y ∈ lw_all) (h4 : Cond.initialized C ∈ lw_all) (h5 : Cond.code y b L r ∈ lw_all) : GoodIn lw_all (wsV own idx C y (ws_ y b L r)) := by
  refine lw_app ?_ (lw_meth h5)
  intro w hw
  simp only [List.mem_cons, List.not_mem_nil, or_false] at hw
  rcases hw with e | e | e | e
  · rw [e]; exact h1
  · rw [e]; exact h2
  · rw [e]; exact h3
  · rw [e]; exact h4
/-- what a static call asks: va_cwS n hts (lw_S ..) -/
theorem lw_S {own : String} {idx : Nat} {y : MethodName} {b : ByteArray} {L : Nat} {r : Option FieldType} (h1 : Cond.methodLink own idx y ∈ lw_all) (h2 : Cond.static y ∈ lw_all) (h3 : Cond.initialized y.cls ∈ lw_all) (h4 : Cond.code y b L r ∈ lw_all) : GoodIn lw_all (va_wsS own idx y (ws_ y b L r)) := by
  refine lw_app ?_ (lw_meth h4)
  intro w hw
  simp only [List.mem_cons, List.not_mem_nil, or_false] at hw
  rcases hw with e | e | e
  · rw [e]; exact h1
  · rw [e]; exact h2
  · rw [e]; exact h3
/-- the words of a contract for a method WITH HANDLERS (hh: its table) -/
abbrev wsW_ (y : MethodName) (b : ByteArray) (L : Nat) (r : Option FieldType) (hh : List (Nat × Nat × Nat × Nat)) : List Cond := Cond.codeWith y b L r hh :: lw_all
theorem lw_methW {y : MethodName} {b : ByteArray} {L : Nat} {r : Option FieldType} {hh : List (Nat × Nat × Nat × Nat)} (h : Cond.codeWith y b L r hh ∈ lw_all) : GoodIn lw_all (wsW_ y b L r hh) := by
  intro w hw
  rcases List.mem_cons.mp hw with e | e
  · rw [e]
    exact lw_self _ h
  · exact lw_self _ e
/-- any list of words by their places (lw_in), good -/
theorem lw_good {ws : List Cond} (h : ∀ w ∈ ws, w ∈ lw_all) : GoodIn lw_all ws := fun w hw => lw_self w (h w hw)
/-- what a call of a method with handlers asks: vx_cwVW n hts (lw_VW ..), vx_cwSW n hts (lw_SW ..) -/
theorem lw_VW {own : String} {idx : Nat} {C : String} {y : MethodName} {b : ByteArray} {L : Nat} {r : Option FieldType} {hh : List (Nat × Nat × Nat × Nat)} (h1 : Cond.methodLink own idx y ∈ lw_all) (h2 : Cond.instanceMethod y ∈ lw_all) (h3 : Cond.selects C y y ∈ lw_all) (h4 : Cond.initialized C ∈ lw_all) (h5 : Cond.codeWith y b L r hh ∈ lw_all) : GoodIn lw_all (wsV own idx C y (wsW_ y b L r hh)) := by
  refine lw_app ?_ (lw_methW h5)
  intro w hw
  simp only [List.mem_cons, List.not_mem_nil, or_false] at hw
  rcases hw with e | e | e | e
  · rw [e]; exact h1
  · rw [e]; exact h2
  · rw [e]; exact h3
  · rw [e]; exact h4
theorem lw_SW {own : String} {idx : Nat} {y : MethodName} {b : ByteArray} {L : Nat} {r : Option FieldType} {hh : List (Nat × Nat × Nat × Nat)} (h1 : Cond.methodLink own idx y ∈ lw_all) (h2 : Cond.static y ∈ lw_all) (h3 : Cond.initialized y.cls ∈ lw_all) (h4 : Cond.codeWith y b L r hh ∈ lw_all) : GoodIn lw_all (va_wsS own idx y (wsW_ y b L r hh)) := by
  refine lw_app ?_ (lw_methW h4)
  intro w hw
  simp only [List.mem_cons, List.not_mem_nil, or_false] at hw
  rcases hw with e | e | e
  · rw [e]; exact h1
  · rw [e]; exact h2
  · rw [e]; exact h3
/-- a word by its place in its run of the tables -/
theorem lw_at {r : List Cond} (hr : ∀ w ∈ r, w ∈ lw_tbl) {w : Cond} (i : Nat) (h : r[i]? = some w) : w ∈ lw_tbl := hr w (List.mem_of_getElem? h)
theorem lw_g {w : Cond} (h : w ∈ lw_tbl) (g : goodWord w = true) : w ∈ lw_all := List.mem_filter.mpr ⟨h, g⟩
theorem lw_ms : ∀ w ∈ k2_sels lw_privs, w ∈ lw_tbl := fun w h => show w ∈ k2_sels lw_privs ++ tables_1 from List.mem_append_left _ h
theorem lw_m1 : ∀ w ∈ tables_1_1, w ∈ lw_tbl := fun w h => show w ∈ k2_sels lw_privs ++ tables_1 from List.mem_append_right (k2_sels lw_privs) (show w ∈ tables_1 from List.mem_append_left _ h)
theorem lw_m2 : ∀ w ∈ tables_1_2, w ∈ lw_tbl := fun w h => show w ∈ k2_sels lw_privs ++ tables_1 from List.mem_append_right (k2_sels lw_privs) (show w ∈ tables_1 from List.mem_append_right _ (List.mem_append_left _ h))
theorem lw_m3 : ∀ w ∈ tables_1_3, w ∈ lw_tbl := fun w h => show w ∈ k2_sels lw_privs ++ tables_1 from List.mem_append_right (k2_sels lw_privs) (show w ∈ tables_1 from List.mem_append_right _ (List.mem_append_right _ (List.mem_append_left _ h)))
theorem lw_m4 : ∀ w ∈ tables_1_4, w ∈ lw_tbl := fun w h => show w ∈ k2_sels lw_privs ++ tables_1 from List.mem_append_right (k2_sels lw_privs) (show w ∈ tables_1 from List.mem_append_right _ (List.mem_append_right _ (List.mem_append_right _ (List.mem_append_left _ h))))
theorem lw_m5 : ∀ w ∈ tables_1_5, w ∈ lw_tbl := fun w h => show w ∈ k2_sels lw_privs ++ tables_1 from List.mem_append_right (k2_sels lw_privs) (show w ∈ tables_1 from List.mem_append_right _ (List.mem_append_right _ (List.mem_append_right _ (List.mem_append_right _ (List.mem_append_left _ h)))))
theorem lw_m6 : ∀ w ∈ tables_1_6, w ∈ lw_tbl := fun w h => show w ∈ k2_sels lw_privs ++ tables_1 from List.mem_append_right (k2_sels lw_privs) (show w ∈ tables_1 from List.mem_append_right _ (List.mem_append_right _ (List.mem_append_right _ (List.mem_append_right _ (List.mem_append_right _ (List.mem_append_left _ h))))))
theorem lw_m7 : ∀ w ∈ tables_1_7, w ∈ lw_tbl := fun w h => show w ∈ k2_sels lw_privs ++ tables_1 from List.mem_append_right (k2_sels lw_privs) (show w ∈ tables_1 from List.mem_append_right _ (List.mem_append_right _ (List.mem_append_right _ (List.mem_append_right _ (List.mem_append_right _ (List.mem_append_right _ (List.mem_append_left _ h)))))))
theorem lw_m8 : ∀ w ∈ tables_1_8, w ∈ lw_tbl := fun w h => show w ∈ k2_sels lw_privs ++ tables_1 from List.mem_append_right (k2_sels lw_privs) (show w ∈ tables_1 from List.mem_append_right _ (List.mem_append_right _ (List.mem_append_right _ (List.mem_append_right _ (List.mem_append_right _ (List.mem_append_right _ (List.mem_append_right _ (List.mem_append_left _ h))))))))
theorem lw_m9 : ∀ w ∈ tables_1_9, w ∈ lw_tbl := fun w h => show w ∈ k2_sels lw_privs ++ tables_1 from List.mem_append_right (k2_sels lw_privs) (show w ∈ tables_1 from List.mem_append_right _ (List.mem_append_right _ (List.mem_append_right _ (List.mem_append_right _ (List.mem_append_right _ (List.mem_append_right _ (List.mem_append_right _ (List.mem_append_right _ h))))))))
theorem qs0 : (Cond.selects "java/util/ArrayList" ⟨"java/util/ArrayList", "add", "(Ljava/lang/Object;[Ljava/lang/Object;I)V"⟩ ⟨"java/util/ArrayList", "add", "(Ljava/lang/Object;[Ljava/lang/Object;I)V"⟩) ∈ lw_all := lw_g (lw_at lw_ms 0 rfl) rfl
theorem qs1 : (Cond.selects "java/util/ArrayList" ⟨"java/util/ArrayList", "grow", "()[Ljava/lang/Object;"⟩ ⟨"java/util/ArrayList", "grow", "()[Ljava/lang/Object;"⟩) ∈ lw_all := lw_g (lw_at lw_ms 1 rfl) rfl
theorem qs2 : (Cond.selects "java/util/ArrayList" ⟨"java/util/ArrayList", "grow", "(I)[Ljava/lang/Object;"⟩ ⟨"java/util/ArrayList", "grow", "(I)[Ljava/lang/Object;"⟩) ∈ lw_all := lw_g (lw_at lw_ms 2 rfl) rfl
theorem qs3 : (Cond.selects "java/util/ArrayList" ⟨"java/util/ArrayList", "fastRemove", "([Ljava/lang/Object;I)V"⟩ ⟨"java/util/ArrayList", "fastRemove", "([Ljava/lang/Object;I)V"⟩) ∈ lw_all := lw_g (lw_at lw_ms 3 rfl) rfl
theorem qs4 : (Cond.selects "LameClocks" ⟨"LameClocks", "isClock", "(I)Z"⟩ ⟨"LameClocks", "isClock", "(I)Z"⟩) ∈ lw_all := lw_g (lw_at lw_ms 4 rfl) rfl
theorem qs5 : (Cond.selects "LameClocks" ⟨"LameClocks", "isWindow", "(I)Z"⟩ ⟨"LameClocks", "isWindow", "(I)Z"⟩) ∈ lw_all := lw_g (lw_at lw_ms 5 rfl) rfl
theorem qs6 : (Cond.selects "LameClocks$Race" ⟨"LameClocks$Race", "moves", "(LLameClocks$Plain;)V"⟩ ⟨"LameClocks$Race", "moves", "(LLameClocks$Plain;)V"⟩) ∈ lw_all := lw_g (lw_at lw_ms 6 rfl) rfl
theorem qs7 : (Cond.selects "LameClocks" ⟨"LameClocks", "runs", "(I)V"⟩ ⟨"LameClocks", "runs", "(I)V"⟩) ∈ lw_all := lw_g (lw_at lw_ms 7 rfl) rfl
theorem qs8 : (Cond.selects "LameClocks" ⟨"LameClocks", "goOn", "(I)V"⟩ ⟨"LameClocks", "goOn", "(I)V"⟩) ∈ lw_all := lw_g (lw_at lw_ms 8 rfl) rfl
theorem qs9 : (Cond.selects "LameClocks" ⟨"LameClocks", "isAsked", "(III)Z"⟩ ⟨"LameClocks", "isAsked", "(III)Z"⟩) ∈ lw_all := lw_g (lw_at lw_ms 9 rfl) rfl
theorem qs10 : (Cond.selects "LameClocks" ⟨"LameClocks", "comesTo", "(IIIII)Z"⟩ ⟨"LameClocks", "comesTo", "(IIIII)Z"⟩) ∈ lw_all := lw_g (lw_at lw_ms 10 rfl) rfl
theorem qs11 : (Cond.selects "LameClocks" ⟨"LameClocks", "rests", "(II)Z"⟩ ⟨"LameClocks", "rests", "(II)Z"⟩) ∈ lw_all := lw_g (lw_at lw_ms 11 rfl) rfl
theorem qs12 : (Cond.selects "LameClocks" ⟨"LameClocks", "spanBy", "(II)I"⟩ ⟨"LameClocks", "spanBy", "(II)I"⟩) ∈ lw_all := lw_g (lw_at lw_ms 12 rfl) rfl
theorem qs13 : (Cond.selects "LameClocks" ⟨"LameClocks", "areClocks", "(I)Z"⟩ ⟨"LameClocks", "areClocks", "(I)Z"⟩) ∈ lw_all := lw_g (lw_at lw_ms 13 rfl) rfl
theorem qs14 : (Cond.selects "LameClocks" ⟨"LameClocks", "strokesOf", "(I)I"⟩ ⟨"LameClocks", "strokesOf", "(I)I"⟩) ∈ lw_all := lw_g (lw_at lw_ms 14 rfl) rfl
theorem qs15 : (Cond.selects "java/lang/NullPointerException" ⟨"java/lang/NullPointerException", "getExtendedNPEMessage", "()Ljava/lang/String;"⟩ ⟨"java/lang/NullPointerException", "getExtendedNPEMessage", "()Ljava/lang/String;"⟩) ∈ lw_all := lw_g (lw_at lw_ms 15 rfl) rfl
theorem qs16 : (Cond.selects "java/lang/Throwable" ⟨"java/lang/Throwable", "fillInStackTrace", "(I)Ljava/lang/Throwable;"⟩ ⟨"java/lang/Throwable", "fillInStackTrace", "(I)Ljava/lang/Throwable;"⟩) ∈ lw_all := lw_g (lw_at lw_ms 16 rfl) rfl
theorem qs17 : (Cond.selects "LameClocks" ⟨"LameClocks", "readSigns", "(Ljava/lang/String;II)I"⟩ ⟨"LameClocks", "readSigns", "(Ljava/lang/String;II)I"⟩) ∈ lw_all := lw_g (lw_at lw_ms 17 rfl) rfl
theorem qs18 : (Cond.selects "LameClocks" ⟨"LameClocks", "here", "()I"⟩ ⟨"LameClocks", "here", "()I"⟩) ∈ lw_all := lw_g (lw_at lw_ms 18 rfl) rfl
theorem qs19 : (Cond.selects "LameClocks" ⟨"LameClocks", "letter", "(Ljava/lang/String;)I"⟩ ⟨"LameClocks", "letter", "(Ljava/lang/String;)I"⟩) ∈ lw_all := lw_g (lw_at lw_ms 19 rfl) rfl
theorem qs20 : (Cond.selects "LameClocks" ⟨"LameClocks", "ends", "()V"⟩ ⟨"LameClocks", "ends", "()V"⟩) ∈ lw_all := lw_g (lw_at lw_ms 20 rfl) rfl
theorem qs21 : (Cond.selects "LameClocks" ⟨"LameClocks", "readClock", "()LLameClocks$Plain;"⟩ ⟨"LameClocks", "readClock", "()LLameClocks$Plain;"⟩) ∈ lw_all := lw_g (lw_at lw_ms 21 rfl) rfl
theorem qs22 : (Cond.selects "LameClocks" ⟨"LameClocks", "number", "(II)I"⟩ ⟨"LameClocks", "number", "(II)I"⟩) ∈ lw_all := lw_g (lw_at lw_ms 22 rfl) rfl
theorem qs23 : (Cond.selects "LameClocks" ⟨"LameClocks", "passes", "(I)Z"⟩ ⟨"LameClocks", "passes", "(I)Z"⟩) ∈ lw_all := lw_g (lw_at lw_ms 23 rfl) rfl
theorem qs24 : (Cond.selects "LameClocks" ⟨"LameClocks", "readAct", "()LLameClocks$Act;"⟩ ⟨"LameClocks", "readAct", "()LLameClocks$Act;"⟩) ∈ lw_all := lw_g (lw_at lw_ms 24 rfl) rfl
theorem qs25 : (Cond.selects "LameClocks" ⟨"LameClocks", "must", "(I)V"⟩ ⟨"LameClocks", "must", "(I)V"⟩) ∈ lw_all := lw_g (lw_at lw_ms 25 rfl) rfl
theorem qs26 : (Cond.selects "LameClocks" ⟨"LameClocks", "digit", "(I)I"⟩ ⟨"LameClocks", "digit", "(I)I"⟩) ∈ lw_all := lw_g (lw_at lw_ms 26 rfl) rfl
theorem qs27 : (Cond.selects "LameClocks" ⟨"LameClocks", "refusal", "(IIII)I"⟩ ⟨"LameClocks", "refusal", "(IIII)I"⟩) ∈ lw_all := lw_g (lw_at lw_ms 27 rfl) rfl
theorem qs28 : (Cond.selects "LameClocks" ⟨"LameClocks", "looksAt", "(Ljava/lang/Object;III)V"⟩ ⟨"LameClocks", "looksAt", "(Ljava/lang/Object;III)V"⟩) ∈ lw_all := lw_g (lw_at lw_ms 28 rfl) rfl
theorem qs29 : (Cond.selects "LameClocks" ⟨"LameClocks", "isAsTaken", "()Z"⟩ ⟨"LameClocks", "isAsTaken", "()Z"⟩) ∈ lw_all := lw_g (lw_at lw_ms 29 rfl) rfl
theorem qs30 : (Cond.selects "LameClocksModel" ⟨"LameClocksModel", "add", "(IIII)V"⟩ ⟨"LameClocksModel", "add", "(IIII)V"⟩) ∈ lw_all := lw_g (lw_at lw_ms 30 rfl) rfl
theorem qs31 : (Cond.selects "LameClocksModel" ⟨"LameClocksModel", "isClock", "(I)Z"⟩ ⟨"LameClocksModel", "isClock", "(I)Z"⟩) ∈ lw_all := lw_g (lw_at lw_ms 31 rfl) rfl
theorem qs32 : (Cond.selects "LameClocksModel" ⟨"LameClocksModel", "shownBy", "(I)I"⟩ ⟨"LameClocksModel", "shownBy", "(I)I"⟩) ∈ lw_all := lw_g (lw_at lw_ms 32 rfl) rfl
theorem qs33 : (Cond.selects "LameClocksModel" ⟨"LameClocksModel", "truth", "()I"⟩ ⟨"LameClocksModel", "truth", "()I"⟩) ∈ lw_all := lw_g (lw_at lw_ms 33 rfl) rfl
theorem qs34 : (Cond.selects "LameClocksModel" ⟨"LameClocksModel", "strikes", "(I)I"⟩ ⟨"LameClocksModel", "strikes", "(I)I"⟩) ∈ lw_all := lw_g (lw_at lw_ms 34 rfl) rfl
theorem qs35 : (Cond.selects "LameClocksModel" ⟨"LameClocksModel", "isWindow", "(I)Z"⟩ ⟨"LameClocksModel", "isWindow", "(I)Z"⟩) ∈ lw_all := lw_g (lw_at lw_ms 35 rfl) rfl
theorem qs36 : (Cond.selects "LameClocksModel" ⟨"LameClocksModel", "readSigns", "(IIZ)Z"⟩ ⟨"LameClocksModel", "readSigns", "(IIZ)Z"⟩) ∈ lw_all := lw_g (lw_at lw_ms 36 rfl) rfl
theorem qs37 : (Cond.selects "LameClocksModel" ⟨"LameClocksModel", "nextLetter", "()I"⟩ ⟨"LameClocksModel", "nextLetter", "()I"⟩) ∈ lw_all := lw_g (lw_at lw_ms 37 rfl) rfl
theorem qs38 : (Cond.selects "LameClocksModel" ⟨"LameClocksModel", "end", "(Z)I"⟩ ⟨"LameClocksModel", "end", "(Z)I"⟩) ∈ lw_all := lw_g (lw_at lw_ms 38 rfl) rfl
theorem qs39 : (Cond.selects "LameClocksModel" ⟨"LameClocksModel", "allBack", "()V"⟩ ⟨"LameClocksModel", "allBack", "()V"⟩) ∈ lw_all := lw_g (lw_at lw_ms 39 rfl) rfl
theorem qs40 : (Cond.selects "LameClocksModel" ⟨"LameClocksModel", "readStreet", "()Z"⟩ ⟨"LameClocksModel", "readStreet", "()Z"⟩) ∈ lw_all := lw_g (lw_at lw_ms 40 rfl) rfl
theorem qs41 : (Cond.selects "LameClocksModel" ⟨"LameClocksModel", "readClock", "(I)Z"⟩ ⟨"LameClocksModel", "readClock", "(I)Z"⟩) ∈ lw_all := lw_g (lw_at lw_ms 41 rfl) rfl
theorem qs42 : (Cond.selects "LameClocksModel" ⟨"LameClocksModel", "readNumber", "(II)I"⟩ ⟨"LameClocksModel", "readNumber", "(II)I"⟩) ∈ lw_all := lw_g (lw_at lw_ms 42 rfl) rfl
theorem qs43 : (Cond.selects "LameClocksModel" ⟨"LameClocksModel", "takes", "(I)Z"⟩ ⟨"LameClocksModel", "takes", "(I)Z"⟩) ∈ lw_all := lw_g (lw_at lw_ms 43 rfl) rfl
theorem qs44 : (Cond.selects "LameClocksModel" ⟨"LameClocksModel", "readDay", "()Z"⟩ ⟨"LameClocksModel", "readDay", "()Z"⟩) ∈ lw_all := lw_g (lw_at lw_ms 44 rfl) rfl
theorem qs45 : (Cond.selects "LameClocksModel" ⟨"LameClocksModel", "readAct", "(I)Z"⟩ ⟨"LameClocksModel", "readAct", "(I)Z"⟩) ∈ lw_all := lw_g (lw_at lw_ms 45 rfl) rfl
theorem qs46 : (Cond.selects "LameClocksModel" ⟨"LameClocksModel", "does", "(I)Z"⟩ ⟨"LameClocksModel", "does", "(I)Z"⟩) ∈ lw_all := lw_g (lw_at lw_ms 46 rfl) rfl
theorem qs47 : (Cond.selects "LameClocksModel" ⟨"LameClocksModel", "note", "(III)V"⟩ ⟨"LameClocksModel", "note", "(III)V"⟩) ∈ lw_all := lw_g (lw_at lw_ms 47 rfl) rfl
theorem qs48 : (Cond.selects "LameClocksModel" ⟨"LameClocksModel", "addSpring", "(II)V"⟩ ⟨"LameClocksModel", "addSpring", "(II)V"⟩) ∈ lw_all := lw_g (lw_at lw_ms 48 rfl) rfl
theorem qs49 : (Cond.selects "LameClocksModel" ⟨"LameClocksModel", "addHands", "(II)V"⟩ ⟨"LameClocksModel", "addHands", "(II)V"⟩) ∈ lw_all := lw_g (lw_at lw_ms 49 rfl) rfl
theorem qs50 : (Cond.selects "LameClocksModel" ⟨"LameClocksModel", "skyNow", "()I"⟩ ⟨"LameClocksModel", "skyNow", "()I"⟩) ∈ lw_all := lw_g (lw_at lw_ms 50 rfl) rfl
theorem qs51 : (Cond.selects "LameClocksModel" ⟨"LameClocksModel", "goOn", "(I)I"⟩ ⟨"LameClocksModel", "goOn", "(I)I"⟩) ∈ lw_all := lw_g (lw_at lw_ms 51 rfl) rfl
theorem qs52 : (Cond.selects "LameClocksModel" ⟨"LameClocksModel", "isHome", "(I)Z"⟩ ⟨"LameClocksModel", "isHome", "(I)Z"⟩) ∈ lw_all := lw_g (lw_at lw_ms 52 rfl) rfl
theorem qs53 : (Cond.selects "LameClocksModel" ⟨"LameClocksModel", "goes", "(II)Z"⟩ ⟨"LameClocksModel", "goes", "(II)Z"⟩) ∈ lw_all := lw_g (lw_at lw_ms 53 rfl) rfl
theorem qs54 : (Cond.selects "LameClocksModel" ⟨"LameClocksModel", "run", "(I)V"⟩ ⟨"LameClocksModel", "run", "(I)V"⟩) ∈ lw_all := lw_g (lw_at lw_ms 54 rfl) rfl
theorem qs55 : (Cond.selects "LameClocksModel" ⟨"LameClocksModel", "placeOf", "(I)I"⟩ ⟨"LameClocksModel", "placeOf", "(I)I"⟩) ∈ lw_all := lw_g (lw_at lw_ms 55 rfl) rfl
theorem qs56 : (Cond.selects "LameClocksModel" ⟨"LameClocksModel", "isAhead", "(II)Z"⟩ ⟨"LameClocksModel", "isAhead", "(II)Z"⟩) ∈ lw_all := lw_g (lw_at lw_ms 56 rfl) rfl
theorem qs57 : (Cond.selects "LameClocksModel" ⟨"LameClocksModel", "homes", "()I"⟩ ⟨"LameClocksModel", "homes", "()I"⟩) ∈ lw_all := lw_g (lw_at lw_ms 57 rfl) rfl
theorem qs58 : (Cond.selects "LameClocksModel" ⟨"LameClocksModel", "tied", "()I"⟩ ⟨"LameClocksModel", "tied", "()I"⟩) ∈ lw_all := lw_g (lw_at lw_ms 58 rfl) rfl
theorem qs59 : (Cond.selects "LameClocksModel" ⟨"LameClocksModel", "keepAside", "()V"⟩ ⟨"LameClocksModel", "keepAside", "()V"⟩) ∈ lw_all := lw_g (lw_at lw_ms 59 rfl) rfl
theorem qs60 : (Cond.selects "LameClocksModel" ⟨"LameClocksModel", "goHours", "(I)V"⟩ ⟨"LameClocksModel", "goHours", "(I)V"⟩) ∈ lw_all := lw_g (lw_at lw_ms 60 rfl) rfl
theorem qs61 : (Cond.selects "LameClocksModel" ⟨"LameClocksModel", "bringBack", "()V"⟩ ⟨"LameClocksModel", "bringBack", "()V"⟩) ∈ lw_all := lw_g (lw_at lw_ms 61 rfl) rfl
theorem qs62 : (Cond.selects "LameClocksModel" ⟨"LameClocksModel", "isAsked", "(III)Z"⟩ ⟨"LameClocksModel", "isAsked", "(III)Z"⟩) ∈ lw_all := lw_g (lw_at lw_ms 62 rfl) rfl
theorem qs63 : (Cond.selects "LameClocksModel" ⟨"LameClocksModel", "placeWith", "(IIII)I"⟩ ⟨"LameClocksModel", "placeWith", "(IIII)I"⟩) ∈ lw_all := lw_g (lw_at lw_ms 63 rfl) rfl
theorem qs64 : (Cond.selects "LameClocksModel" ⟨"LameClocksModel", "doesRest", "(I)Z"⟩ ⟨"LameClocksModel", "doesRest", "(I)Z"⟩) ∈ lw_all := lw_g (lw_at lw_ms 64 rfl) rfl
theorem qs65 : (Cond.selects "LameClocksModel" ⟨"LameClocksModel", "areClocks", "(I)Z"⟩ ⟨"LameClocksModel", "areClocks", "(I)Z"⟩) ∈ lw_all := lw_g (lw_at lw_ms 65 rfl) rfl
theorem qs66 : (Cond.selects "LameClocksModel" ⟨"LameClocksModel", "carried", "(IIZ)I"⟩ ⟨"LameClocksModel", "carried", "(IIZ)I"⟩) ∈ lw_all := lw_g (lw_at lw_ms 66 rfl) rfl
theorem qs67 : (Cond.selects "LameClocksModel" ⟨"LameClocksModel", "lacksRow", "(IIII)I"⟩ ⟨"LameClocksModel", "lacksRow", "(IIII)I"⟩) ∈ lw_all := lw_g (lw_at lw_ms 67 rfl) rfl
theorem qs68 : (Cond.selects "LameClocksModel" ⟨"LameClocksModel", "areSo", "(I)Z"⟩ ⟨"LameClocksModel", "areSo", "(I)Z"⟩) ∈ lw_all := lw_g (lw_at lw_ms 68 rfl) rfl
