-- ===== PART A: goes FIRST, ahead of the names: the tables' words, and 'selects' of the private methods out of them =====
/-- a private method of a class that the tables say can be made, by its rows of tables_1 -/
def lw_okq (q : MethodName × Nat) : Prop := (q.1.cls ≠ "java/lang/invoke/MethodHandle" ∧ q.1.cls ≠ "java/lang/invoke/VarHandle") ∧ Cond.instantiable q.1.cls q.2 ∈ tables_1 ∧ Cond.privateMethod q.1 ∈ tables_1 ∧ Cond.instanceMethod q.1 ∈ tables_1
set_option maxRecDepth 100000
theorem lw_t1 {w : Cond} (h : w ∈ tables_1_1) : w ∈ tables_1 := List.mem_append_left _ h
theorem lw_t2 {w : Cond} (h : w ∈ tables_1_2) : w ∈ tables_1 := List.mem_append_right _ (List.mem_append_left _ h)
theorem lw_t3 {w : Cond} (h : w ∈ tables_1_3) : w ∈ tables_1 := List.mem_append_right _ (List.mem_append_right _ (List.mem_append_left _ h))
theorem lw_t4 {w : Cond} (h : w ∈ tables_1_4) : w ∈ tables_1 := List.mem_append_right _ (List.mem_append_right _ (List.mem_append_right _ (List.mem_append_left _ h)))
theorem lw_t5 {w : Cond} (h : w ∈ tables_1_5) : w ∈ tables_1 := List.mem_append_right _ (List.mem_append_right _ (List.mem_append_right _ (List.mem_append_right _ (List.mem_append_left _ h))))
theorem lw_t6 {w : Cond} (h : w ∈ tables_1_6) : w ∈ tables_1 := List.mem_append_right _ (List.mem_append_right _ (List.mem_append_right _ (List.mem_append_right _ (List.mem_append_right _ (List.mem_append_left _ h)))))
theorem lw_t7 {w : Cond} (h : w ∈ tables_1_7) : w ∈ tables_1 := List.mem_append_right _ (List.mem_append_right _ (List.mem_append_right _ (List.mem_append_right _ (List.mem_append_right _ (List.mem_append_right _ (List.mem_append_left _ h))))))
theorem lw_t8 {w : Cond} (h : w ∈ tables_1_8) : w ∈ tables_1 := List.mem_append_right _ (List.mem_append_right _ (List.mem_append_right _ (List.mem_append_right _ (List.mem_append_right _ (List.mem_append_right _ (List.mem_append_right _ h))))))
theorem lw_p0 : lw_okq (⟨"java/util/ArrayList", "fastRemove", "([Ljava/lang/Object;I)V"⟩, 3) := ⟨⟨by decide +kernel, by decide +kernel⟩, lw_t1 (List.mem_of_getElem? (i := 52) rfl), lw_t2 (List.mem_of_getElem? (i := 109) rfl), lw_t2 (List.mem_of_getElem? (i := 110) rfl)⟩
theorem lw_p1 : lw_okq (⟨"EndingTown", "mends", "(I)Z"⟩, 16) := ⟨⟨by decide +kernel, by decide +kernel⟩, lw_t1 (List.mem_of_getElem? (i := 38) rfl), lw_t2 (List.mem_of_getElem? (i := 126) rfl), lw_t2 (List.mem_of_getElem? (i := 127) rfl)⟩
theorem lw_p2 : lw_okq (⟨"EndingTown$Day", "attempt", "(LEndingTown$Saying;II)Z"⟩, 6) := ⟨⟨by decide +kernel, by decide +kernel⟩, lw_t1 (List.mem_of_getElem? (i := 211) rfl), lw_t2 (List.mem_of_getElem? (i := 154) rfl), lw_t2 (List.mem_of_getElem? (i := 155) rfl)⟩
theorem lw_p3 : lw_okq (⟨"EndingTown$Told", "tells", "(LEndingTown$Day;IIIIZ)Z"⟩, 2) := ⟨⟨by decide +kernel, by decide +kernel⟩, lw_t1 (List.mem_of_getElem? (i := 175) rfl), lw_t2 (List.mem_of_getElem? (i := 186) rfl), lw_t2 (List.mem_of_getElem? (i := 187) rfl)⟩
theorem lw_p4 : lw_okq (⟨"EndingTown$Worked", "tell", "(LEndingTown$Day;II)V"⟩, 3) := ⟨⟨by decide +kernel, by decide +kernel⟩, lw_t1 (List.mem_of_getElem? (i := 186) rfl), lw_t2 (List.mem_of_getElem? (i := 201) rfl), lw_t2 (List.mem_of_getElem? (i := 202) rfl)⟩
theorem lw_p5 : lw_okq (⟨"EndingTown$Worked", "ruleRound", "(LEndingTown$Rule;)I"⟩, 3) := ⟨⟨by decide +kernel, by decide +kernel⟩, lw_t1 (List.mem_of_getElem? (i := 186) rfl), lw_t2 (List.mem_of_getElem? (i := 211) rfl), lw_t2 (List.mem_of_getElem? (i := 212) rfl)⟩
theorem lw_p6 : lw_okq (⟨"EndingTown", "held", "(LEndingTown$Day;)I"⟩, 16) := ⟨⟨by decide +kernel, by decide +kernel⟩, lw_t1 (List.mem_of_getElem? (i := 38) rfl), lw_t2 (List.mem_of_getElem? (i := 218) rfl), lw_t2 (List.mem_of_getElem? (i := 219) rfl)⟩
theorem lw_p7 : lw_okq (⟨"java/lang/Throwable", "fillInStackTrace", "(I)Ljava/lang/Throwable;"⟩, 6) := ⟨⟨by decide +kernel, by decide +kernel⟩, lw_t3 (List.mem_of_getElem? (i := 103) rfl), lw_t3 (List.mem_of_getElem? (i := 101) rfl), lw_t3 (List.mem_of_getElem? (i := 102) rfl)⟩
theorem lw_p8 : lw_okq (⟨"EndingTown$Reader", "here", "()I"⟩, 10) := ⟨⟨by decide +kernel, by decide +kernel⟩, lw_t3 (List.mem_of_getElem? (i := 129) rfl), lw_t3 (List.mem_of_getElem? (i := 177) rfl), lw_t3 (List.mem_of_getElem? (i := 178) rfl)⟩
theorem lw_p9 : lw_okq (⟨"EndingTown$Reader", "isLetter", "()Z"⟩, 10) := ⟨⟨by decide +kernel, by decide +kernel⟩, lw_t3 (List.mem_of_getElem? (i := 129) rfl), lw_t3 (List.mem_of_getElem? (i := 181) rfl), lw_t3 (List.mem_of_getElem? (i := 182) rfl)⟩
theorem lw_p10 : lw_okq (⟨"EndingTown$Reader", "isDigit", "()Z"⟩, 10) := ⟨⟨by decide +kernel, by decide +kernel⟩, lw_t3 (List.mem_of_getElem? (i := 129) rfl), lw_t3 (List.mem_of_getElem? (i := 188) rfl), lw_t3 (List.mem_of_getElem? (i := 189) rfl)⟩
theorem lw_p11 : lw_okq (⟨"EndingTown$Reader", "line", "()V"⟩, 10) := ⟨⟨by decide +kernel, by decide +kernel⟩, lw_t3 (List.mem_of_getElem? (i := 129) rfl), lw_t3 (List.mem_of_getElem? (i := 193) rfl), lw_t3 (List.mem_of_getElem? (i := 194) rfl)⟩
theorem lw_p12 : lw_okq (⟨"EndingTown$Reader", "is", "(Ljava/lang/String;)Z"⟩, 10) := ⟨⟨by decide +kernel, by decide +kernel⟩, lw_t3 (List.mem_of_getElem? (i := 129) rfl), lw_t3 (List.mem_of_getElem? (i := 198) rfl), lw_t3 (List.mem_of_getElem? (i := 199) rfl)⟩
theorem lw_p13 : lw_okq (⟨"EndingTown$Reader", "places", "()V"⟩, 10) := ⟨⟨by decide +kernel, by decide +kernel⟩, lw_t3 (List.mem_of_getElem? (i := 129) rfl), lw_t4 (List.mem_of_getElem? (i := 8) rfl), lw_t4 (List.mem_of_getElem? (i := 9) rfl)⟩
theorem lw_p14 : lw_okq (⟨"EndingTown$Reader", "want", "(ZI)V"⟩, 10) := ⟨⟨by decide +kernel, by decide +kernel⟩, lw_t3 (List.mem_of_getElem? (i := 129) rfl), lw_t4 (List.mem_of_getElem? (i := 12) rfl), lw_t4 (List.mem_of_getElem? (i := 13) rfl)⟩
theorem lw_p15 : lw_okq (⟨"EndingTown$Reader", "number", "(II)I"⟩, 10) := ⟨⟨by decide +kernel, by decide +kernel⟩, lw_t3 (List.mem_of_getElem? (i := 129) rfl), lw_t4 (List.mem_of_getElem? (i := 40) rfl), lw_t4 (List.mem_of_getElem? (i := 41) rfl)⟩
def lw_privs_1 : List (MethodName × Nat) := [(⟨"java/util/ArrayList", "fastRemove", "([Ljava/lang/Object;I)V"⟩, 3), (⟨"EndingTown", "mends", "(I)Z"⟩, 16), (⟨"EndingTown$Day", "attempt", "(LEndingTown$Saying;II)Z"⟩, 6), (⟨"EndingTown$Told", "tells", "(LEndingTown$Day;IIIIZ)Z"⟩, 2), (⟨"EndingTown$Worked", "tell", "(LEndingTown$Day;II)V"⟩, 3), (⟨"EndingTown$Worked", "ruleRound", "(LEndingTown$Rule;)I"⟩, 3), (⟨"EndingTown", "held", "(LEndingTown$Day;)I"⟩, 16), (⟨"java/lang/Throwable", "fillInStackTrace", "(I)Ljava/lang/Throwable;"⟩, 6), (⟨"EndingTown$Reader", "here", "()I"⟩, 10), (⟨"EndingTown$Reader", "isLetter", "()Z"⟩, 10), (⟨"EndingTown$Reader", "isDigit", "()Z"⟩, 10), (⟨"EndingTown$Reader", "line", "()V"⟩, 10), (⟨"EndingTown$Reader", "is", "(Ljava/lang/String;)Z"⟩, 10), (⟨"EndingTown$Reader", "places", "()V"⟩, 10), (⟨"EndingTown$Reader", "want", "(ZI)V"⟩, 10), (⟨"EndingTown$Reader", "number", "(II)I"⟩, 10)]
theorem lw_r1 : ∀ q ∈ lw_privs_1, lw_okq q := List.forall_mem_cons.mpr ⟨lw_p0, List.forall_mem_cons.mpr ⟨lw_p1, List.forall_mem_cons.mpr ⟨lw_p2, List.forall_mem_cons.mpr ⟨lw_p3, List.forall_mem_cons.mpr ⟨lw_p4, List.forall_mem_cons.mpr ⟨lw_p5, List.forall_mem_cons.mpr ⟨lw_p6, List.forall_mem_cons.mpr ⟨lw_p7, List.forall_mem_cons.mpr ⟨lw_p8, List.forall_mem_cons.mpr ⟨lw_p9, List.forall_mem_cons.mpr ⟨lw_p10, List.forall_mem_cons.mpr ⟨lw_p11, List.forall_mem_cons.mpr ⟨lw_p12, List.forall_mem_cons.mpr ⟨lw_p13, List.forall_mem_cons.mpr ⟨lw_p14, List.forall_mem_cons.mpr ⟨lw_p15, fun _ h => absurd h List.not_mem_nil⟩⟩⟩⟩⟩⟩⟩⟩⟩⟩⟩⟩⟩⟩⟩⟩
theorem lw_p16 : lw_okq (⟨"EndingTown$Reader", "numberNow", "(II)I"⟩, 10) := ⟨⟨by decide +kernel, by decide +kernel⟩, lw_t3 (List.mem_of_getElem? (i := 129) rfl), lw_t4 (List.mem_of_getElem? (i := 44) rfl), lw_t4 (List.mem_of_getElem? (i := 45) rfl)⟩
theorem lw_p17 : lw_okq (⟨"EndingTown$Reader", "passes", "(Ljava/lang/String;)Z"⟩, 10) := ⟨⟨by decide +kernel, by decide +kernel⟩, lw_t3 (List.mem_of_getElem? (i := 129) rfl), lw_t4 (List.mem_of_getElem? (i := 49) rfl), lw_t4 (List.mem_of_getElem? (i := 50) rfl)⟩
theorem lw_p18 : lw_okq (⟨"EndingTown$Reader", "near", "()V"⟩, 10) := ⟨⟨by decide +kernel, by decide +kernel⟩, lw_t3 (List.mem_of_getElem? (i := 129) rfl), lw_t4 (List.mem_of_getElem? (i := 53) rfl), lw_t4 (List.mem_of_getElem? (i := 54) rfl)⟩
theorem lw_p19 : lw_okq (⟨"EndingTown$Reader", "one", "(I)I"⟩, 10) := ⟨⟨by decide +kernel, by decide +kernel⟩, lw_t3 (List.mem_of_getElem? (i := 129) rfl), lw_t4 (List.mem_of_getElem? (i := 57) rfl), lw_t4 (List.mem_of_getElem? (i := 58) rfl)⟩
theorem lw_p20 : lw_okq (⟨"EndingTown$Reader", "oneNow", "(I)I"⟩, 10) := ⟨⟨by decide +kernel, by decide +kernel⟩, lw_t3 (List.mem_of_getElem? (i := 129) rfl), lw_t4 (List.mem_of_getElem? (i := 61) rfl), lw_t4 (List.mem_of_getElem? (i := 62) rfl)⟩
theorem lw_p21 : lw_okq (⟨"EndingTown$Reader", "thing", "()V"⟩, 10) := ⟨⟨by decide +kernel, by decide +kernel⟩, lw_t3 (List.mem_of_getElem? (i := 129) rfl), lw_t4 (List.mem_of_getElem? (i := 67) rfl), lw_t4 (List.mem_of_getElem? (i := 68) rfl)⟩
theorem lw_p22 : lw_okq (⟨"java/util/ArrayList", "add", "(Ljava/lang/Object;[Ljava/lang/Object;I)V"⟩, 3) := ⟨⟨by decide +kernel, by decide +kernel⟩, lw_t1 (List.mem_of_getElem? (i := 52) rfl), lw_t4 (List.mem_of_getElem? (i := 128) rfl), lw_t4 (List.mem_of_getElem? (i := 129) rfl)⟩
theorem lw_p23 : lw_okq (⟨"java/util/ArrayList", "grow", "()[Ljava/lang/Object;"⟩, 3) := ⟨⟨by decide +kernel, by decide +kernel⟩, lw_t1 (List.mem_of_getElem? (i := 52) rfl), lw_t4 (List.mem_of_getElem? (i := 132) rfl), lw_t4 (List.mem_of_getElem? (i := 133) rfl)⟩
theorem lw_p24 : lw_okq (⟨"java/util/ArrayList", "grow", "(I)[Ljava/lang/Object;"⟩, 3) := ⟨⟨by decide +kernel, by decide +kernel⟩, lw_t1 (List.mem_of_getElem? (i := 52) rfl), lw_t4 (List.mem_of_getElem? (i := 136) rfl), lw_t4 (List.mem_of_getElem? (i := 137) rfl)⟩
theorem lw_p25 : lw_okq (⟨"EndingTown$Reader", "rule", "()V"⟩, 10) := ⟨⟨by decide +kernel, by decide +kernel⟩, lw_t3 (List.mem_of_getElem? (i := 129) rfl), lw_t4 (List.mem_of_getElem? (i := 151) rfl), lw_t4 (List.mem_of_getElem? (i := 152) rfl)⟩
theorem lw_p26 : lw_okq (⟨"EndingTown$Reader", "at", "()V"⟩, 10) := ⟨⟨by decide +kernel, by decide +kernel⟩, lw_t3 (List.mem_of_getElem? (i := 129) rfl), lw_t4 (List.mem_of_getElem? (i := 181) rfl), lw_t4 (List.mem_of_getElem? (i := 182) rfl)⟩
theorem lw_p27 : lw_okq (⟨"EndingTown$Reader", "weigh", "()V"⟩, 10) := ⟨⟨by decide +kernel, by decide +kernel⟩, lw_t3 (List.mem_of_getElem? (i := 129) rfl), lw_t4 (List.mem_of_getElem? (i := 186) rfl), lw_t4 (List.mem_of_getElem? (i := 187) rfl)⟩
theorem lw_p28 : lw_okq (⟨"EndingTown$Reader", "tongue", "()V"⟩, 10) := ⟨⟨by decide +kernel, by decide +kernel⟩, lw_t3 (List.mem_of_getElem? (i := 129) rfl), lw_t4 (List.mem_of_getElem? (i := 190) rfl), lw_t4 (List.mem_of_getElem? (i := 191) rfl)⟩
theorem lw_p29 : lw_okq (⟨"EndingTown$Reader", "letters", "()LEndingTown$Letters;"⟩, 10) := ⟨⟨by decide +kernel, by decide +kernel⟩, lw_t3 (List.mem_of_getElem? (i := 129) rfl), lw_t4 (List.mem_of_getElem? (i := 195) rfl), lw_t4 (List.mem_of_getElem? (i := 196) rfl)⟩
theorem lw_p30 : lw_okq (⟨"EndingTown$Reader", "ending", "()V"⟩, 10) := ⟨⟨by decide +kernel, by decide +kernel⟩, lw_t3 (List.mem_of_getElem? (i := 129) rfl), lw_t4 (List.mem_of_getElem? (i := 212) rfl), lw_t4 (List.mem_of_getElem? (i := 213) rfl)⟩
theorem lw_p31 : lw_okq (⟨"EndingTown$Reader", "change", "()V"⟩, 10) := ⟨⟨by decide +kernel, by decide +kernel⟩, lw_t3 (List.mem_of_getElem? (i := 129) rfl), lw_t4 (List.mem_of_getElem? (i := 217) rfl), lw_t4 (List.mem_of_getElem? (i := 218) rfl)⟩
def lw_privs_2 : List (MethodName × Nat) := [(⟨"EndingTown$Reader", "numberNow", "(II)I"⟩, 10), (⟨"EndingTown$Reader", "passes", "(Ljava/lang/String;)Z"⟩, 10), (⟨"EndingTown$Reader", "near", "()V"⟩, 10), (⟨"EndingTown$Reader", "one", "(I)I"⟩, 10), (⟨"EndingTown$Reader", "oneNow", "(I)I"⟩, 10), (⟨"EndingTown$Reader", "thing", "()V"⟩, 10), (⟨"java/util/ArrayList", "add", "(Ljava/lang/Object;[Ljava/lang/Object;I)V"⟩, 3), (⟨"java/util/ArrayList", "grow", "()[Ljava/lang/Object;"⟩, 3), (⟨"java/util/ArrayList", "grow", "(I)[Ljava/lang/Object;"⟩, 3), (⟨"EndingTown$Reader", "rule", "()V"⟩, 10), (⟨"EndingTown$Reader", "at", "()V"⟩, 10), (⟨"EndingTown$Reader", "weigh", "()V"⟩, 10), (⟨"EndingTown$Reader", "tongue", "()V"⟩, 10), (⟨"EndingTown$Reader", "letters", "()LEndingTown$Letters;"⟩, 10), (⟨"EndingTown$Reader", "ending", "()V"⟩, 10), (⟨"EndingTown$Reader", "change", "()V"⟩, 10)]
theorem lw_r2 : ∀ q ∈ lw_privs_2, lw_okq q := List.forall_mem_cons.mpr ⟨lw_p16, List.forall_mem_cons.mpr ⟨lw_p17, List.forall_mem_cons.mpr ⟨lw_p18, List.forall_mem_cons.mpr ⟨lw_p19, List.forall_mem_cons.mpr ⟨lw_p20, List.forall_mem_cons.mpr ⟨lw_p21, List.forall_mem_cons.mpr ⟨lw_p22, List.forall_mem_cons.mpr ⟨lw_p23, List.forall_mem_cons.mpr ⟨lw_p24, List.forall_mem_cons.mpr ⟨lw_p25, List.forall_mem_cons.mpr ⟨lw_p26, List.forall_mem_cons.mpr ⟨lw_p27, List.forall_mem_cons.mpr ⟨lw_p28, List.forall_mem_cons.mpr ⟨lw_p29, List.forall_mem_cons.mpr ⟨lw_p30, List.forall_mem_cons.mpr ⟨lw_p31, fun _ h => absurd h List.not_mem_nil⟩⟩⟩⟩⟩⟩⟩⟩⟩⟩⟩⟩⟩⟩⟩⟩
theorem lw_p32 : lw_okq (⟨"EndingTown", "aPerson", "(I)V"⟩, 16) := ⟨⟨by decide +kernel, by decide +kernel⟩, lw_t1 (List.mem_of_getElem? (i := 38) rfl), lw_t5 (List.mem_of_getElem? (i := 31) rfl), lw_t5 (List.mem_of_getElem? (i := 32) rfl)⟩
theorem lw_p33 : lw_okq (⟨"EndingTown", "anHour", "(I)V"⟩, 16) := ⟨⟨by decide +kernel, by decide +kernel⟩, lw_t1 (List.mem_of_getElem? (i := 38) rfl), lw_t5 (List.mem_of_getElem? (i := 39) rfl), lw_t5 (List.mem_of_getElem? (i := 40) rfl)⟩
theorem lw_p34 : lw_okq (⟨"EndingTown", "aThing", "(I)V"⟩, 16) := ⟨⟨by decide +kernel, by decide +kernel⟩, lw_t1 (List.mem_of_getElem? (i := 38) rfl), lw_t5 (List.mem_of_getElem? (i := 51) rfl), lw_t5 (List.mem_of_getElem? (i := 52) rfl)⟩
theorem lw_p35 : lw_okq (⟨"EndingTown", "waysOf", "(LEndingTown$Letters;[I)I"⟩, 16) := ⟨⟨by decide +kernel, by decide +kernel⟩, lw_t1 (List.mem_of_getElem? (i := 38) rfl), lw_t5 (List.mem_of_getElem? (i := 92) rfl), lw_t5 (List.mem_of_getElem? (i := 93) rfl)⟩
theorem lw_p36 : lw_okq (⟨"EndingTown", "add", "(LEndingTown$Saying;)I"⟩, 16) := ⟨⟨by decide +kernel, by decide +kernel⟩, lw_t1 (List.mem_of_getElem? (i := 38) rfl), lw_t5 (List.mem_of_getElem? (i := 150) rfl), lw_t5 (List.mem_of_getElem? (i := 151) rfl)⟩
theorem lw_p37 : lw_okq (⟨"EndingTown", "refuse", "()I"⟩, 16) := ⟨⟨by decide +kernel, by decide +kernel⟩, lw_t1 (List.mem_of_getElem? (i := 38) rfl), lw_t5 (List.mem_of_getElem? (i := 154) rfl), lw_t5 (List.mem_of_getElem? (i := 155) rfl)⟩
theorem lw_p38 : lw_okq (⟨"EndingTown", "whole", "()LEndingTown$Day;"⟩, 16) := ⟨⟨by decide +kernel, by decide +kernel⟩, lw_t1 (List.mem_of_getElem? (i := 38) rfl), lw_t5 (List.mem_of_getElem? (i := 181) rfl), lw_t5 (List.mem_of_getElem? (i := 182) rfl)⟩
theorem lw_p39 : lw_okq (⟨"EndingTown", "above", "()I"⟩, 16) := ⟨⟨by decide +kernel, by decide +kernel⟩, lw_t1 (List.mem_of_getElem? (i := 38) rfl), lw_t5 (List.mem_of_getElem? (i := 224) rfl), lw_t5 (List.mem_of_getElem? (i := 225) rfl)⟩
theorem lw_p40 : lw_okq (⟨"EndingTown", "worldsOf", "(IZ)I"⟩, 16) := ⟨⟨by decide +kernel, by decide +kernel⟩, lw_t1 (List.mem_of_getElem? (i := 38) rfl), lw_t6 (List.mem_of_getElem? (i := 25) rfl), lw_t6 (List.mem_of_getElem? (i := 26) rfl)⟩
theorem lw_p41 : lw_okq (⟨"EndingTown", "isSo", "(II)Z"⟩, 16) := ⟨⟨by decide +kernel, by decide +kernel⟩, lw_t1 (List.mem_of_getElem? (i := 38) rfl), lw_t6 (List.mem_of_getElem? (i := 29) rfl), lw_t6 (List.mem_of_getElem? (i := 30) rfl)⟩
theorem lw_p42 : lw_okq (⟨"EndingTown", "knows", "(II)I"⟩, 16) := ⟨⟨by decide +kernel, by decide +kernel⟩, lw_t1 (List.mem_of_getElem? (i := 38) rfl), lw_t6 (List.mem_of_getElem? (i := 33) rfl), lw_t6 (List.mem_of_getElem? (i := 34) rfl)⟩
theorem lw_p43 : lw_okq (⟨"EndingTown", "sees", "(I)I"⟩, 16) := ⟨⟨by decide +kernel, by decide +kernel⟩, lw_t1 (List.mem_of_getElem? (i := 38) rfl), lw_t6 (List.mem_of_getElem? (i := 37) rfl), lw_t6 (List.mem_of_getElem? (i := 38) rfl)⟩
theorem lw_p44 : lw_okq (⟨"EndingTown", "worldThing", "(I)I"⟩, 16) := ⟨⟨by decide +kernel, by decide +kernel⟩, lw_t1 (List.mem_of_getElem? (i := 38) rfl), lw_t6 (List.mem_of_getElem? (i := 41) rfl), lw_t6 (List.mem_of_getElem? (i := 42) rfl)⟩
theorem lw_p45 : lw_okq (⟨"EndingTown", "real", "()I"⟩, 16) := ⟨⟨by decide +kernel, by decide +kernel⟩, lw_t1 (List.mem_of_getElem? (i := 38) rfl), lw_t6 (List.mem_of_getElem? (i := 49) rfl), lw_t6 (List.mem_of_getElem? (i := 50) rfl)⟩
theorem lw_p46 : lw_okq (⟨"EndingTownModel", "lays", "(I)V"⟩, 74) := ⟨⟨by decide +kernel, by decide +kernel⟩, lw_t6 (List.mem_of_getElem? (i := 60) rfl), lw_t7 (List.mem_of_getElem? (i := 57) rfl), lw_t7 (List.mem_of_getElem? (i := 58) rfl)⟩
theorem lw_p47 : lw_okq (⟨"EndingTownModel", "right", "(ZI)Z"⟩, 74) := ⟨⟨by decide +kernel, by decide +kernel⟩, lw_t6 (List.mem_of_getElem? (i := 60) rfl), lw_t7 (List.mem_of_getElem? (i := 65) rfl), lw_t7 (List.mem_of_getElem? (i := 66) rfl)⟩
def lw_privs_3 : List (MethodName × Nat) := [(⟨"EndingTown", "aPerson", "(I)V"⟩, 16), (⟨"EndingTown", "anHour", "(I)V"⟩, 16), (⟨"EndingTown", "aThing", "(I)V"⟩, 16), (⟨"EndingTown", "waysOf", "(LEndingTown$Letters;[I)I"⟩, 16), (⟨"EndingTown", "add", "(LEndingTown$Saying;)I"⟩, 16), (⟨"EndingTown", "refuse", "()I"⟩, 16), (⟨"EndingTown", "whole", "()LEndingTown$Day;"⟩, 16), (⟨"EndingTown", "above", "()I"⟩, 16), (⟨"EndingTown", "worldsOf", "(IZ)I"⟩, 16), (⟨"EndingTown", "isSo", "(II)Z"⟩, 16), (⟨"EndingTown", "knows", "(II)I"⟩, 16), (⟨"EndingTown", "sees", "(I)I"⟩, 16), (⟨"EndingTown", "worldThing", "(I)I"⟩, 16), (⟨"EndingTown", "real", "()I"⟩, 16), (⟨"EndingTownModel", "lays", "(I)V"⟩, 74), (⟨"EndingTownModel", "right", "(ZI)Z"⟩, 74)]
theorem lw_r3 : ∀ q ∈ lw_privs_3, lw_okq q := List.forall_mem_cons.mpr ⟨lw_p32, List.forall_mem_cons.mpr ⟨lw_p33, List.forall_mem_cons.mpr ⟨lw_p34, List.forall_mem_cons.mpr ⟨lw_p35, List.forall_mem_cons.mpr ⟨lw_p36, List.forall_mem_cons.mpr ⟨lw_p37, List.forall_mem_cons.mpr ⟨lw_p38, List.forall_mem_cons.mpr ⟨lw_p39, List.forall_mem_cons.mpr ⟨lw_p40, List.forall_mem_cons.mpr ⟨lw_p41, List.forall_mem_cons.mpr ⟨lw_p42, List.forall_mem_cons.mpr ⟨lw_p43, List.forall_mem_cons.mpr ⟨lw_p44, List.forall_mem_cons.mpr ⟨lw_p45, List.forall_mem_cons.mpr ⟨lw_p46, List.forall_mem_cons.mpr ⟨lw_p47, fun _ h => absurd h List.not_mem_nil⟩⟩⟩⟩⟩⟩⟩⟩⟩⟩⟩⟩⟩⟩⟩⟩
theorem lw_p48 : lw_okq (⟨"EndingTownModel", "empties", "()V"⟩, 74) := ⟨⟨by decide +kernel, by decide +kernel⟩, lw_t6 (List.mem_of_getElem? (i := 60) rfl), lw_t7 (List.mem_of_getElem? (i := 69) rfl), lw_t7 (List.mem_of_getElem? (i := 70) rfl)⟩
theorem lw_p49 : lw_okq (⟨"EndingTownModel", "steps", "()V"⟩, 74) := ⟨⟨by decide +kernel, by decide +kernel⟩, lw_t6 (List.mem_of_getElem? (i := 60) rfl), lw_t7 (List.mem_of_getElem? (i := 73) rfl), lw_t7 (List.mem_of_getElem? (i := 74) rfl)⟩
theorem lw_p50 : lw_okq (⟨"EndingTownModel", "byteAt", "(I)I"⟩, 74) := ⟨⟨by decide +kernel, by decide +kernel⟩, lw_t6 (List.mem_of_getElem? (i := 60) rfl), lw_t7 (List.mem_of_getElem? (i := 77) rfl), lw_t7 (List.mem_of_getElem? (i := 78) rfl)⟩
theorem lw_p51 : lw_okq (⟨"EndingTownModel", "isGood", "()Z"⟩, 74) := ⟨⟨by decide +kernel, by decide +kernel⟩, lw_t6 (List.mem_of_getElem? (i := 60) rfl), lw_t7 (List.mem_of_getElem? (i := 87) rfl), lw_t7 (List.mem_of_getElem? (i := 88) rfl)⟩
theorem lw_p52 : lw_okq (⟨"EndingTownModel", "line", "()V"⟩, 74) := ⟨⟨by decide +kernel, by decide +kernel⟩, lw_t6 (List.mem_of_getElem? (i := 60) rfl), lw_t7 (List.mem_of_getElem? (i := 91) rfl), lw_t7 (List.mem_of_getElem? (i := 92) rfl)⟩
theorem lw_p53 : lw_okq (⟨"EndingTownModel", "is", "(I)Z"⟩, 74) := ⟨⟨by decide +kernel, by decide +kernel⟩, lw_t6 (List.mem_of_getElem? (i := 60) rfl), lw_t7 (List.mem_of_getElem? (i := 95) rfl), lw_t7 (List.mem_of_getElem? (i := 96) rfl)⟩
theorem lw_p54 : lw_okq (⟨"EndingTownModel", "faults", "(I)V"⟩, 74) := ⟨⟨by decide +kernel, by decide +kernel⟩, lw_t6 (List.mem_of_getElem? (i := 60) rfl), lw_t7 (List.mem_of_getElem? (i := 105) rfl), lw_t7 (List.mem_of_getElem? (i := 106) rfl)⟩
theorem lw_p55 : lw_okq (⟨"EndingTownModel", "word0", "([II)V"⟩, 74) := ⟨⟨by decide +kernel, by decide +kernel⟩, lw_t6 (List.mem_of_getElem? (i := 60) rfl), lw_t7 (List.mem_of_getElem? (i := 109) rfl), lw_t7 (List.mem_of_getElem? (i := 110) rfl)⟩
theorem lw_p56 : lw_okq (⟨"EndingTownModel", "readsEnding", "()V"⟩, 74) := ⟨⟨by decide +kernel, by decide +kernel⟩, lw_t6 (List.mem_of_getElem? (i := 60) rfl), lw_t7 (List.mem_of_getElem? (i := 113) rfl), lw_t7 (List.mem_of_getElem? (i := 114) rfl)⟩
theorem lw_p57 : lw_okq (⟨"EndingTownModel", "number", "(II)I"⟩, 74) := ⟨⟨by decide +kernel, by decide +kernel⟩, lw_t6 (List.mem_of_getElem? (i := 60) rfl), lw_t7 (List.mem_of_getElem? (i := 117) rfl), lw_t7 (List.mem_of_getElem? (i := 118) rfl)⟩
theorem lw_p58 : lw_okq (⟨"EndingTownModel", "readsNear", "()V"⟩, 74) := ⟨⟨by decide +kernel, by decide +kernel⟩, lw_t6 (List.mem_of_getElem? (i := 60) rfl), lw_t7 (List.mem_of_getElem? (i := 121) rfl), lw_t7 (List.mem_of_getElem? (i := 122) rfl)⟩
theorem lw_p59 : lw_okq (⟨"EndingTownModel", "among", "(I)I"⟩, 74) := ⟨⟨by decide +kernel, by decide +kernel⟩, lw_t6 (List.mem_of_getElem? (i := 60) rfl), lw_t7 (List.mem_of_getElem? (i := 125) rfl), lw_t7 (List.mem_of_getElem? (i := 126) rfl)⟩
theorem lw_p60 : lw_okq (⟨"EndingTownModel", "amongHere", "(I)Z"⟩, 74) := ⟨⟨by decide +kernel, by decide +kernel⟩, lw_t6 (List.mem_of_getElem? (i := 60) rfl), lw_t7 (List.mem_of_getElem? (i := 129) rfl), lw_t7 (List.mem_of_getElem? (i := 130) rfl)⟩
theorem lw_p61 : lw_okq (⟨"EndingTownModel", "readsThing", "()V"⟩, 74) := ⟨⟨by decide +kernel, by decide +kernel⟩, lw_t6 (List.mem_of_getElem? (i := 60) rfl), lw_t7 (List.mem_of_getElem? (i := 133) rfl), lw_t7 (List.mem_of_getElem? (i := 134) rfl)⟩
theorem lw_p62 : lw_okq (⟨"EndingTownModel", "readsRule", "()V"⟩, 74) := ⟨⟨by decide +kernel, by decide +kernel⟩, lw_t6 (List.mem_of_getElem? (i := 60) rfl), lw_t7 (List.mem_of_getElem? (i := 137) rfl), lw_t7 (List.mem_of_getElem? (i := 138) rfl)⟩
theorem lw_p63 : lw_okq (⟨"EndingTownModel", "readsAt", "()V"⟩, 74) := ⟨⟨by decide +kernel, by decide +kernel⟩, lw_t6 (List.mem_of_getElem? (i := 60) rfl), lw_t7 (List.mem_of_getElem? (i := 141) rfl), lw_t7 (List.mem_of_getElem? (i := 142) rfl)⟩
def lw_privs_4 : List (MethodName × Nat) := [(⟨"EndingTownModel", "empties", "()V"⟩, 74), (⟨"EndingTownModel", "steps", "()V"⟩, 74), (⟨"EndingTownModel", "byteAt", "(I)I"⟩, 74), (⟨"EndingTownModel", "isGood", "()Z"⟩, 74), (⟨"EndingTownModel", "line", "()V"⟩, 74), (⟨"EndingTownModel", "is", "(I)Z"⟩, 74), (⟨"EndingTownModel", "faults", "(I)V"⟩, 74), (⟨"EndingTownModel", "word0", "([II)V"⟩, 74), (⟨"EndingTownModel", "readsEnding", "()V"⟩, 74), (⟨"EndingTownModel", "number", "(II)I"⟩, 74), (⟨"EndingTownModel", "readsNear", "()V"⟩, 74), (⟨"EndingTownModel", "among", "(I)I"⟩, 74), (⟨"EndingTownModel", "amongHere", "(I)Z"⟩, 74), (⟨"EndingTownModel", "readsThing", "()V"⟩, 74), (⟨"EndingTownModel", "readsRule", "()V"⟩, 74), (⟨"EndingTownModel", "readsAt", "()V"⟩, 74)]
theorem lw_r4 : ∀ q ∈ lw_privs_4, lw_okq q := List.forall_mem_cons.mpr ⟨lw_p48, List.forall_mem_cons.mpr ⟨lw_p49, List.forall_mem_cons.mpr ⟨lw_p50, List.forall_mem_cons.mpr ⟨lw_p51, List.forall_mem_cons.mpr ⟨lw_p52, List.forall_mem_cons.mpr ⟨lw_p53, List.forall_mem_cons.mpr ⟨lw_p54, List.forall_mem_cons.mpr ⟨lw_p55, List.forall_mem_cons.mpr ⟨lw_p56, List.forall_mem_cons.mpr ⟨lw_p57, List.forall_mem_cons.mpr ⟨lw_p58, List.forall_mem_cons.mpr ⟨lw_p59, List.forall_mem_cons.mpr ⟨lw_p60, List.forall_mem_cons.mpr ⟨lw_p61, List.forall_mem_cons.mpr ⟨lw_p62, List.forall_mem_cons.mpr ⟨lw_p63, fun _ h => absurd h List.not_mem_nil⟩⟩⟩⟩⟩⟩⟩⟩⟩⟩⟩⟩⟩⟩⟩⟩
theorem lw_p64 : lw_okq (⟨"EndingTownModel", "need", "(Z)V"⟩, 74) := ⟨⟨by decide +kernel, by decide +kernel⟩, lw_t6 (List.mem_of_getElem? (i := 60) rfl), lw_t7 (List.mem_of_getElem? (i := 145) rfl), lw_t7 (List.mem_of_getElem? (i := 146) rfl)⟩
theorem lw_p65 : lw_okq (⟨"EndingTownModel", "copies", "([I[I)V"⟩, 74) := ⟨⟨by decide +kernel, by decide +kernel⟩, lw_t6 (List.mem_of_getElem? (i := 60) rfl), lw_t7 (List.mem_of_getElem? (i := 149) rfl), lw_t7 (List.mem_of_getElem? (i := 150) rfl)⟩
theorem lw_p66 : lw_okq (⟨"EndingTownModel", "isWho", "(II)Z"⟩, 74) := ⟨⟨by decide +kernel, by decide +kernel⟩, lw_t6 (List.mem_of_getElem? (i := 60) rfl), lw_t7 (List.mem_of_getElem? (i := 171) rfl), lw_t7 (List.mem_of_getElem? (i := 172) rfl)⟩
theorem lw_p67 : lw_okq (⟨"EndingTownModel", "isThing", "(I)Z"⟩, 74) := ⟨⟨by decide +kernel, by decide +kernel⟩, lw_t6 (List.mem_of_getElem? (i := 60) rfl), lw_t7 (List.mem_of_getElem? (i := 179) rfl), lw_t7 (List.mem_of_getElem? (i := 180) rfl)⟩
theorem lw_p68 : lw_okq (⟨"EndingTownModel", "speaks", "(II)V"⟩, 74) := ⟨⟨by decide +kernel, by decide +kernel⟩, lw_t6 (List.mem_of_getElem? (i := 60) rfl), lw_t7 (List.mem_of_getElem? (i := 187) rfl), lw_t7 (List.mem_of_getElem? (i := 188) rfl)⟩
theorem lw_p69 : lw_okq (⟨"EndingTownModel", "ends", "(II)Z"⟩, 74) := ⟨⟨by decide +kernel, by decide +kernel⟩, lw_t6 (List.mem_of_getElem? (i := 60) rfl), lw_t7 (List.mem_of_getElem? (i := 191) rfl), lw_t7 (List.mem_of_getElem? (i := 192) rfl)⟩
theorem lw_p70 : lw_okq (⟨"EndingTownModel", "begins", "(II)Z"⟩, 74) := ⟨⟨by decide +kernel, by decide +kernel⟩, lw_t6 (List.mem_of_getElem? (i := 60) rfl), lw_t7 (List.mem_of_getElem? (i := 195) rfl), lw_t7 (List.mem_of_getElem? (i := 196) rfl)⟩
theorem lw_p71 : lw_okq (⟨"EndingTownModel", "adds", "(I)V"⟩, 74) := ⟨⟨by decide +kernel, by decide +kernel⟩, lw_t6 (List.mem_of_getElem? (i := 60) rfl), lw_t7 (List.mem_of_getElem? (i := 199) rfl), lw_t7 (List.mem_of_getElem? (i := 200) rfl)⟩
theorem lw_p72 : lw_okq (⟨"EndingTownModel", "finds", "(II)V"⟩, 74) := ⟨⟨by decide +kernel, by decide +kernel⟩, lw_t6 (List.mem_of_getElem? (i := 60) rfl), lw_t7 (List.mem_of_getElem? (i := 207) rfl), lw_t7 (List.mem_of_getElem? (i := 208) rfl)⟩
theorem lw_p73 : lw_okq (⟨"EndingTownModel", "refuses", "(I)I"⟩, 74) := ⟨⟨by decide +kernel, by decide +kernel⟩, lw_t6 (List.mem_of_getElem? (i := 60) rfl), lw_t7 (List.mem_of_getElem? (i := 219) rfl), lw_t7 (List.mem_of_getElem? (i := 220) rfl)⟩
theorem lw_p74 : lw_okq (⟨"EndingTownModel", "adds5", "(IIIII)I"⟩, 74) := ⟨⟨by decide +kernel, by decide +kernel⟩, lw_t6 (List.mem_of_getElem? (i := 60) rfl), lw_t7 (List.mem_of_getElem? (i := 223) rfl), lw_t7 (List.mem_of_getElem? (i := 224) rfl)⟩
theorem lw_p75 : lw_okq (⟨"EndingTownModel", "blanks", "(II)I"⟩, 74) := ⟨⟨by decide +kernel, by decide +kernel⟩, lw_t6 (List.mem_of_getElem? (i := 60) rfl), lw_t7 (List.mem_of_getElem? (i := 231) rfl), lw_t7 (List.mem_of_getElem? (i := 232) rfl)⟩
theorem lw_p76 : lw_okq (⟨"EndingTownModel", "lettersTo", "(II)I"⟩, 74) := ⟨⟨by decide +kernel, by decide +kernel⟩, lw_t6 (List.mem_of_getElem? (i := 60) rfl), lw_t7 (List.mem_of_getElem? (i := 235) rfl), lw_t7 (List.mem_of_getElem? (i := 236) rfl)⟩
theorem lw_p77 : lw_okq (⟨"EndingTownModel", "isNot", "(II)Z"⟩, 74) := ⟨⟨by decide +kernel, by decide +kernel⟩, lw_t6 (List.mem_of_getElem? (i := 60) rfl), lw_t7 (List.mem_of_getElem? (i := 239) rfl), lw_t8 (List.mem_of_getElem? (i := 0) rfl)⟩
theorem lw_p78 : lw_okq (⟨"EndingTownModel", "of", "(II)I"⟩, 74) := ⟨⟨by decide +kernel, by decide +kernel⟩, lw_t6 (List.mem_of_getElem? (i := 60) rfl), lw_t8 (List.mem_of_getElem? (i := 11) rfl), lw_t8 (List.mem_of_getElem? (i := 12) rfl)⟩
theorem lw_p79 : lw_okq (⟨"EndingTownModel", "asks", "(II)V"⟩, 74) := ⟨⟨by decide +kernel, by decide +kernel⟩, lw_t6 (List.mem_of_getElem? (i := 60) rfl), lw_t8 (List.mem_of_getElem? (i := 15) rfl), lw_t8 (List.mem_of_getElem? (i := 16) rfl)⟩
def lw_privs_5 : List (MethodName × Nat) := [(⟨"EndingTownModel", "need", "(Z)V"⟩, 74), (⟨"EndingTownModel", "copies", "([I[I)V"⟩, 74), (⟨"EndingTownModel", "isWho", "(II)Z"⟩, 74), (⟨"EndingTownModel", "isThing", "(I)Z"⟩, 74), (⟨"EndingTownModel", "speaks", "(II)V"⟩, 74), (⟨"EndingTownModel", "ends", "(II)Z"⟩, 74), (⟨"EndingTownModel", "begins", "(II)Z"⟩, 74), (⟨"EndingTownModel", "adds", "(I)V"⟩, 74), (⟨"EndingTownModel", "finds", "(II)V"⟩, 74), (⟨"EndingTownModel", "refuses", "(I)I"⟩, 74), (⟨"EndingTownModel", "adds5", "(IIIII)I"⟩, 74), (⟨"EndingTownModel", "blanks", "(II)I"⟩, 74), (⟨"EndingTownModel", "lettersTo", "(II)I"⟩, 74), (⟨"EndingTownModel", "isNot", "(II)Z"⟩, 74), (⟨"EndingTownModel", "of", "(II)I"⟩, 74), (⟨"EndingTownModel", "asks", "(II)V"⟩, 74)]
theorem lw_r5 : ∀ q ∈ lw_privs_5, lw_okq q := List.forall_mem_cons.mpr ⟨lw_p64, List.forall_mem_cons.mpr ⟨lw_p65, List.forall_mem_cons.mpr ⟨lw_p66, List.forall_mem_cons.mpr ⟨lw_p67, List.forall_mem_cons.mpr ⟨lw_p68, List.forall_mem_cons.mpr ⟨lw_p69, List.forall_mem_cons.mpr ⟨lw_p70, List.forall_mem_cons.mpr ⟨lw_p71, List.forall_mem_cons.mpr ⟨lw_p72, List.forall_mem_cons.mpr ⟨lw_p73, List.forall_mem_cons.mpr ⟨lw_p74, List.forall_mem_cons.mpr ⟨lw_p75, List.forall_mem_cons.mpr ⟨lw_p76, List.forall_mem_cons.mpr ⟨lw_p77, List.forall_mem_cons.mpr ⟨lw_p78, List.forall_mem_cons.mpr ⟨lw_p79, fun _ h => absurd h List.not_mem_nil⟩⟩⟩⟩⟩⟩⟩⟩⟩⟩⟩⟩⟩⟩⟩⟩
theorem lw_p80 : lw_okq (⟨"EndingTownModel", "pairAt", "(II)I"⟩, 74) := ⟨⟨by decide +kernel, by decide +kernel⟩, lw_t6 (List.mem_of_getElem? (i := 60) rfl), lw_t8 (List.mem_of_getElem? (i := 19) rfl), lw_t8 (List.mem_of_getElem? (i := 20) rfl)⟩
theorem lw_p81 : lw_okq (⟨"EndingTownModel", "all", "()I"⟩, 74) := ⟨⟨by decide +kernel, by decide +kernel⟩, lw_t6 (List.mem_of_getElem? (i := 60) rfl), lw_t8 (List.mem_of_getElem? (i := 23) rfl), lw_t8 (List.mem_of_getElem? (i := 24) rfl)⟩
theorem lw_p82 : lw_okq (⟨"EndingTownModel", "reckons", "(II)V"⟩, 74) := ⟨⟨by decide +kernel, by decide +kernel⟩, lw_t6 (List.mem_of_getElem? (i := 60) rfl), lw_t8 (List.mem_of_getElem? (i := 27) rfl), lw_t8 (List.mem_of_getElem? (i := 28) rfl)⟩
theorem lw_p83 : lw_okq (⟨"EndingTownModel", "least", "(III)I"⟩, 74) := ⟨⟨by decide +kernel, by decide +kernel⟩, lw_t6 (List.mem_of_getElem? (i := 60) rfl), lw_t8 (List.mem_of_getElem? (i := 31) rfl), lw_t8 (List.mem_of_getElem? (i := 32) rfl)⟩
theorem lw_p84 : lw_okq (⟨"EndingTownModel", "byHow", "(IIII)I"⟩, 74) := ⟨⟨by decide +kernel, by decide +kernel⟩, lw_t6 (List.mem_of_getElem? (i := 60) rfl), lw_t8 (List.mem_of_getElem? (i := 35) rfl), lw_t8 (List.mem_of_getElem? (i := 36) rfl)⟩
theorem lw_p85 : lw_okq (⟨"EndingTownModel", "byTold", "(IIII)I"⟩, 74) := ⟨⟨by decide +kernel, by decide +kernel⟩, lw_t6 (List.mem_of_getElem? (i := 60) rfl), lw_t8 (List.mem_of_getElem? (i := 39) rfl), lw_t8 (List.mem_of_getElem? (i := 40) rfl)⟩
theorem lw_p86 : lw_okq (⟨"EndingTownModel", "isTold", "(IIIII)Z"⟩, 74) := ⟨⟨by decide +kernel, by decide +kernel⟩, lw_t6 (List.mem_of_getElem? (i := 60) rfl), lw_t8 (List.mem_of_getElem? (i := 43) rfl), lw_t8 (List.mem_of_getElem? (i := 44) rfl)⟩
theorem lw_p87 : lw_okq (⟨"EndingTownModel", "byRules", "(II)I"⟩, 74) := ⟨⟨by decide +kernel, by decide +kernel⟩, lw_t6 (List.mem_of_getElem? (i := 60) rfl), lw_t8 (List.mem_of_getElem? (i := 47) rfl), lw_t8 (List.mem_of_getElem? (i := 48) rfl)⟩
theorem lw_p88 : lw_okq (⟨"EndingTownModel", "isBy", "(IIIII)Z"⟩, 74) := ⟨⟨by decide +kernel, by decide +kernel⟩, lw_t6 (List.mem_of_getElem? (i := 60) rfl), lw_t8 (List.mem_of_getElem? (i := 51) rfl), lw_t8 (List.mem_of_getElem? (i := 52) rfl)⟩
theorem lw_p89 : lw_okq (⟨"EndingTownModel", "looks", "()V"⟩, 74) := ⟨⟨by decide +kernel, by decide +kernel⟩, lw_t6 (List.mem_of_getElem? (i := 60) rfl), lw_t8 (List.mem_of_getElem? (i := 55) rfl), lw_t8 (List.mem_of_getElem? (i := 56) rfl)⟩
theorem lw_p90 : lw_okq (⟨"EndingTownModel", "eyesBy", "(IIII)I"⟩, 74) := ⟨⟨by decide +kernel, by decide +kernel⟩, lw_t6 (List.mem_of_getElem? (i := 60) rfl), lw_t8 (List.mem_of_getElem? (i := 59) rfl), lw_t8 (List.mem_of_getElem? (i := 60) rfl)⟩
theorem lw_p91 : lw_okq (⟨"EndingTownModel", "toldEyes", "(IIII)I"⟩, 74) := ⟨⟨by decide +kernel, by decide +kernel⟩, lw_t6 (List.mem_of_getElem? (i := 60) rfl), lw_t8 (List.mem_of_getElem? (i := 63) rfl), lw_t8 (List.mem_of_getElem? (i := 64) rfl)⟩
theorem lw_p92 : lw_okq (⟨"EndingTownModel", "ruleEyes", "(II)I"⟩, 74) := ⟨⟨by decide +kernel, by decide +kernel⟩, lw_t6 (List.mem_of_getElem? (i := 60) rfl), lw_t8 (List.mem_of_getElem? (i := 67) rfl), lw_t8 (List.mem_of_getElem? (i := 68) rfl)⟩
theorem lw_p93 : lw_okq (⟨"EndingTownModel", "holding", "(I)I"⟩, 74) := ⟨⟨by decide +kernel, by decide +kernel⟩, lw_t6 (List.mem_of_getElem? (i := 60) rfl), lw_t8 (List.mem_of_getElem? (i := 79) rfl), lw_t8 (List.mem_of_getElem? (i := 80) rfl)⟩
theorem lw_p94 : lw_okq (⟨"EndingTownModel", "placeOf", "(I)I"⟩, 74) := ⟨⟨by decide +kernel, by decide +kernel⟩, lw_t6 (List.mem_of_getElem? (i := 60) rfl), lw_t8 (List.mem_of_getElem? (i := 109) rfl), lw_t8 (List.mem_of_getElem? (i := 110) rfl)⟩
theorem lw_p95 : lw_okq (⟨"EndingTownModel", "worldsOf", "(IZ)I"⟩, 74) := ⟨⟨by decide +kernel, by decide +kernel⟩, lw_t6 (List.mem_of_getElem? (i := 60) rfl), lw_t8 (List.mem_of_getElem? (i := 113) rfl), lw_t8 (List.mem_of_getElem? (i := 114) rfl)⟩
def lw_privs_6 : List (MethodName × Nat) := [(⟨"EndingTownModel", "pairAt", "(II)I"⟩, 74), (⟨"EndingTownModel", "all", "()I"⟩, 74), (⟨"EndingTownModel", "reckons", "(II)V"⟩, 74), (⟨"EndingTownModel", "least", "(III)I"⟩, 74), (⟨"EndingTownModel", "byHow", "(IIII)I"⟩, 74), (⟨"EndingTownModel", "byTold", "(IIII)I"⟩, 74), (⟨"EndingTownModel", "isTold", "(IIIII)Z"⟩, 74), (⟨"EndingTownModel", "byRules", "(II)I"⟩, 74), (⟨"EndingTownModel", "isBy", "(IIIII)Z"⟩, 74), (⟨"EndingTownModel", "looks", "()V"⟩, 74), (⟨"EndingTownModel", "eyesBy", "(IIII)I"⟩, 74), (⟨"EndingTownModel", "toldEyes", "(IIII)I"⟩, 74), (⟨"EndingTownModel", "ruleEyes", "(II)I"⟩, 74), (⟨"EndingTownModel", "holding", "(I)I"⟩, 74), (⟨"EndingTownModel", "placeOf", "(I)I"⟩, 74), (⟨"EndingTownModel", "worldsOf", "(IZ)I"⟩, 74)]
theorem lw_r6 : ∀ q ∈ lw_privs_6, lw_okq q := List.forall_mem_cons.mpr ⟨lw_p80, List.forall_mem_cons.mpr ⟨lw_p81, List.forall_mem_cons.mpr ⟨lw_p82, List.forall_mem_cons.mpr ⟨lw_p83, List.forall_mem_cons.mpr ⟨lw_p84, List.forall_mem_cons.mpr ⟨lw_p85, List.forall_mem_cons.mpr ⟨lw_p86, List.forall_mem_cons.mpr ⟨lw_p87, List.forall_mem_cons.mpr ⟨lw_p88, List.forall_mem_cons.mpr ⟨lw_p89, List.forall_mem_cons.mpr ⟨lw_p90, List.forall_mem_cons.mpr ⟨lw_p91, List.forall_mem_cons.mpr ⟨lw_p92, List.forall_mem_cons.mpr ⟨lw_p93, List.forall_mem_cons.mpr ⟨lw_p94, List.forall_mem_cons.mpr ⟨lw_p95, fun _ h => absurd h List.not_mem_nil⟩⟩⟩⟩⟩⟩⟩⟩⟩⟩⟩⟩⟩⟩⟩⟩
theorem lw_p96 : lw_okq (⟨"EndingTownModel", "knows", "(II)I"⟩, 74) := ⟨⟨by decide +kernel, by decide +kernel⟩, lw_t6 (List.mem_of_getElem? (i := 60) rfl), lw_t8 (List.mem_of_getElem? (i := 117) rfl), lw_t8 (List.mem_of_getElem? (i := 118) rfl)⟩
theorem lw_p97 : lw_okq (⟨"EndingTownModel", "seenBy", "(I)I"⟩, 74) := ⟨⟨by decide +kernel, by decide +kernel⟩, lw_t6 (List.mem_of_getElem? (i := 60) rfl), lw_t8 (List.mem_of_getElem? (i := 121) rfl), lw_t8 (List.mem_of_getElem? (i := 122) rfl)⟩
theorem lw_p98 : lw_okq (⟨"EndingTownModel", "real", "()I"⟩, 74) := ⟨⟨by decide +kernel, by decide +kernel⟩, lw_t6 (List.mem_of_getElem? (i := 60) rfl), lw_t8 (List.mem_of_getElem? (i := 128) rfl), lw_t8 (List.mem_of_getElem? (i := 129) rfl)⟩
def lw_privs_7 : List (MethodName × Nat) := [(⟨"EndingTownModel", "knows", "(II)I"⟩, 74), (⟨"EndingTownModel", "seenBy", "(I)I"⟩, 74), (⟨"EndingTownModel", "real", "()I"⟩, 74)]
theorem lw_r7 : ∀ q ∈ lw_privs_7, lw_okq q := List.forall_mem_cons.mpr ⟨lw_p96, List.forall_mem_cons.mpr ⟨lw_p97, List.forall_mem_cons.mpr ⟨lw_p98, fun _ h => absurd h List.not_mem_nil⟩⟩⟩
def lw_privs : List (MethodName × Nat) := lw_privs_1 ++ (lw_privs_2 ++ (lw_privs_3 ++ (lw_privs_4 ++ (lw_privs_5 ++ (lw_privs_6 ++ (lw_privs_7))))))
def lw_tbl : List Cond := k2_sels lw_privs ++ tables_1
theorem lw_privs_ok : ∀ q ∈ lw_privs, lw_okq q := by
  show ∀ q ∈ lw_privs_1 ++ (lw_privs_2 ++ (lw_privs_3 ++ (lw_privs_4 ++ (lw_privs_5 ++ (lw_privs_6 ++ (lw_privs_7)))))), lw_okq q
  exact List.forall_mem_append.mpr ⟨lw_r1, List.forall_mem_append.mpr ⟨lw_r2, List.forall_mem_append.mpr ⟨lw_r3, List.forall_mem_append.mpr ⟨lw_r4, List.forall_mem_append.mpr ⟨lw_r5, List.forall_mem_append.mpr ⟨lw_r6, lw_r7⟩⟩⟩⟩⟩⟩
-- ===== ONE list of words for every method: the tables' words that hold all through a run =====
def lw_all : List Cond := lw_tbl.filter goodWord
/-- a word of the tables by its place: claim/WORDS.tsv -/
theorem lw_w {w : Cond} (i : Nat) (h : lw_tbl[i]? = some w) (g : goodWord w = true) : w ∈ lw_all := List.mem_filter.mpr ⟨List.mem_of_getElem? h, g⟩
theorem lw_all_tbl {w : Cond} (h : w ∈ lw_all) : w ∈ lw_tbl := (List.mem_filter.mp h).1
theorem lw_self : GoodIn lw_all lw_all := fun w h => ⟨h, good_of_word (List.mem_filter.mp h).2⟩
/-- a class's field words, by their places -/
theorem lw_in (ws : List Cond) (ps : List Nat) (hp : ws = ps.filterMap (fun i => lw_tbl[i]?)) (hg : ws.all goodWord = true) : ∀ w ∈ ws, w ∈ lw_all := by
  intro w h
  have h1 := List.all_eq_true.mp hg w h
  rw [hp] at h
  obtain ⟨i, -, hi⟩ := List.mem_filterMap.mp h
  exact lw_w i hi h1
/-- the words of a contract for the method y with code b, L locals, answer r -/
abbrev ws_ (y : MethodName) (b : ByteArray) (L : Nat) (r : Option FieldType) : List Cond := Cond.code y b L r :: lw_all
theorem lw_meth {y : MethodName} {b : ByteArray} {L : Nat} {r : Option FieldType} (h : Cond.code y b L r ∈ lw_all) : GoodIn lw_all (ws_ y b L r) := by
  intro w hw
  rcases List.mem_cons.mp hw with e | e
  · rw [e]
    exact lw_self _ h
  · exact lw_self _ e
theorem lw_app {a c : List Cond} (ha : ∀ w ∈ a, w ∈ lw_all) (hc : GoodIn lw_all c) : GoodIn lw_all (a ++ c) := by
  intro w hw
  rcases List.mem_append.mp hw with e | e
  · exact lw_self w (ha w e)
  · exact hc w e
/-- what a call through an object asks: cwV n hts (lw_V ..) -/
theorem lw_V {own : String} {idx : Nat} {C : String} {y : MethodName} {b : ByteArray} {L : Nat} {r : Option FieldType} (h1 : Cond.methodLink own idx y ∈ lw_all) (h2 : Cond.instanceMethod y ∈ lw_all) (h3 : Cond.selects C y y ∈ lw_all) (h4 : Cond.initialized C ∈ lw_all) (h5 : Cond.code y b L r ∈ lw_all) : GoodIn lw_all (wsV own idx C y (ws_ y b L r)) := by
  refine lw_app ?_ (lw_meth h5)
  intro w hw
  simp only [List.mem_cons, List.not_mem_nil, or_false] at hw
  rcases hw with e | e | e | e
  · rw [e]; exact h1
  · rw [e]; exact h2
  · rw [e]; exact h3
  · rw [e]; exact h4
/-- what a static call asks: va_cwS n hts (lw_S ..) -/
theorem lw_S {own : String} {idx : Nat} {y : MethodName} {b : ByteArray} {L : Nat} {r : Option FieldType} (h1 : Cond.methodLink own idx y ∈ lw_all) (h2 : Cond.static y ∈ lw_all) (h3 : Cond.initialized y.cls ∈ lw_all) (h4 : Cond.code y b L r ∈ lw_all) : GoodIn lw_all (va_wsS own idx y (ws_ y b L r)) := by
  refine lw_app ?_ (lw_meth h4)
  intro w hw
  simp only [List.mem_cons, List.not_mem_nil, or_false] at hw
  rcases hw with e | e | e
  · rw [e]; exact h1
  · rw [e]; exact h2
  · rw [e]; exact h3
/-- the words of a contract for a method WITH HANDLERS (hh: its table) -/
abbrev wsW_ (y : MethodName) (b : ByteArray) (L : Nat) (r : Option FieldType) (hh : List (Nat × Nat × Nat × Nat)) : List Cond := Cond.codeWith y b L r hh :: lw_all
theorem lw_methW {y : MethodName} {b : ByteArray} {L : Nat} {r : Option FieldType} {hh : List (Nat × Nat × Nat × Nat)} (h : Cond.codeWith y b L r hh ∈ lw_all) : GoodIn lw_all (wsW_ y b L r hh) := by
  intro w hw
  rcases List.mem_cons.mp hw with e | e
  · rw [e]
    exact lw_self _ h
  · exact lw_self _ e
/-- any list of words by their places (lw_in), good -/
theorem lw_good {ws : List Cond} (h : ∀ w ∈ ws, w ∈ lw_all) : GoodIn lw_all ws := fun w hw => lw_self w (h w hw)
/-- what a call of a method with handlers asks: vx_cwVW n hts (lw_VW ..), vx_cwSW n hts (lw_SW ..) -/
theorem lw_VW {own : String} {idx : Nat} {C : String} {y : MethodName} {b : ByteArray} {L : Nat} {r : Option FieldType} {hh : List (Nat × Nat × Nat × Nat)} (h1 : Cond.methodLink own idx y ∈ lw_all) (h2 : Cond.instanceMethod y ∈ lw_all) (h3 : Cond.selects C y y ∈ lw_all) (h4 : Cond.initialized C ∈ lw_all) (h5 : Cond.codeWith y b L r hh ∈ lw_all) : GoodIn lw_all (wsV own idx C y (wsW_ y b L r hh)) := by
  refine lw_app ?_ (lw_methW h5)
  intro w hw
  simp only [List.mem_cons, List.not_mem_nil, or_false] at hw
  rcases hw with e | e | e | e
  · rw [e]; exact h1
  · rw [e]; exact h2
  · rw [e]; exact h3
  · rw [e]; exact h4
theorem lw_SW {own : String} {idx : Nat} {y : MethodName} {b : ByteArray} {L : Nat} {r : Option FieldType} {hh : List (Nat × Nat × Nat × Nat)} (h1 : Cond.methodLink own idx y ∈ lw_all) (h2 : Cond.static y ∈ lw_all) (h3 : Cond.initialized y.cls ∈ lw_all) (h4 : Cond.codeWith y b L r hh ∈ lw_all) : GoodIn lw_all (va_wsS own idx y (wsW_ y b L r hh)) := by
  refine lw_app ?_ (lw_methW h4)
  intro w hw
  simp only [List.mem_cons, List.not_mem_nil, or_false] at hw
  rcases hw with e | e | e
  · rw [e]; exact h1
  · rw [e]; exact h2
  · rw [e]; exact h3
/-- a word by its place in its run of the tables -/
theorem lw_at {r : List Cond} (hr : ∀ w ∈ r, w ∈ lw_tbl) {w : Cond} (i : Nat) (h : r[i]? = some w) : w ∈ lw_tbl := hr w (List.mem_of_getElem? h)
theorem lw_g {w : Cond} (h : w ∈ lw_tbl) (g : goodWord w = true) : w ∈ lw_all := List.mem_filter.mpr ⟨h, g⟩
theorem lw_ms : ∀ w ∈ k2_sels lw_privs, w ∈ lw_tbl := fun w h => show w ∈ k2_sels lw_privs ++ tables_1 from List.mem_append_left _ h
theorem lw_m1 : ∀ w ∈ tables_1_1, w ∈ lw_tbl := fun w h => show w ∈ k2_sels lw_privs ++ tables_1 from List.mem_append_right (k2_sels lw_privs) (show w ∈ tables_1 from List.mem_append_left _ h)
theorem lw_m2 : ∀ w ∈ tables_1_2, w ∈ lw_tbl := fun w h => show w ∈ k2_sels lw_privs ++ tables_1 from List.mem_append_right (k2_sels lw_privs) (show w ∈ tables_1 from List.mem_append_right _ (List.mem_append_left _ h))
theorem lw_m3 : ∀ w ∈ tables_1_3, w ∈ lw_tbl := fun w h => show w ∈ k2_sels lw_privs ++ tables_1 from List.mem_append_right (k2_sels lw_privs) (show w ∈ tables_1 from List.mem_append_right _ (List.mem_append_right _ (List.mem_append_left _ h)))
theorem lw_m4 : ∀ w ∈ tables_1_4, w ∈ lw_tbl := fun w h => show w ∈ k2_sels lw_privs ++ tables_1 from List.mem_append_right (k2_sels lw_privs) (show w ∈ tables_1 from List.mem_append_right _ (List.mem_append_right _ (List.mem_append_right _ (List.mem_append_left _ h))))
theorem lw_m5 : ∀ w ∈ tables_1_5, w ∈ lw_tbl := fun w h => show w ∈ k2_sels lw_privs ++ tables_1 from List.mem_append_right (k2_sels lw_privs) (show w ∈ tables_1 from List.mem_append_right _ (List.mem_append_right _ (List.mem_append_right _ (List.mem_append_right _ (List.mem_append_left _ h)))))
theorem lw_m6 : ∀ w ∈ tables_1_6, w ∈ lw_tbl := fun w h => show w ∈ k2_sels lw_privs ++ tables_1 from List.mem_append_right (k2_sels lw_privs) (show w ∈ tables_1 from List.mem_append_right _ (List.mem_append_right _ (List.mem_append_right _ (List.mem_append_right _ (List.mem_append_right _ (List.mem_append_left _ h))))))
theorem lw_m7 : ∀ w ∈ tables_1_7, w ∈ lw_tbl := fun w h => show w ∈ k2_sels lw_privs ++ tables_1 from List.mem_append_right (k2_sels lw_privs) (show w ∈ tables_1 from List.mem_append_right _ (List.mem_append_right _ (List.mem_append_right _ (List.mem_append_right _ (List.mem_append_right _ (List.mem_append_right _ (List.mem_append_left _ h)))))))
theorem lw_m8 : ∀ w ∈ tables_1_8, w ∈ lw_tbl := fun w h => show w ∈ k2_sels lw_privs ++ tables_1 from List.mem_append_right (k2_sels lw_privs) (show w ∈ tables_1 from List.mem_append_right _ (List.mem_append_right _ (List.mem_append_right _ (List.mem_append_right _ (List.mem_append_right _ (List.mem_append_right _ (List.mem_append_right _ h)))))))
theorem qs0 : (Cond.selects "java/util/ArrayList" ⟨"java/util/ArrayList", "fastRemove", "([Ljava/lang/Object;I)V"⟩ ⟨"java/util/ArrayList", "fastRemove", "([Ljava/lang/Object;I)V"⟩) ∈ lw_all := lw_g (lw_at lw_ms 0 rfl) rfl
theorem qs1 : (Cond.selects "EndingTown" ⟨"EndingTown", "mends", "(I)Z"⟩ ⟨"EndingTown", "mends", "(I)Z"⟩) ∈ lw_all := lw_g (lw_at lw_ms 1 rfl) rfl
theorem qs2 : (Cond.selects "EndingTown$Day" ⟨"EndingTown$Day", "attempt", "(LEndingTown$Saying;II)Z"⟩ ⟨"EndingTown$Day", "attempt", "(LEndingTown$Saying;II)Z"⟩) ∈ lw_all := lw_g (lw_at lw_ms 2 rfl) rfl
theorem qs3 : (Cond.selects "EndingTown$Told" ⟨"EndingTown$Told", "tells", "(LEndingTown$Day;IIIIZ)Z"⟩ ⟨"EndingTown$Told", "tells", "(LEndingTown$Day;IIIIZ)Z"⟩) ∈ lw_all := lw_g (lw_at lw_ms 3 rfl) rfl
theorem qs4 : (Cond.selects "EndingTown$Worked" ⟨"EndingTown$Worked", "tell", "(LEndingTown$Day;II)V"⟩ ⟨"EndingTown$Worked", "tell", "(LEndingTown$Day;II)V"⟩) ∈ lw_all := lw_g (lw_at lw_ms 4 rfl) rfl
theorem qs5 : (Cond.selects "EndingTown$Worked" ⟨"EndingTown$Worked", "ruleRound", "(LEndingTown$Rule;)I"⟩ ⟨"EndingTown$Worked", "ruleRound", "(LEndingTown$Rule;)I"⟩) ∈ lw_all := lw_g (lw_at lw_ms 5 rfl) rfl
theorem qs6 : (Cond.selects "EndingTown" ⟨"EndingTown", "held", "(LEndingTown$Day;)I"⟩ ⟨"EndingTown", "held", "(LEndingTown$Day;)I"⟩) ∈ lw_all := lw_g (lw_at lw_ms 6 rfl) rfl
theorem qs7 : (Cond.selects "java/lang/Throwable" ⟨"java/lang/Throwable", "fillInStackTrace", "(I)Ljava/lang/Throwable;"⟩ ⟨"java/lang/Throwable", "fillInStackTrace", "(I)Ljava/lang/Throwable;"⟩) ∈ lw_all := lw_g (lw_at lw_ms 7 rfl) rfl
theorem qs8 : (Cond.selects "EndingTown$Reader" ⟨"EndingTown$Reader", "here", "()I"⟩ ⟨"EndingTown$Reader", "here", "()I"⟩) ∈ lw_all := lw_g (lw_at lw_ms 8 rfl) rfl
theorem qs9 : (Cond.selects "EndingTown$Reader" ⟨"EndingTown$Reader", "isLetter", "()Z"⟩ ⟨"EndingTown$Reader", "isLetter", "()Z"⟩) ∈ lw_all := lw_g (lw_at lw_ms 9 rfl) rfl
theorem qs10 : (Cond.selects "EndingTown$Reader" ⟨"EndingTown$Reader", "isDigit", "()Z"⟩ ⟨"EndingTown$Reader", "isDigit", "()Z"⟩) ∈ lw_all := lw_g (lw_at lw_ms 10 rfl) rfl
theorem qs11 : (Cond.selects "EndingTown$Reader" ⟨"EndingTown$Reader", "line", "()V"⟩ ⟨"EndingTown$Reader", "line", "()V"⟩) ∈ lw_all := lw_g (lw_at lw_ms 11 rfl) rfl
theorem qs12 : (Cond.selects "EndingTown$Reader" ⟨"EndingTown$Reader", "is", "(Ljava/lang/String;)Z"⟩ ⟨"EndingTown$Reader", "is", "(Ljava/lang/String;)Z"⟩) ∈ lw_all := lw_g (lw_at lw_ms 12 rfl) rfl
theorem qs13 : (Cond.selects "EndingTown$Reader" ⟨"EndingTown$Reader", "places", "()V"⟩ ⟨"EndingTown$Reader", "places", "()V"⟩) ∈ lw_all := lw_g (lw_at lw_ms 13 rfl) rfl
theorem qs14 : (Cond.selects "EndingTown$Reader" ⟨"EndingTown$Reader", "want", "(ZI)V"⟩ ⟨"EndingTown$Reader", "want", "(ZI)V"⟩) ∈ lw_all := lw_g (lw_at lw_ms 14 rfl) rfl
theorem qs15 : (Cond.selects "EndingTown$Reader" ⟨"EndingTown$Reader", "number", "(II)I"⟩ ⟨"EndingTown$Reader", "number", "(II)I"⟩) ∈ lw_all := lw_g (lw_at lw_ms 15 rfl) rfl
theorem qs16 : (Cond.selects "EndingTown$Reader" ⟨"EndingTown$Reader", "numberNow", "(II)I"⟩ ⟨"EndingTown$Reader", "numberNow", "(II)I"⟩) ∈ lw_all := lw_g (lw_at lw_ms 16 rfl) rfl
theorem qs17 : (Cond.selects "EndingTown$Reader" ⟨"EndingTown$Reader", "passes", "(Ljava/lang/String;)Z"⟩ ⟨"EndingTown$Reader", "passes", "(Ljava/lang/String;)Z"⟩) ∈ lw_all := lw_g (lw_at lw_ms 17 rfl) rfl
theorem qs18 : (Cond.selects "EndingTown$Reader" ⟨"EndingTown$Reader", "near", "()V"⟩ ⟨"EndingTown$Reader", "near", "()V"⟩) ∈ lw_all := lw_g (lw_at lw_ms 18 rfl) rfl
theorem qs19 : (Cond.selects "EndingTown$Reader" ⟨"EndingTown$Reader", "one", "(I)I"⟩ ⟨"EndingTown$Reader", "one", "(I)I"⟩) ∈ lw_all := lw_g (lw_at lw_ms 19 rfl) rfl
theorem qs20 : (Cond.selects "EndingTown$Reader" ⟨"EndingTown$Reader", "oneNow", "(I)I"⟩ ⟨"EndingTown$Reader", "oneNow", "(I)I"⟩) ∈ lw_all := lw_g (lw_at lw_ms 20 rfl) rfl
theorem qs21 : (Cond.selects "EndingTown$Reader" ⟨"EndingTown$Reader", "thing", "()V"⟩ ⟨"EndingTown$Reader", "thing", "()V"⟩) ∈ lw_all := lw_g (lw_at lw_ms 21 rfl) rfl
theorem qs22 : (Cond.selects "java/util/ArrayList" ⟨"java/util/ArrayList", "add", "(Ljava/lang/Object;[Ljava/lang/Object;I)V"⟩ ⟨"java/util/ArrayList", "add", "(Ljava/lang/Object;[Ljava/lang/Object;I)V"⟩) ∈ lw_all := lw_g (lw_at lw_ms 22 rfl) rfl
theorem qs23 : (Cond.selects "java/util/ArrayList" ⟨"java/util/ArrayList", "grow", "()[Ljava/lang/Object;"⟩ ⟨"java/util/ArrayList", "grow", "()[Ljava/lang/Object;"⟩) ∈ lw_all := lw_g (lw_at lw_ms 23 rfl) rfl
theorem qs24 : (Cond.selects "java/util/ArrayList" ⟨"java/util/ArrayList", "grow", "(I)[Ljava/lang/Object;"⟩ ⟨"java/util/ArrayList", "grow", "(I)[Ljava/lang/Object;"⟩) ∈ lw_all := lw_g (lw_at lw_ms 24 rfl) rfl
theorem qs25 : (Cond.selects "EndingTown$Reader" ⟨"EndingTown$Reader", "rule", "()V"⟩ ⟨"EndingTown$Reader", "rule", "()V"⟩) ∈ lw_all := lw_g (lw_at lw_ms 25 rfl) rfl
theorem qs26 : (Cond.selects "EndingTown$Reader" ⟨"EndingTown$Reader", "at", "()V"⟩ ⟨"EndingTown$Reader", "at", "()V"⟩) ∈ lw_all := lw_g (lw_at lw_ms 26 rfl) rfl
theorem qs27 : (Cond.selects "EndingTown$Reader" ⟨"EndingTown$Reader", "weigh", "()V"⟩ ⟨"EndingTown$Reader", "weigh", "()V"⟩) ∈ lw_all := lw_g (lw_at lw_ms 27 rfl) rfl
theorem qs28 : (Cond.selects "EndingTown$Reader" ⟨"EndingTown$Reader", "tongue", "()V"⟩ ⟨"EndingTown$Reader", "tongue", "()V"⟩) ∈ lw_all := lw_g (lw_at lw_ms 28 rfl) rfl
theorem qs29 : (Cond.selects "EndingTown$Reader" ⟨"EndingTown$Reader", "letters", "()LEndingTown$Letters;"⟩ ⟨"EndingTown$Reader", "letters", "()LEndingTown$Letters;"⟩) ∈ lw_all := lw_g (lw_at lw_ms 29 rfl) rfl
theorem qs30 : (Cond.selects "EndingTown$Reader" ⟨"EndingTown$Reader", "ending", "()V"⟩ ⟨"EndingTown$Reader", "ending", "()V"⟩) ∈ lw_all := lw_g (lw_at lw_ms 30 rfl) rfl
theorem qs31 : (Cond.selects "EndingTown$Reader" ⟨"EndingTown$Reader", "change", "()V"⟩ ⟨"EndingTown$Reader", "change", "()V"⟩) ∈ lw_all := lw_g (lw_at lw_ms 31 rfl) rfl
theorem qs32 : (Cond.selects "EndingTown" ⟨"EndingTown", "aPerson", "(I)V"⟩ ⟨"EndingTown", "aPerson", "(I)V"⟩) ∈ lw_all := lw_g (lw_at lw_ms 32 rfl) rfl
theorem qs33 : (Cond.selects "EndingTown" ⟨"EndingTown", "anHour", "(I)V"⟩ ⟨"EndingTown", "anHour", "(I)V"⟩) ∈ lw_all := lw_g (lw_at lw_ms 33 rfl) rfl
theorem qs34 : (Cond.selects "EndingTown" ⟨"EndingTown", "aThing", "(I)V"⟩ ⟨"EndingTown", "aThing", "(I)V"⟩) ∈ lw_all := lw_g (lw_at lw_ms 34 rfl) rfl
theorem qs35 : (Cond.selects "EndingTown" ⟨"EndingTown", "waysOf", "(LEndingTown$Letters;[I)I"⟩ ⟨"EndingTown", "waysOf", "(LEndingTown$Letters;[I)I"⟩) ∈ lw_all := lw_g (lw_at lw_ms 35 rfl) rfl
theorem qs36 : (Cond.selects "EndingTown" ⟨"EndingTown", "add", "(LEndingTown$Saying;)I"⟩ ⟨"EndingTown", "add", "(LEndingTown$Saying;)I"⟩) ∈ lw_all := lw_g (lw_at lw_ms 36 rfl) rfl
theorem qs37 : (Cond.selects "EndingTown" ⟨"EndingTown", "refuse", "()I"⟩ ⟨"EndingTown", "refuse", "()I"⟩) ∈ lw_all := lw_g (lw_at lw_ms 37 rfl) rfl
theorem qs38 : (Cond.selects "EndingTown" ⟨"EndingTown", "whole", "()LEndingTown$Day;"⟩ ⟨"EndingTown", "whole", "()LEndingTown$Day;"⟩) ∈ lw_all := lw_g (lw_at lw_ms 38 rfl) rfl
theorem qs39 : (Cond.selects "EndingTown" ⟨"EndingTown", "above", "()I"⟩ ⟨"EndingTown", "above", "()I"⟩) ∈ lw_all := lw_g (lw_at lw_ms 39 rfl) rfl
theorem qs40 : (Cond.selects "EndingTown" ⟨"EndingTown", "worldsOf", "(IZ)I"⟩ ⟨"EndingTown", "worldsOf", "(IZ)I"⟩) ∈ lw_all := lw_g (lw_at lw_ms 40 rfl) rfl
theorem qs41 : (Cond.selects "EndingTown" ⟨"EndingTown", "isSo", "(II)Z"⟩ ⟨"EndingTown", "isSo", "(II)Z"⟩) ∈ lw_all := lw_g (lw_at lw_ms 41 rfl) rfl
theorem qs42 : (Cond.selects "EndingTown" ⟨"EndingTown", "knows", "(II)I"⟩ ⟨"EndingTown", "knows", "(II)I"⟩) ∈ lw_all := lw_g (lw_at lw_ms 42 rfl) rfl
theorem qs43 : (Cond.selects "EndingTown" ⟨"EndingTown", "sees", "(I)I"⟩ ⟨"EndingTown", "sees", "(I)I"⟩) ∈ lw_all := lw_g (lw_at lw_ms 43 rfl) rfl
theorem qs44 : (Cond.selects "EndingTown" ⟨"EndingTown", "worldThing", "(I)I"⟩ ⟨"EndingTown", "worldThing", "(I)I"⟩) ∈ lw_all := lw_g (lw_at lw_ms 44 rfl) rfl
theorem qs45 : (Cond.selects "EndingTown" ⟨"EndingTown", "real", "()I"⟩ ⟨"EndingTown", "real", "()I"⟩) ∈ lw_all := lw_g (lw_at lw_ms 45 rfl) rfl
theorem qs46 : (Cond.selects "EndingTownModel" ⟨"EndingTownModel", "lays", "(I)V"⟩ ⟨"EndingTownModel", "lays", "(I)V"⟩) ∈ lw_all := lw_g (lw_at lw_ms 46 rfl) rfl
theorem qs47 : (Cond.selects "EndingTownModel" ⟨"EndingTownModel", "right", "(ZI)Z"⟩ ⟨"EndingTownModel", "right", "(ZI)Z"⟩) ∈ lw_all := lw_g (lw_at lw_ms 47 rfl) rfl
theorem qs48 : (Cond.selects "EndingTownModel" ⟨"EndingTownModel", "empties", "()V"⟩ ⟨"EndingTownModel", "empties", "()V"⟩) ∈ lw_all := lw_g (lw_at lw_ms 48 rfl) rfl
theorem qs49 : (Cond.selects "EndingTownModel" ⟨"EndingTownModel", "steps", "()V"⟩ ⟨"EndingTownModel", "steps", "()V"⟩) ∈ lw_all := lw_g (lw_at lw_ms 49 rfl) rfl
theorem qs50 : (Cond.selects "EndingTownModel" ⟨"EndingTownModel", "byteAt", "(I)I"⟩ ⟨"EndingTownModel", "byteAt", "(I)I"⟩) ∈ lw_all := lw_g (lw_at lw_ms 50 rfl) rfl
theorem qs51 : (Cond.selects "EndingTownModel" ⟨"EndingTownModel", "isGood", "()Z"⟩ ⟨"EndingTownModel", "isGood", "()Z"⟩) ∈ lw_all := lw_g (lw_at lw_ms 51 rfl) rfl
theorem qs52 : (Cond.selects "EndingTownModel" ⟨"EndingTownModel", "line", "()V"⟩ ⟨"EndingTownModel", "line", "()V"⟩) ∈ lw_all := lw_g (lw_at lw_ms 52 rfl) rfl
theorem qs53 : (Cond.selects "EndingTownModel" ⟨"EndingTownModel", "is", "(I)Z"⟩ ⟨"EndingTownModel", "is", "(I)Z"⟩) ∈ lw_all := lw_g (lw_at lw_ms 53 rfl) rfl
theorem qs54 : (Cond.selects "EndingTownModel" ⟨"EndingTownModel", "faults", "(I)V"⟩ ⟨"EndingTownModel", "faults", "(I)V"⟩) ∈ lw_all := lw_g (lw_at lw_ms 54 rfl) rfl
theorem qs55 : (Cond.selects "EndingTownModel" ⟨"EndingTownModel", "word0", "([II)V"⟩ ⟨"EndingTownModel", "word0", "([II)V"⟩) ∈ lw_all := lw_g (lw_at lw_ms 55 rfl) rfl
theorem qs56 : (Cond.selects "EndingTownModel" ⟨"EndingTownModel", "readsEnding", "()V"⟩ ⟨"EndingTownModel", "readsEnding", "()V"⟩) ∈ lw_all := lw_g (lw_at lw_ms 56 rfl) rfl
theorem qs57 : (Cond.selects "EndingTownModel" ⟨"EndingTownModel", "number", "(II)I"⟩ ⟨"EndingTownModel", "number", "(II)I"⟩) ∈ lw_all := lw_g (lw_at lw_ms 57 rfl) rfl
theorem qs58 : (Cond.selects "EndingTownModel" ⟨"EndingTownModel", "readsNear", "()V"⟩ ⟨"EndingTownModel", "readsNear", "()V"⟩) ∈ lw_all := lw_g (lw_at lw_ms 58 rfl) rfl
theorem qs59 : (Cond.selects "EndingTownModel" ⟨"EndingTownModel", "among", "(I)I"⟩ ⟨"EndingTownModel", "among", "(I)I"⟩) ∈ lw_all := lw_g (lw_at lw_ms 59 rfl) rfl
theorem qs60 : (Cond.selects "EndingTownModel" ⟨"EndingTownModel", "amongHere", "(I)Z"⟩ ⟨"EndingTownModel", "amongHere", "(I)Z"⟩) ∈ lw_all := lw_g (lw_at lw_ms 60 rfl) rfl
theorem qs61 : (Cond.selects "EndingTownModel" ⟨"EndingTownModel", "readsThing", "()V"⟩ ⟨"EndingTownModel", "readsThing", "()V"⟩) ∈ lw_all := lw_g (lw_at lw_ms 61 rfl) rfl
theorem qs62 : (Cond.selects "EndingTownModel" ⟨"EndingTownModel", "readsRule", "()V"⟩ ⟨"EndingTownModel", "readsRule", "()V"⟩) ∈ lw_all := lw_g (lw_at lw_ms 62 rfl) rfl
theorem qs63 : (Cond.selects "EndingTownModel" ⟨"EndingTownModel", "readsAt", "()V"⟩ ⟨"EndingTownModel", "readsAt", "()V"⟩) ∈ lw_all := lw_g (lw_at lw_ms 63 rfl) rfl
theorem qs64 : (Cond.selects "EndingTownModel" ⟨"EndingTownModel", "need", "(Z)V"⟩ ⟨"EndingTownModel", "need", "(Z)V"⟩) ∈ lw_all := lw_g (lw_at lw_ms 64 rfl) rfl
theorem qs65 : (Cond.selects "EndingTownModel" ⟨"EndingTownModel", "copies", "([I[I)V"⟩ ⟨"EndingTownModel", "copies", "([I[I)V"⟩) ∈ lw_all := lw_g (lw_at lw_ms 65 rfl) rfl
theorem qs66 : (Cond.selects "EndingTownModel" ⟨"EndingTownModel", "isWho", "(II)Z"⟩ ⟨"EndingTownModel", "isWho", "(II)Z"⟩) ∈ lw_all := lw_g (lw_at lw_ms 66 rfl) rfl
theorem qs67 : (Cond.selects "EndingTownModel" ⟨"EndingTownModel", "isThing", "(I)Z"⟩ ⟨"EndingTownModel", "isThing", "(I)Z"⟩) ∈ lw_all := lw_g (lw_at lw_ms 67 rfl) rfl
theorem qs68 : (Cond.selects "EndingTownModel" ⟨"EndingTownModel", "speaks", "(II)V"⟩ ⟨"EndingTownModel", "speaks", "(II)V"⟩) ∈ lw_all := lw_g (lw_at lw_ms 68 rfl) rfl
theorem qs69 : (Cond.selects "EndingTownModel" ⟨"EndingTownModel", "ends", "(II)Z"⟩ ⟨"EndingTownModel", "ends", "(II)Z"⟩) ∈ lw_all := lw_g (lw_at lw_ms 69 rfl) rfl
theorem qs70 : (Cond.selects "EndingTownModel" ⟨"EndingTownModel", "begins", "(II)Z"⟩ ⟨"EndingTownModel", "begins", "(II)Z"⟩) ∈ lw_all := lw_g (lw_at lw_ms 70 rfl) rfl
theorem qs71 : (Cond.selects "EndingTownModel" ⟨"EndingTownModel", "adds", "(I)V"⟩ ⟨"EndingTownModel", "adds", "(I)V"⟩) ∈ lw_all := lw_g (lw_at lw_ms 71 rfl) rfl
theorem qs72 : (Cond.selects "EndingTownModel" ⟨"EndingTownModel", "finds", "(II)V"⟩ ⟨"EndingTownModel", "finds", "(II)V"⟩) ∈ lw_all := lw_g (lw_at lw_ms 72 rfl) rfl
theorem qs73 : (Cond.selects "EndingTownModel" ⟨"EndingTownModel", "refuses", "(I)I"⟩ ⟨"EndingTownModel", "refuses", "(I)I"⟩) ∈ lw_all := lw_g (lw_at lw_ms 73 rfl) rfl
theorem qs74 : (Cond.selects "EndingTownModel" ⟨"EndingTownModel", "adds5", "(IIIII)I"⟩ ⟨"EndingTownModel", "adds5", "(IIIII)I"⟩) ∈ lw_all := lw_g (lw_at lw_ms 74 rfl) rfl
theorem qs75 : (Cond.selects "EndingTownModel" ⟨"EndingTownModel", "blanks", "(II)I"⟩ ⟨"EndingTownModel", "blanks", "(II)I"⟩) ∈ lw_all := lw_g (lw_at lw_ms 75 rfl) rfl
theorem qs76 : (Cond.selects "EndingTownModel" ⟨"EndingTownModel", "lettersTo", "(II)I"⟩ ⟨"EndingTownModel", "lettersTo", "(II)I"⟩) ∈ lw_all := lw_g (lw_at lw_ms 76 rfl) rfl
theorem qs77 : (Cond.selects "EndingTownModel" ⟨"EndingTownModel", "isNot", "(II)Z"⟩ ⟨"EndingTownModel", "isNot", "(II)Z"⟩) ∈ lw_all := lw_g (lw_at lw_ms 77 rfl) rfl
theorem qs78 : (Cond.selects "EndingTownModel" ⟨"EndingTownModel", "of", "(II)I"⟩ ⟨"EndingTownModel", "of", "(II)I"⟩) ∈ lw_all := lw_g (lw_at lw_ms 78 rfl) rfl
theorem qs79 : (Cond.selects "EndingTownModel" ⟨"EndingTownModel", "asks", "(II)V"⟩ ⟨"EndingTownModel", "asks", "(II)V"⟩) ∈ lw_all := lw_g (lw_at lw_ms 79 rfl) rfl
theorem qs80 : (Cond.selects "EndingTownModel" ⟨"EndingTownModel", "pairAt", "(II)I"⟩ ⟨"EndingTownModel", "pairAt", "(II)I"⟩) ∈ lw_all := lw_g (lw_at lw_ms 80 rfl) rfl
theorem qs81 : (Cond.selects "EndingTownModel" ⟨"EndingTownModel", "all", "()I"⟩ ⟨"EndingTownModel", "all", "()I"⟩) ∈ lw_all := lw_g (lw_at lw_ms 81 rfl) rfl
theorem qs82 : (Cond.selects "EndingTownModel" ⟨"EndingTownModel", "reckons", "(II)V"⟩ ⟨"EndingTownModel", "reckons", "(II)V"⟩) ∈ lw_all := lw_g (lw_at lw_ms 82 rfl) rfl
theorem qs83 : (Cond.selects "EndingTownModel" ⟨"EndingTownModel", "least", "(III)I"⟩ ⟨"EndingTownModel", "least", "(III)I"⟩) ∈ lw_all := lw_g (lw_at lw_ms 83 rfl) rfl
theorem qs84 : (Cond.selects "EndingTownModel" ⟨"EndingTownModel", "byHow", "(IIII)I"⟩ ⟨"EndingTownModel", "byHow", "(IIII)I"⟩) ∈ lw_all := lw_g (lw_at lw_ms 84 rfl) rfl
theorem qs85 : (Cond.selects "EndingTownModel" ⟨"EndingTownModel", "byTold", "(IIII)I"⟩ ⟨"EndingTownModel", "byTold", "(IIII)I"⟩) ∈ lw_all := lw_g (lw_at lw_ms 85 rfl) rfl
theorem qs86 : (Cond.selects "EndingTownModel" ⟨"EndingTownModel", "isTold", "(IIIII)Z"⟩ ⟨"EndingTownModel", "isTold", "(IIIII)Z"⟩) ∈ lw_all := lw_g (lw_at lw_ms 86 rfl) rfl
theorem qs87 : (Cond.selects "EndingTownModel" ⟨"EndingTownModel", "byRules", "(II)I"⟩ ⟨"EndingTownModel", "byRules", "(II)I"⟩) ∈ lw_all := lw_g (lw_at lw_ms 87 rfl) rfl
theorem qs88 : (Cond.selects "EndingTownModel" ⟨"EndingTownModel", "isBy", "(IIIII)Z"⟩ ⟨"EndingTownModel", "isBy", "(IIIII)Z"⟩) ∈ lw_all := lw_g (lw_at lw_ms 88 rfl) rfl
theorem qs89 : (Cond.selects "EndingTownModel" ⟨"EndingTownModel", "looks", "()V"⟩ ⟨"EndingTownModel", "looks", "()V"⟩) ∈ lw_all := lw_g (lw_at lw_ms 89 rfl) rfl
theorem qs90 : (Cond.selects "EndingTownModel" ⟨"EndingTownModel", "eyesBy", "(IIII)I"⟩ ⟨"EndingTownModel", "eyesBy", "(IIII)I"⟩) ∈ lw_all := lw_g (lw_at lw_ms 90 rfl) rfl
theorem qs91 : (Cond.selects "EndingTownModel" ⟨"EndingTownModel", "toldEyes", "(IIII)I"⟩ ⟨"EndingTownModel", "toldEyes", "(IIII)I"⟩) ∈ lw_all := lw_g (lw_at lw_ms 91 rfl) rfl
theorem qs92 : (Cond.selects "EndingTownModel" ⟨"EndingTownModel", "ruleEyes", "(II)I"⟩ ⟨"EndingTownModel", "ruleEyes", "(II)I"⟩) ∈ lw_all := lw_g (lw_at lw_ms 92 rfl) rfl
theorem qs93 : (Cond.selects "EndingTownModel" ⟨"EndingTownModel", "holding", "(I)I"⟩ ⟨"EndingTownModel", "holding", "(I)I"⟩) ∈ lw_all := lw_g (lw_at lw_ms 93 rfl) rfl
theorem qs94 : (Cond.selects "EndingTownModel" ⟨"EndingTownModel", "placeOf", "(I)I"⟩ ⟨"EndingTownModel", "placeOf", "(I)I"⟩) ∈ lw_all := lw_g (lw_at lw_ms 94 rfl) rfl
theorem qs95 : (Cond.selects "EndingTownModel" ⟨"EndingTownModel", "worldsOf", "(IZ)I"⟩ ⟨"EndingTownModel", "worldsOf", "(IZ)I"⟩) ∈ lw_all := lw_g (lw_at lw_ms 95 rfl) rfl
theorem qs96 : (Cond.selects "EndingTownModel" ⟨"EndingTownModel", "knows", "(II)I"⟩ ⟨"EndingTownModel", "knows", "(II)I"⟩) ∈ lw_all := lw_g (lw_at lw_ms 96 rfl) rfl
theorem qs97 : (Cond.selects "EndingTownModel" ⟨"EndingTownModel", "seenBy", "(I)I"⟩ ⟨"EndingTownModel", "seenBy", "(I)I"⟩) ∈ lw_all := lw_g (lw_at lw_ms 97 rfl) rfl
theorem qs98 : (Cond.selects "EndingTownModel" ⟨"EndingTownModel", "real", "()I"⟩ ⟨"EndingTownModel", "real", "()I"⟩) ∈ lw_all := lw_g (lw_at lw_ms 98 rfl) rfl
