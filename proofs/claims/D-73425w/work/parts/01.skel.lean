-- ===== PART A: goes FIRST, ahead of the names: the tables' words, and 'selects' of the private methods out of them =====
/-- a private method of a class that the tables say can be made, by its rows of tables_1 -/
def lw_okq (q : MethodName × Nat) : Prop := (q.1.cls ≠ "java/lang/invoke/MethodHandle" ∧ q.1.cls ≠ "java/lang/invoke/VarHandle") ∧ Cond.instantiable q.1.cls q.2 ∈ tables_1 ∧ Cond.privateMethod q.1 ∈ tables_1 ∧ Cond.instanceMethod q.1 ∈ tables_1
set_option maxRecDepth 100000
theorem lw_t1 {w : Cond} (h : w ∈ tables_1_1) : w ∈ tables_1 := List.mem_append_left _ h
theorem lw_t2 {w : Cond} (h : w ∈ tables_1_2) : w ∈ tables_1 := List.mem_append_right _ (List.mem_append_left _ h)
theorem lw_t3 {w : Cond} (h : w ∈ tables_1_3) : w ∈ tables_1 := List.mem_append_right _ (List.mem_append_right _ (List.mem_append_left _ h))
theorem lw_t4 {w : Cond} (h : w ∈ tables_1_4) : w ∈ tables_1 := List.mem_append_right _ (List.mem_append_right _ (List.mem_append_right _ (List.mem_append_left _ h)))
theorem lw_t5 {w : Cond} (h : w ∈ tables_1_5) : w ∈ tables_1 := List.mem_append_right _ (List.mem_append_right _ (List.mem_append_right _ (List.mem_append_right _ (List.mem_append_left _ h))))
theorem lw_t6 {w : Cond} (h : w ∈ tables_1_6) : w ∈ tables_1 := List.mem_append_right _ (List.mem_append_right _ (List.mem_append_right _ (List.mem_append_right _ (List.mem_append_right _ (List.mem_append_left _ h)))))
theorem lw_t7 {w : Cond} (h : w ∈ tables_1_7) : w ∈ tables_1 := List.mem_append_right _ (List.mem_append_right _ (List.mem_append_right _ (List.mem_append_right _ (List.mem_append_right _ (List.mem_append_right _ (List.mem_append_left _ h))))))
theorem lw_t8 {w : Cond} (h : w ∈ tables_1_8) : w ∈ tables_1 := List.mem_append_right _ (List.mem_append_right _ (List.mem_append_right _ (List.mem_append_right _ (List.mem_append_right _ (List.mem_append_right _ (List.mem_append_right _ h))))))
theorem lw_p0 : lw_okq (⟨"LosslessFabric", "lambda$new$0", "(II)I"⟩, 18) := ⟨⟨by decide +kernel, by decide +kernel⟩, lw_t1 (List.mem_of_getElem? (i := 29) rfl), lw_t1 (List.mem_of_getElem? (i := 120) rfl), lw_t1 (List.mem_of_getElem? (i := 121) rfl)⟩
theorem lw_p1 : lw_okq (⟨"LosslessFabric", "begin", "()V"⟩, 18) := ⟨⟨by decide +kernel, by decide +kernel⟩, lw_t1 (List.mem_of_getElem? (i := 29) rfl), lw_t2 (List.mem_of_getElem? (i := 30) rfl), lw_t2 (List.mem_of_getElem? (i := 31) rfl)⟩
theorem lw_p2 : lw_okq (⟨"LosslessFabric$Reader", "take", "()V"⟩, 7) := ⟨⟨by decide +kernel, by decide +kernel⟩, lw_t2 (List.mem_of_getElem? (i := 121) rfl), lw_t2 (List.mem_of_getElem? (i := 132) rfl), lw_t2 (List.mem_of_getElem? (i := 133) rfl)⟩
theorem lw_p3 : lw_okq (⟨"LosslessFabric$Reader", "see", "(I)I"⟩, 7) := ⟨⟨by decide +kernel, by decide +kernel⟩, lw_t2 (List.mem_of_getElem? (i := 121) rfl), lw_t2 (List.mem_of_getElem? (i := 136) rfl), lw_t2 (List.mem_of_getElem? (i := 137) rfl)⟩
theorem lw_p4 : lw_okq (⟨"LosslessFabric$Reader", "isSmall", "(I)Z"⟩, 7) := ⟨⟨by decide +kernel, by decide +kernel⟩, lw_t2 (List.mem_of_getElem? (i := 121) rfl), lw_t2 (List.mem_of_getElem? (i := 140) rfl), lw_t2 (List.mem_of_getElem? (i := 141) rfl)⟩
theorem lw_p5 : lw_okq (⟨"LosslessFabric$Reader", "takeWord", "()V"⟩, 7) := ⟨⟨by decide +kernel, by decide +kernel⟩, lw_t2 (List.mem_of_getElem? (i := 121) rfl), lw_t2 (List.mem_of_getElem? (i := 147) rfl), lw_t2 (List.mem_of_getElem? (i := 148) rfl)⟩
theorem lw_p6 : lw_okq (⟨"LosslessFabric$Reader", "key", "()I"⟩, 7) := ⟨⟨by decide +kernel, by decide +kernel⟩, lw_t2 (List.mem_of_getElem? (i := 121) rfl), lw_t2 (List.mem_of_getElem? (i := 151) rfl), lw_t2 (List.mem_of_getElem? (i := 152) rfl)⟩
theorem lw_p7 : lw_okq (⟨"LosslessFabric$Reader", "isDigit", "(I)Z"⟩, 7) := ⟨⟨by decide +kernel, by decide +kernel⟩, lw_t2 (List.mem_of_getElem? (i := 121) rfl), lw_t3 (List.mem_of_getElem? (i := 19) rfl), lw_t3 (List.mem_of_getElem? (i := 20) rfl)⟩
theorem lw_p8 : lw_okq (⟨"LosslessFabric$Reader", "must", "(ZI)V"⟩, 7) := ⟨⟨by decide +kernel, by decide +kernel⟩, lw_t2 (List.mem_of_getElem? (i := 121) rfl), lw_t3 (List.mem_of_getElem? (i := 53) rfl), lw_t3 (List.mem_of_getElem? (i := 54) rfl)⟩
theorem lw_p9 : lw_okq (⟨"java/lang/Throwable", "fillInStackTrace", "(I)Ljava/lang/Throwable;"⟩, 6) := ⟨⟨by decide +kernel, by decide +kernel⟩, lw_t3 (List.mem_of_getElem? (i := 94) rfl), lw_t3 (List.mem_of_getElem? (i := 92) rfl), lw_t3 (List.mem_of_getElem? (i := 93) rfl)⟩
theorem lw_p10 : lw_okq (⟨"LosslessFabric$Reader", "line", "(I)V"⟩, 7) := ⟨⟨by decide +kernel, by decide +kernel⟩, lw_t2 (List.mem_of_getElem? (i := 121) rfl), lw_t3 (List.mem_of_getElem? (i := 127) rfl), lw_t3 (List.mem_of_getElem? (i := 128) rfl)⟩
theorem lw_p11 : lw_okq (⟨"LosslessFabric$Reader", "link", "()V"⟩, 7) := ⟨⟨by decide +kernel, by decide +kernel⟩, lw_t2 (List.mem_of_getElem? (i := 121) rfl), lw_t3 (List.mem_of_getElem? (i := 131) rfl), lw_t3 (List.mem_of_getElem? (i := 132) rfl)⟩
theorem lw_p12 : lw_okq (⟨"LosslessFabric$Reader", "number", "(II)I"⟩, 7) := ⟨⟨by decide +kernel, by decide +kernel⟩, lw_t2 (List.mem_of_getElem? (i := 121) rfl), lw_t3 (List.mem_of_getElem? (i := 139) rfl), lw_t3 (List.mem_of_getElem? (i := 140) rfl)⟩
theorem lw_p13 : lw_okq (⟨"LosslessFabric$Reader", "flow", "()V"⟩, 7) := ⟨⟨by decide +kernel, by decide +kernel⟩, lw_t2 (List.mem_of_getElem? (i := 121) rfl), lw_t3 (List.mem_of_getElem? (i := 176) rfl), lw_t3 (List.mem_of_getElem? (i := 177) rfl)⟩
theorem lw_p14 : lw_okq (⟨"LosslessFabric$Reader", "off", "()V"⟩, 7) := ⟨⟨by decide +kernel, by decide +kernel⟩, lw_t2 (List.mem_of_getElem? (i := 121) rfl), lw_t3 (List.mem_of_getElem? (i := 221) rfl), lw_t3 (List.mem_of_getElem? (i := 222) rfl)⟩
theorem lw_p15 : lw_okq (⟨"LosslessFabric", "canUndo", "()V"⟩, 18) := ⟨⟨by decide +kernel, by decide +kernel⟩, lw_t1 (List.mem_of_getElem? (i := 29) rfl), lw_t4 (List.mem_of_getElem? (i := 28) rfl), lw_t4 (List.mem_of_getElem? (i := 29) rfl)⟩
def lw_privs_1 : List (MethodName × Nat) := [(⟨"LosslessFabric", "lambda$new$0", "(II)I"⟩, 18), (⟨"LosslessFabric", "begin", "()V"⟩, 18), (⟨"LosslessFabric$Reader", "take", "()V"⟩, 7), (⟨"LosslessFabric$Reader", "see", "(I)I"⟩, 7), (⟨"LosslessFabric$Reader", "isSmall", "(I)Z"⟩, 7), (⟨"LosslessFabric$Reader", "takeWord", "()V"⟩, 7), (⟨"LosslessFabric$Reader", "key", "()I"⟩, 7), (⟨"LosslessFabric$Reader", "isDigit", "(I)Z"⟩, 7), (⟨"LosslessFabric$Reader", "must", "(ZI)V"⟩, 7), (⟨"java/lang/Throwable", "fillInStackTrace", "(I)Ljava/lang/Throwable;"⟩, 6), (⟨"LosslessFabric$Reader", "line", "(I)V"⟩, 7), (⟨"LosslessFabric$Reader", "link", "()V"⟩, 7), (⟨"LosslessFabric$Reader", "number", "(II)I"⟩, 7), (⟨"LosslessFabric$Reader", "flow", "()V"⟩, 7), (⟨"LosslessFabric$Reader", "off", "()V"⟩, 7), (⟨"LosslessFabric", "canUndo", "()V"⟩, 18)]
theorem lw_r1 : ∀ q ∈ lw_privs_1, lw_okq q := List.forall_mem_cons.mpr ⟨lw_p0, List.forall_mem_cons.mpr ⟨lw_p1, List.forall_mem_cons.mpr ⟨lw_p2, List.forall_mem_cons.mpr ⟨lw_p3, List.forall_mem_cons.mpr ⟨lw_p4, List.forall_mem_cons.mpr ⟨lw_p5, List.forall_mem_cons.mpr ⟨lw_p6, List.forall_mem_cons.mpr ⟨lw_p7, List.forall_mem_cons.mpr ⟨lw_p8, List.forall_mem_cons.mpr ⟨lw_p9, List.forall_mem_cons.mpr ⟨lw_p10, List.forall_mem_cons.mpr ⟨lw_p11, List.forall_mem_cons.mpr ⟨lw_p12, List.forall_mem_cons.mpr ⟨lw_p13, List.forall_mem_cons.mpr ⟨lw_p14, List.forall_mem_cons.mpr ⟨lw_p15, fun _ h => absurd h List.not_mem_nil⟩⟩⟩⟩⟩⟩⟩⟩⟩⟩⟩⟩⟩⟩⟩⟩
theorem lw_p16 : lw_okq (⟨"LosslessFabric", "ticks", "(LLosslessFabric$State;)V"⟩, 18) := ⟨⟨by decide +kernel, by decide +kernel⟩, lw_t1 (List.mem_of_getElem? (i := 29) rfl), lw_t4 (List.mem_of_getElem? (i := 33) rfl), lw_t4 (List.mem_of_getElem? (i := 34) rfl)⟩
theorem lw_p17 : lw_okq (⟨"LosslessFabric", "carries", "(LLosslessFabric$State;I)V"⟩, 18) := ⟨⟨by decide +kernel, by decide +kernel⟩, lw_t1 (List.mem_of_getElem? (i := 29) rfl), lw_t4 (List.mem_of_getElem? (i := 43) rfl), lw_t4 (List.mem_of_getElem? (i := 44) rfl)⟩
theorem lw_p18 : lw_okq (⟨"LosslessFabric", "leaves", "(LLosslessFabric$State;III)V"⟩, 18) := ⟨⟨by decide +kernel, by decide +kernel⟩, lw_t1 (List.mem_of_getElem? (i := 29) rfl), lw_t4 (List.mem_of_getElem? (i := 51) rfl), lw_t4 (List.mem_of_getElem? (i := 52) rfl)⟩
theorem lw_p19 : lw_okq (⟨"LosslessFabric", "arrives", "(LLosslessFabric$State;I)V"⟩, 18) := ⟨⟨by decide +kernel, by decide +kernel⟩, lw_t1 (List.mem_of_getElem? (i := 29) rfl), lw_t4 (List.mem_of_getElem? (i := 56) rfl), lw_t4 (List.mem_of_getElem? (i := 57) rfl)⟩
theorem lw_p20 : lw_okq (⟨"LosslessFabric", "samples", "(LLosslessFabric$State;I)V"⟩, 18) := ⟨⟨by decide +kernel, by decide +kernel⟩, lw_t1 (List.mem_of_getElem? (i := 29) rfl), lw_t4 (List.mem_of_getElem? (i := 74) rfl), lw_t4 (List.mem_of_getElem? (i := 75) rfl)⟩
theorem lw_p21 : lw_okq (⟨"LosslessFabric", "isFlow", "(I)Z"⟩, 18) := ⟨⟨by decide +kernel, by decide +kernel⟩, lw_t1 (List.mem_of_getElem? (i := 29) rfl), lw_t4 (List.mem_of_getElem? (i := 133) rfl), lw_t4 (List.mem_of_getElem? (i := 134) rfl)⟩
theorem lw_p22 : lw_okq (⟨"LosslessFabric", "isLink", "(I)Z"⟩, 18) := ⟨⟨by decide +kernel, by decide +kernel⟩, lw_t1 (List.mem_of_getElem? (i := 29) rfl), lw_t4 (List.mem_of_getElem? (i := 149) rfl), lw_t4 (List.mem_of_getElem? (i := 150) rfl)⟩
theorem lw_p23 : lw_okq (⟨"LosslessFabric", "headroomOf", "(I)I"⟩, 18) := ⟨⟨by decide +kernel, by decide +kernel⟩, lw_t1 (List.mem_of_getElem? (i := 29) rfl), lw_t4 (List.mem_of_getElem? (i := 188) rfl), lw_t4 (List.mem_of_getElem? (i := 189) rfl)⟩
theorem lw_p24 : lw_okq (⟨"LosslessFabric", "paused", "(LLosslessFabric$State;)LLosslessFabric$Cycle;"⟩, 18) := ⟨⟨by decide +kernel, by decide +kernel⟩, lw_t1 (List.mem_of_getElem? (i := 29) rfl), lw_t4 (List.mem_of_getElem? (i := 223) rfl), lw_t4 (List.mem_of_getElem? (i := 224) rfl)⟩
theorem lw_p25 : lw_okq (⟨"LosslessFabric$Cycle", "laysTo", "(I)V"⟩, 5) := ⟨⟨by decide +kernel, by decide +kernel⟩, lw_t4 (List.mem_of_getElem? (i := 227) rfl), lw_t5 (List.mem_of_getElem? (i := 21) rfl), lw_t5 (List.mem_of_getElem? (i := 22) rfl)⟩
theorem lw_p26 : lw_okq (⟨"LosslessFabric$Cycle", "isAhead", "(III)Z"⟩, 5) := ⟨⟨by decide +kernel, by decide +kernel⟩, lw_t4 (List.mem_of_getElem? (i := 227) rfl), lw_t5 (List.mem_of_getElem? (i := 25) rfl), lw_t5 (List.mem_of_getElem? (i := 26) rfl)⟩
theorem lw_p27 : lw_okq (⟨"LosslessFabric$Cycle", "nextTo", "(II)I"⟩, 5) := ⟨⟨by decide +kernel, by decide +kernel⟩, lw_t4 (List.mem_of_getElem? (i := 227) rfl), lw_t5 (List.mem_of_getElem? (i := 38) rfl), lw_t5 (List.mem_of_getElem? (i := 39) rfl)⟩
theorem lw_p28 : lw_okq (⟨"LosslessFabric", "lambda$inCycles$3", "(II)Z"⟩, 18) := ⟨⟨by decide +kernel, by decide +kernel⟩, lw_t1 (List.mem_of_getElem? (i := 29) rfl), lw_t5 (List.mem_of_getElem? (i := 50) rfl), lw_t5 (List.mem_of_getElem? (i := 51) rfl)⟩
theorem lw_p29 : lw_okq (⟨"LosslessFabric", "mayWait", "(II)Z"⟩, 18) := ⟨⟨by decide +kernel, by decide +kernel⟩, lw_t1 (List.mem_of_getElem? (i := 29) rfl), lw_t5 (List.mem_of_getElem? (i := 54) rfl), lw_t5 (List.mem_of_getElem? (i := 55) rfl)⟩
theorem lw_p30 : lw_okq (⟨"LosslessFabric$Fair", "grows", "()V"⟩, 7) := ⟨⟨by decide +kernel, by decide +kernel⟩, lw_t5 (List.mem_of_getElem? (i := 65) rfl), lw_t5 (List.mem_of_getElem? (i := 72) rfl), lw_t5 (List.mem_of_getElem? (i := 73) rfl)⟩
theorem lw_p31 : lw_okq (⟨"LosslessFabric$Fair", "lays", "(I)Z"⟩, 7) := ⟨⟨by decide +kernel, by decide +kernel⟩, lw_t5 (List.mem_of_getElem? (i := 65) rfl), lw_t5 (List.mem_of_getElem? (i := 76) rfl), lw_t5 (List.mem_of_getElem? (i := 77) rfl)⟩
def lw_privs_2 : List (MethodName × Nat) := [(⟨"LosslessFabric", "ticks", "(LLosslessFabric$State;)V"⟩, 18), (⟨"LosslessFabric", "carries", "(LLosslessFabric$State;I)V"⟩, 18), (⟨"LosslessFabric", "leaves", "(LLosslessFabric$State;III)V"⟩, 18), (⟨"LosslessFabric", "arrives", "(LLosslessFabric$State;I)V"⟩, 18), (⟨"LosslessFabric", "samples", "(LLosslessFabric$State;I)V"⟩, 18), (⟨"LosslessFabric", "isFlow", "(I)Z"⟩, 18), (⟨"LosslessFabric", "isLink", "(I)Z"⟩, 18), (⟨"LosslessFabric", "headroomOf", "(I)I"⟩, 18), (⟨"LosslessFabric", "paused", "(LLosslessFabric$State;)LLosslessFabric$Cycle;"⟩, 18), (⟨"LosslessFabric$Cycle", "laysTo", "(I)V"⟩, 5), (⟨"LosslessFabric$Cycle", "isAhead", "(III)Z"⟩, 5), (⟨"LosslessFabric$Cycle", "nextTo", "(II)I"⟩, 5), (⟨"LosslessFabric", "lambda$inCycles$3", "(II)Z"⟩, 18), (⟨"LosslessFabric", "mayWait", "(II)Z"⟩, 18), (⟨"LosslessFabric$Fair", "grows", "()V"⟩, 7), (⟨"LosslessFabric$Fair", "lays", "(I)Z"⟩, 7)]
theorem lw_r2 : ∀ q ∈ lw_privs_2, lw_okq q := List.forall_mem_cons.mpr ⟨lw_p16, List.forall_mem_cons.mpr ⟨lw_p17, List.forall_mem_cons.mpr ⟨lw_p18, List.forall_mem_cons.mpr ⟨lw_p19, List.forall_mem_cons.mpr ⟨lw_p20, List.forall_mem_cons.mpr ⟨lw_p21, List.forall_mem_cons.mpr ⟨lw_p22, List.forall_mem_cons.mpr ⟨lw_p23, List.forall_mem_cons.mpr ⟨lw_p24, List.forall_mem_cons.mpr ⟨lw_p25, List.forall_mem_cons.mpr ⟨lw_p26, List.forall_mem_cons.mpr ⟨lw_p27, List.forall_mem_cons.mpr ⟨lw_p28, List.forall_mem_cons.mpr ⟨lw_p29, List.forall_mem_cons.mpr ⟨lw_p30, List.forall_mem_cons.mpr ⟨lw_p31, fun _ h => absurd h List.not_mem_nil⟩⟩⟩⟩⟩⟩⟩⟩⟩⟩⟩⟩⟩⟩⟩⟩
theorem lw_p32 : lw_okq (⟨"LosslessFabric$Fair", "goesBy", "(II)Z"⟩, 7) := ⟨⟨by decide +kernel, by decide +kernel⟩, lw_t5 (List.mem_of_getElem? (i := 65) rfl), lw_t5 (List.mem_of_getElem? (i := 80) rfl), lw_t5 (List.mem_of_getElem? (i := 81) rfl)⟩
theorem lw_p33 : lw_okq (⟨"LosslessFabric$Fair", "less", "(JJ)V"⟩, 7) := ⟨⟨by decide +kernel, by decide +kernel⟩, lw_t5 (List.mem_of_getElem? (i := 65) rfl), lw_t5 (List.mem_of_getElem? (i := 88) rfl), lw_t5 (List.mem_of_getElem? (i := 89) rfl)⟩
theorem lw_p34 : lw_okq (⟨"LosslessFabric", "tried", "(I)LLosslessFabric$State;"⟩, 18) := ⟨⟨by decide +kernel, by decide +kernel⟩, lw_t1 (List.mem_of_getElem? (i := 29) rfl), lw_t5 (List.mem_of_getElem? (i := 143) rfl), lw_t5 (List.mem_of_getElem? (i := 144) rfl)⟩
theorem lw_p35 : lw_okq (⟨"LosslessFabric", "lambda$stalls$4", "(LLosslessFabric$State;)Z"⟩, 18) := ⟨⟨by decide +kernel, by decide +kernel⟩, lw_t1 (List.mem_of_getElem? (i := 29) rfl), lw_t5 (List.mem_of_getElem? (i := 150) rfl), lw_t5 (List.mem_of_getElem? (i := 151) rfl)⟩
theorem lw_p36 : lw_okq (⟨"LosslessFabric", "until", "(LLosslessFabric$Goal;)I"⟩, 18) := ⟨⟨by decide +kernel, by decide +kernel⟩, lw_t1 (List.mem_of_getElem? (i := 29) rfl), lw_t5 (List.mem_of_getElem? (i := 154) rfl), lw_t5 (List.mem_of_getElem? (i := 155) rfl)⟩
theorem lw_p37 : lw_okq (⟨"LosslessFabric", "draw", "(I)I"⟩, 18) := ⟨⟨by decide +kernel, by decide +kernel⟩, lw_t1 (List.mem_of_getElem? (i := 29) rfl), lw_t5 (List.mem_of_getElem? (i := 192) rfl), lw_t5 (List.mem_of_getElem? (i := 193) rfl)⟩
theorem lw_p38 : lw_okq (⟨"LosslessFabricModel", "freshText", "()V"⟩, 49) := ⟨⟨by decide +kernel, by decide +kernel⟩, lw_t6 (List.mem_of_getElem? (i := 43) rfl), lw_t6 (List.mem_of_getElem? (i := 49) rfl), lw_t6 (List.mem_of_getElem? (i := 50) rfl)⟩
theorem lw_p39 : lw_okq (⟨"LosslessFabricModel", "reads", "(II)V"⟩, 49) := ⟨⟨by decide +kernel, by decide +kernel⟩, lw_t6 (List.mem_of_getElem? (i := 43) rfl), lw_t6 (List.mem_of_getElem? (i := 53) rfl), lw_t6 (List.mem_of_getElem? (i := 54) rfl)⟩
theorem lw_p40 : lw_okq (⟨"LosslessFabricModel", "takeText", "()V"⟩, 49) := ⟨⟨by decide +kernel, by decide +kernel⟩, lw_t6 (List.mem_of_getElem? (i := 43) rfl), lw_t6 (List.mem_of_getElem? (i := 57) rfl), lw_t6 (List.mem_of_getElem? (i := 58) rfl)⟩
theorem lw_p41 : lw_okq (⟨"LosslessFabricModel", "reading", "(I)I"⟩, 49) := ⟨⟨by decide +kernel, by decide +kernel⟩, lw_t6 (List.mem_of_getElem? (i := 43) rfl), lw_t6 (List.mem_of_getElem? (i := 61) rfl), lw_t6 (List.mem_of_getElem? (i := 62) rfl)⟩
theorem lw_p42 : lw_okq (⟨"LosslessFabricModel", "begins", "()V"⟩, 49) := ⟨⟨by decide +kernel, by decide +kernel⟩, lw_t6 (List.mem_of_getElem? (i := 43) rfl), lw_t6 (List.mem_of_getElem? (i := 65) rfl), lw_t6 (List.mem_of_getElem? (i := 66) rfl)⟩
theorem lw_p43 : lw_okq (⟨"LosslessFabricModel", "links", "()I"⟩, 49) := ⟨⟨by decide +kernel, by decide +kernel⟩, lw_t6 (List.mem_of_getElem? (i := 43) rfl), lw_t6 (List.mem_of_getElem? (i := 69) rfl), lw_t6 (List.mem_of_getElem? (i := 70) rfl)⟩
theorem lw_p44 : lw_okq (⟨"LosslessFabricModel", "flows", "()I"⟩, 49) := ⟨⟨by decide +kernel, by decide +kernel⟩, lw_t6 (List.mem_of_getElem? (i := 43) rfl), lw_t6 (List.mem_of_getElem? (i := 73) rfl), lw_t6 (List.mem_of_getElem? (i := 74) rfl)⟩
theorem lw_p45 : lw_okq (⟨"LosslessFabricModel", "readText", "(I)V"⟩, 49) := ⟨⟨by decide +kernel, by decide +kernel⟩, lw_t6 (List.mem_of_getElem? (i := 43) rfl), lw_t6 (List.mem_of_getElem? (i := 238) rfl), lw_t6 (List.mem_of_getElem? (i := 239) rfl)⟩
theorem lw_p46 : lw_okq (⟨"LosslessFabricModel", "token", "()V"⟩, 49) := ⟨⟨by decide +kernel, by decide +kernel⟩, lw_t6 (List.mem_of_getElem? (i := 43) rfl), lw_t7 (List.mem_of_getElem? (i := 2) rfl), lw_t7 (List.mem_of_getElem? (i := 3) rfl)⟩
theorem lw_p47 : lw_okq (⟨"LosslessFabricModel", "here", "()I"⟩, 49) := ⟨⟨by decide +kernel, by decide +kernel⟩, lw_t6 (List.mem_of_getElem? (i := 43) rfl), lw_t7 (List.mem_of_getElem? (i := 6) rfl), lw_t7 (List.mem_of_getElem? (i := 7) rfl)⟩
def lw_privs_3 : List (MethodName × Nat) := [(⟨"LosslessFabric$Fair", "goesBy", "(II)Z"⟩, 7), (⟨"LosslessFabric$Fair", "less", "(JJ)V"⟩, 7), (⟨"LosslessFabric", "tried", "(I)LLosslessFabric$State;"⟩, 18), (⟨"LosslessFabric", "lambda$stalls$4", "(LLosslessFabric$State;)Z"⟩, 18), (⟨"LosslessFabric", "until", "(LLosslessFabric$Goal;)I"⟩, 18), (⟨"LosslessFabric", "draw", "(I)I"⟩, 18), (⟨"LosslessFabricModel", "freshText", "()V"⟩, 49), (⟨"LosslessFabricModel", "reads", "(II)V"⟩, 49), (⟨"LosslessFabricModel", "takeText", "()V"⟩, 49), (⟨"LosslessFabricModel", "reading", "(I)I"⟩, 49), (⟨"LosslessFabricModel", "begins", "()V"⟩, 49), (⟨"LosslessFabricModel", "links", "()I"⟩, 49), (⟨"LosslessFabricModel", "flows", "()I"⟩, 49), (⟨"LosslessFabricModel", "readText", "(I)V"⟩, 49), (⟨"LosslessFabricModel", "token", "()V"⟩, 49), (⟨"LosslessFabricModel", "here", "()I"⟩, 49)]
theorem lw_r3 : ∀ q ∈ lw_privs_3, lw_okq q := List.forall_mem_cons.mpr ⟨lw_p32, List.forall_mem_cons.mpr ⟨lw_p33, List.forall_mem_cons.mpr ⟨lw_p34, List.forall_mem_cons.mpr ⟨lw_p35, List.forall_mem_cons.mpr ⟨lw_p36, List.forall_mem_cons.mpr ⟨lw_p37, List.forall_mem_cons.mpr ⟨lw_p38, List.forall_mem_cons.mpr ⟨lw_p39, List.forall_mem_cons.mpr ⟨lw_p40, List.forall_mem_cons.mpr ⟨lw_p41, List.forall_mem_cons.mpr ⟨lw_p42, List.forall_mem_cons.mpr ⟨lw_p43, List.forall_mem_cons.mpr ⟨lw_p44, List.forall_mem_cons.mpr ⟨lw_p45, List.forall_mem_cons.mpr ⟨lw_p46, List.forall_mem_cons.mpr ⟨lw_p47, fun _ h => absurd h List.not_mem_nil⟩⟩⟩⟩⟩⟩⟩⟩⟩⟩⟩⟩⟩⟩⟩⟩
theorem lw_p48 : lw_okq (⟨"LosslessFabricModel", "wordHere", "()I"⟩, 49) := ⟨⟨by decide +kernel, by decide +kernel⟩, lw_t6 (List.mem_of_getElem? (i := 43) rfl), lw_t7 (List.mem_of_getElem? (i := 13) rfl), lw_t7 (List.mem_of_getElem? (i := 14) rfl)⟩
theorem lw_p49 : lw_okq (⟨"LosslessFabricModel", "nameHere", "()V"⟩, 49) := ⟨⟨by decide +kernel, by decide +kernel⟩, lw_t6 (List.mem_of_getElem? (i := 43) rfl), lw_t7 (List.mem_of_getElem? (i := 20) rfl), lw_t7 (List.mem_of_getElem? (i := 21) rfl)⟩
theorem lw_p50 : lw_okq (⟨"LosslessFabricModel", "readLine", "()V"⟩, 49) := ⟨⟨by decide +kernel, by decide +kernel⟩, lw_t6 (List.mem_of_getElem? (i := 43) rfl), lw_t7 (List.mem_of_getElem? (i := 28) rfl), lw_t7 (List.mem_of_getElem? (i := 29) rfl)⟩
theorem lw_p51 : lw_okq (⟨"LosslessFabricModel", "wrong", "(I)V"⟩, 49) := ⟨⟨by decide +kernel, by decide +kernel⟩, lw_t6 (List.mem_of_getElem? (i := 43) rfl), lw_t7 (List.mem_of_getElem? (i := 32) rfl), lw_t7 (List.mem_of_getElem? (i := 33) rfl)⟩
theorem lw_p52 : lw_okq (⟨"LosslessFabricModel", "readLink", "()V"⟩, 49) := ⟨⟨by decide +kernel, by decide +kernel⟩, lw_t6 (List.mem_of_getElem? (i := 43) rfl), lw_t7 (List.mem_of_getElem? (i := 36) rfl), lw_t7 (List.mem_of_getElem? (i := 37) rfl)⟩
theorem lw_p53 : lw_okq (⟨"LosslessFabricModel", "newName", "([III)V"⟩, 49) := ⟨⟨by decide +kernel, by decide +kernel⟩, lw_t6 (List.mem_of_getElem? (i := 43) rfl), lw_t7 (List.mem_of_getElem? (i := 40) rfl), lw_t7 (List.mem_of_getElem? (i := 41) rfl)⟩
theorem lw_p54 : lw_okq (⟨"LosslessFabricModel", "goOn", "()V"⟩, 49) := ⟨⟨by decide +kernel, by decide +kernel⟩, lw_t6 (List.mem_of_getElem? (i := 43) rfl), lw_t7 (List.mem_of_getElem? (i := 44) rfl), lw_t7 (List.mem_of_getElem? (i := 45) rfl)⟩
theorem lw_p55 : lw_okq (⟨"LosslessFabricModel", "numeral", "(II)I"⟩, 49) := ⟨⟨by decide +kernel, by decide +kernel⟩, lw_t6 (List.mem_of_getElem? (i := 43) rfl), lw_t7 (List.mem_of_getElem? (i := 51) rfl), lw_t7 (List.mem_of_getElem? (i := 52) rfl)⟩
theorem lw_p56 : lw_okq (⟨"LosslessFabricModel", "readFlow", "()V"⟩, 49) := ⟨⟨by decide +kernel, by decide +kernel⟩, lw_t6 (List.mem_of_getElem? (i := 43) rfl), lw_t7 (List.mem_of_getElem? (i := 55) rfl), lw_t7 (List.mem_of_getElem? (i := 56) rfl)⟩
theorem lw_p57 : lw_okq (⟨"LosslessFabricModel", "readHop", "(I)V"⟩, 49) := ⟨⟨by decide +kernel, by decide +kernel⟩, lw_t6 (List.mem_of_getElem? (i := 43) rfl), lw_t7 (List.mem_of_getElem? (i := 59) rfl), lw_t7 (List.mem_of_getElem? (i := 60) rfl)⟩
theorem lw_p58 : lw_okq (⟨"LosslessFabricModel", "isOnPath", "(II)Z"⟩, 49) := ⟨⟨by decide +kernel, by decide +kernel⟩, lw_t6 (List.mem_of_getElem? (i := 43) rfl), lw_t7 (List.mem_of_getElem? (i := 63) rfl), lw_t7 (List.mem_of_getElem? (i := 64) rfl)⟩
theorem lw_p59 : lw_okq (⟨"LosslessFabricModel", "readSample", "()V"⟩, 49) := ⟨⟨by decide +kernel, by decide +kernel⟩, lw_t6 (List.mem_of_getElem? (i := 43) rfl), lw_t7 (List.mem_of_getElem? (i := 67) rfl), lw_t7 (List.mem_of_getElem? (i := 68) rfl)⟩
theorem lw_p60 : lw_okq (⟨"LosslessFabricModel", "once", "(I)V"⟩, 49) := ⟨⟨by decide +kernel, by decide +kernel⟩, lw_t6 (List.mem_of_getElem? (i := 43) rfl), lw_t7 (List.mem_of_getElem? (i := 71) rfl), lw_t7 (List.mem_of_getElem? (i := 72) rfl)⟩
theorem lw_p61 : lw_okq (⟨"LosslessFabricModel", "readStage", "()V"⟩, 49) := ⟨⟨by decide +kernel, by decide +kernel⟩, lw_t6 (List.mem_of_getElem? (i := 43) rfl), lw_t7 (List.mem_of_getElem? (i := 75) rfl), lw_t7 (List.mem_of_getElem? (i := 76) rfl)⟩
theorem lw_p62 : lw_okq (⟨"LosslessFabricModel", "readOff", "()V"⟩, 49) := ⟨⟨by decide +kernel, by decide +kernel⟩, lw_t6 (List.mem_of_getElem? (i := 43) rfl), lw_t7 (List.mem_of_getElem? (i := 79) rfl), lw_t7 (List.mem_of_getElem? (i := 80) rfl)⟩
theorem lw_p63 : lw_okq (⟨"LosslessFabricModel", "readSeed", "()V"⟩, 49) := ⟨⟨by decide +kernel, by decide +kernel⟩, lw_t6 (List.mem_of_getElem? (i := 43) rfl), lw_t7 (List.mem_of_getElem? (i := 83) rfl), lw_t7 (List.mem_of_getElem? (i := 84) rfl)⟩
def lw_privs_4 : List (MethodName × Nat) := [(⟨"LosslessFabricModel", "wordHere", "()I"⟩, 49), (⟨"LosslessFabricModel", "nameHere", "()V"⟩, 49), (⟨"LosslessFabricModel", "readLine", "()V"⟩, 49), (⟨"LosslessFabricModel", "wrong", "(I)V"⟩, 49), (⟨"LosslessFabricModel", "readLink", "()V"⟩, 49), (⟨"LosslessFabricModel", "newName", "([III)V"⟩, 49), (⟨"LosslessFabricModel", "goOn", "()V"⟩, 49), (⟨"LosslessFabricModel", "numeral", "(II)I"⟩, 49), (⟨"LosslessFabricModel", "readFlow", "()V"⟩, 49), (⟨"LosslessFabricModel", "readHop", "(I)V"⟩, 49), (⟨"LosslessFabricModel", "isOnPath", "(II)Z"⟩, 49), (⟨"LosslessFabricModel", "readSample", "()V"⟩, 49), (⟨"LosslessFabricModel", "once", "(I)V"⟩, 49), (⟨"LosslessFabricModel", "readStage", "()V"⟩, 49), (⟨"LosslessFabricModel", "readOff", "()V"⟩, 49), (⟨"LosslessFabricModel", "readSeed", "()V"⟩, 49)]
theorem lw_r4 : ∀ q ∈ lw_privs_4, lw_okq q := List.forall_mem_cons.mpr ⟨lw_p48, List.forall_mem_cons.mpr ⟨lw_p49, List.forall_mem_cons.mpr ⟨lw_p50, List.forall_mem_cons.mpr ⟨lw_p51, List.forall_mem_cons.mpr ⟨lw_p52, List.forall_mem_cons.mpr ⟨lw_p53, List.forall_mem_cons.mpr ⟨lw_p54, List.forall_mem_cons.mpr ⟨lw_p55, List.forall_mem_cons.mpr ⟨lw_p56, List.forall_mem_cons.mpr ⟨lw_p57, List.forall_mem_cons.mpr ⟨lw_p58, List.forall_mem_cons.mpr ⟨lw_p59, List.forall_mem_cons.mpr ⟨lw_p60, List.forall_mem_cons.mpr ⟨lw_p61, List.forall_mem_cons.mpr ⟨lw_p62, List.forall_mem_cons.mpr ⟨lw_p63, fun _ h => absurd h List.not_mem_nil⟩⟩⟩⟩⟩⟩⟩⟩⟩⟩⟩⟩⟩⟩⟩⟩
theorem lw_p64 : lw_okq (⟨"LosslessFabricModel", "remembers", "()V"⟩, 49) := ⟨⟨by decide +kernel, by decide +kernel⟩, lw_t6 (List.mem_of_getElem? (i := 43) rfl), lw_t7 (List.mem_of_getElem? (i := 114) rfl), lw_t7 (List.mem_of_getElem? (i := 115) rfl)⟩
theorem lw_p65 : lw_okq (⟨"LosslessFabricModel", "tickGoes", "()V"⟩, 49) := ⟨⟨by decide +kernel, by decide +kernel⟩, lw_t6 (List.mem_of_getElem? (i := 43) rfl), lw_t7 (List.mem_of_getElem? (i := 118) rfl), lw_t7 (List.mem_of_getElem? (i := 119) rfl)⟩
theorem lw_p66 : lw_okq (⟨"LosslessFabricModel", "isOn", "(I)Z"⟩, 49) := ⟨⟨by decide +kernel, by decide +kernel⟩, lw_t6 (List.mem_of_getElem? (i := 43) rfl), lw_t7 (List.mem_of_getElem? (i := 125) rfl), lw_t7 (List.mem_of_getElem? (i := 126) rfl)⟩
theorem lw_p67 : lw_okq (⟨"LosslessFabricModel", "laysCan", "()V"⟩, 49) := ⟨⟨by decide +kernel, by decide +kernel⟩, lw_t6 (List.mem_of_getElem? (i := 43) rfl), lw_t7 (List.mem_of_getElem? (i := 132) rfl), lw_t7 (List.mem_of_getElem? (i := 133) rfl)⟩
theorem lw_p68 : lw_okq (⟨"LosslessFabricModel", "hopOf", "(II)I"⟩, 49) := ⟨⟨by decide +kernel, by decide +kernel⟩, lw_t6 (List.mem_of_getElem? (i := 43) rfl), lw_t7 (List.mem_of_getElem? (i := 136) rfl), lw_t7 (List.mem_of_getElem? (i := 137) rfl)⟩
theorem lw_p69 : lw_okq (⟨"LosslessFabricModel", "carriesOf", "(I)V"⟩, 49) := ⟨⟨by decide +kernel, by decide +kernel⟩, lw_t6 (List.mem_of_getElem? (i := 43) rfl), lw_t7 (List.mem_of_getElem? (i := 140) rfl), lw_t7 (List.mem_of_getElem? (i := 141) rfl)⟩
theorem lw_p70 : lw_okq (⟨"LosslessFabricModel", "takesOff", "()V"⟩, 49) := ⟨⟨by decide +kernel, by decide +kernel⟩, lw_t6 (List.mem_of_getElem? (i := 43) rfl), lw_t7 (List.mem_of_getElem? (i := 144) rfl), lw_t7 (List.mem_of_getElem? (i := 145) rfl)⟩
theorem lw_p71 : lw_okq (⟨"LosslessFabricModel", "comesTo", "(I)V"⟩, 49) := ⟨⟨by decide +kernel, by decide +kernel⟩, lw_t6 (List.mem_of_getElem? (i := 43) rfl), lw_t7 (List.mem_of_getElem? (i := 148) rfl), lw_t7 (List.mem_of_getElem? (i := 149) rfl)⟩
theorem lw_p72 : lw_okq (⟨"LosslessFabricModel", "queueOf", "(I)I"⟩, 49) := ⟨⟨by decide +kernel, by decide +kernel⟩, lw_t6 (List.mem_of_getElem? (i := 43) rfl), lw_t7 (List.mem_of_getElem? (i := 152) rfl), lw_t7 (List.mem_of_getElem? (i := 153) rfl)⟩
theorem lw_p73 : lw_okq (⟨"LosslessFabricModel", "asks", "(I)V"⟩, 49) := ⟨⟨by decide +kernel, by decide +kernel⟩, lw_t6 (List.mem_of_getElem? (i := 43) rfl), lw_t7 (List.mem_of_getElem? (i := 156) rfl), lw_t7 (List.mem_of_getElem? (i := 157) rfl)⟩
theorem lw_p74 : lw_okq (⟨"LosslessFabricModel", "samples", "(I)V"⟩, 49) := ⟨⟨by decide +kernel, by decide +kernel⟩, lw_t6 (List.mem_of_getElem? (i := 43) rfl), lw_t7 (List.mem_of_getElem? (i := 160) rfl), lw_t7 (List.mem_of_getElem? (i := 161) rfl)⟩
theorem lw_p75 : lw_okq (⟨"LosslessFabricModel", "feedbackOf", "(I)I"⟩, 49) := ⟨⟨by decide +kernel, by decide +kernel⟩, lw_t6 (List.mem_of_getElem? (i := 43) rfl), lw_t7 (List.mem_of_getElem? (i := 164) rfl), lw_t7 (List.mem_of_getElem? (i := 165) rfl)⟩
theorem lw_p76 : lw_okq (⟨"LosslessFabricModel", "noticeOf", "(I)I"⟩, 49) := ⟨⟨by decide +kernel, by decide +kernel⟩, lw_t6 (List.mem_of_getElem? (i := 43) rfl), lw_t7 (List.mem_of_getElem? (i := 168) rfl), lw_t7 (List.mem_of_getElem? (i := 169) rfl)⟩
theorem lw_p77 : lw_okq (⟨"LosslessFabricModel", "takesNotices", "()V"⟩, 49) := ⟨⟨by decide +kernel, by decide +kernel⟩, lw_t6 (List.mem_of_getElem? (i := 43) rfl), lw_t7 (List.mem_of_getElem? (i := 172) rfl), lw_t7 (List.mem_of_getElem? (i := 173) rfl)⟩
theorem lw_p78 : lw_okq (⟨"LosslessFabricModel", "recovers", "(I)V"⟩, 49) := ⟨⟨by decide +kernel, by decide +kernel⟩, lw_t6 (List.mem_of_getElem? (i := 43) rfl), lw_t7 (List.mem_of_getElem? (i := 176) rfl), lw_t7 (List.mem_of_getElem? (i := 177) rfl)⟩
theorem lw_p79 : lw_okq (⟨"LosslessFabricModel", "climbs", "(I)V"⟩, 49) := ⟨⟨by decide +kernel, by decide +kernel⟩, lw_t6 (List.mem_of_getElem? (i := 43) rfl), lw_t7 (List.mem_of_getElem? (i := 180) rfl), lw_t7 (List.mem_of_getElem? (i := 181) rfl)⟩
def lw_privs_5 : List (MethodName × Nat) := [(⟨"LosslessFabricModel", "remembers", "()V"⟩, 49), (⟨"LosslessFabricModel", "tickGoes", "()V"⟩, 49), (⟨"LosslessFabricModel", "isOn", "(I)Z"⟩, 49), (⟨"LosslessFabricModel", "laysCan", "()V"⟩, 49), (⟨"LosslessFabricModel", "hopOf", "(II)I"⟩, 49), (⟨"LosslessFabricModel", "carriesOf", "(I)V"⟩, 49), (⟨"LosslessFabricModel", "takesOff", "()V"⟩, 49), (⟨"LosslessFabricModel", "comesTo", "(I)V"⟩, 49), (⟨"LosslessFabricModel", "queueOf", "(I)I"⟩, 49), (⟨"LosslessFabricModel", "asks", "(I)V"⟩, 49), (⟨"LosslessFabricModel", "samples", "(I)V"⟩, 49), (⟨"LosslessFabricModel", "feedbackOf", "(I)I"⟩, 49), (⟨"LosslessFabricModel", "noticeOf", "(I)I"⟩, 49), (⟨"LosslessFabricModel", "takesNotices", "()V"⟩, 49), (⟨"LosslessFabricModel", "recovers", "(I)V"⟩, 49), (⟨"LosslessFabricModel", "climbs", "(I)V"⟩, 49)]
theorem lw_r5 : ∀ q ∈ lw_privs_5, lw_okq q := List.forall_mem_cons.mpr ⟨lw_p64, List.forall_mem_cons.mpr ⟨lw_p65, List.forall_mem_cons.mpr ⟨lw_p66, List.forall_mem_cons.mpr ⟨lw_p67, List.forall_mem_cons.mpr ⟨lw_p68, List.forall_mem_cons.mpr ⟨lw_p69, List.forall_mem_cons.mpr ⟨lw_p70, List.forall_mem_cons.mpr ⟨lw_p71, List.forall_mem_cons.mpr ⟨lw_p72, List.forall_mem_cons.mpr ⟨lw_p73, List.forall_mem_cons.mpr ⟨lw_p74, List.forall_mem_cons.mpr ⟨lw_p75, List.forall_mem_cons.mpr ⟨lw_p76, List.forall_mem_cons.mpr ⟨lw_p77, List.forall_mem_cons.mpr ⟨lw_p78, List.forall_mem_cons.mpr ⟨lw_p79, fun _ h => absurd h List.not_mem_nil⟩⟩⟩⟩⟩⟩⟩⟩⟩⟩⟩⟩⟩⟩⟩⟩
theorem lw_p80 : lw_okq (⟨"LosslessFabricModel", "isFlow", "(I)Z"⟩, 49) := ⟨⟨by decide +kernel, by decide +kernel⟩, lw_t6 (List.mem_of_getElem? (i := 43) rfl), lw_t7 (List.mem_of_getElem? (i := 188) rfl), lw_t7 (List.mem_of_getElem? (i := 189) rfl)⟩
theorem lw_p81 : lw_okq (⟨"LosslessFabricModel", "isLink", "(I)Z"⟩, 49) := ⟨⟨by decide +kernel, by decide +kernel⟩, lw_t6 (List.mem_of_getElem? (i := 43) rfl), lw_t7 (List.mem_of_getElem? (i := 200) rfl), lw_t7 (List.mem_of_getElem? (i := 201) rfl)⟩
theorem lw_p82 : lw_okq (⟨"LosslessFabricModel", "headroomOf", "(I)I"⟩, 49) := ⟨⟨by decide +kernel, by decide +kernel⟩, lw_t6 (List.mem_of_getElem? (i := 43) rfl), lw_t7 (List.mem_of_getElem? (i := 237) rfl), lw_t7 (List.mem_of_getElem? (i := 238) rfl)⟩
theorem lw_p83 : lw_okq (⟨"LosslessFabricModel", "laysWaits", "(Z)V"⟩, 49) := ⟨⟨by decide +kernel, by decide +kernel⟩, lw_t6 (List.mem_of_getElem? (i := 43) rfl), lw_t8 (List.mem_of_getElem? (i := 13) rfl), lw_t8 (List.mem_of_getElem? (i := 14) rfl)⟩
theorem lw_p84 : lw_okq (⟨"LosslessFabricModel", "nextOf", "(II)I"⟩, 49) := ⟨⟨by decide +kernel, by decide +kernel⟩, lw_t6 (List.mem_of_getElem? (i := 43) rfl), lw_t8 (List.mem_of_getElem? (i := 17) rfl), lw_t8 (List.mem_of_getElem? (i := 18) rfl)⟩
theorem lw_p85 : lw_okq (⟨"LosslessFabricModel", "isWaiting", "(III)Z"⟩, 49) := ⟨⟨by decide +kernel, by decide +kernel⟩, lw_t6 (List.mem_of_getElem? (i := 43) rfl), lw_t8 (List.mem_of_getElem? (i := 21) rfl), lw_t8 (List.mem_of_getElem? (i := 22) rfl)⟩
theorem lw_p86 : lw_okq (⟨"LosslessFabricModel", "asked", "(I)Z"⟩, 49) := ⟨⟨by decide +kernel, by decide +kernel⟩, lw_t6 (List.mem_of_getElem? (i := 43) rfl), lw_t8 (List.mem_of_getElem? (i := 25) rfl), lw_t8 (List.mem_of_getElem? (i := 26) rfl)⟩
theorem lw_p87 : lw_okq (⟨"LosslessFabricModel", "inCyclesNow", "()I"⟩, 49) := ⟨⟨by decide +kernel, by decide +kernel⟩, lw_t6 (List.mem_of_getElem? (i := 43) rfl), lw_t8 (List.mem_of_getElem? (i := 33) rfl), lw_t8 (List.mem_of_getElem? (i := 34) rfl)⟩
theorem lw_p88 : lw_okq (⟨"LosslessFabricModel", "laysSteps", "(I)V"⟩, 49) := ⟨⟨by decide +kernel, by decide +kernel⟩, lw_t6 (List.mem_of_getElem? (i := 43) rfl), lw_t8 (List.mem_of_getElem? (i := 37) rfl), lw_t8 (List.mem_of_getElem? (i := 38) rfl)⟩
theorem lw_p89 : lw_okq (⟨"LosslessFabricModel", "laysCycle", "()V"⟩, 49) := ⟨⟨by decide +kernel, by decide +kernel⟩, lw_t6 (List.mem_of_getElem? (i := 43) rfl), lw_t8 (List.mem_of_getElem? (i := 45) rfl), lw_t8 (List.mem_of_getElem? (i := 46) rfl)⟩
theorem lw_p90 : lw_okq (⟨"LosslessFabricModel", "laysFair", "()V"⟩, 49) := ⟨⟨by decide +kernel, by decide +kernel⟩, lw_t6 (List.mem_of_getElem? (i := 43) rfl), lw_t8 (List.mem_of_getElem? (i := 58) rfl), lw_t8 (List.mem_of_getElem? (i := 59) rfl)⟩
theorem lw_p91 : lw_okq (⟨"LosslessFabricModel", "leftOf", "(I)I"⟩, 49) := ⟨⟨by decide +kernel, by decide +kernel⟩, lw_t6 (List.mem_of_getElem? (i := 43) rfl), lw_t8 (List.mem_of_getElem? (i := 62) rfl), lw_t8 (List.mem_of_getElem? (i := 63) rfl)⟩
theorem lw_p92 : lw_okq (⟨"LosslessFabricModel", "tells", "(JJ)V"⟩, 49) := ⟨⟨by decide +kernel, by decide +kernel⟩, lw_t6 (List.mem_of_getElem? (i := 43) rfl), lw_t8 (List.mem_of_getElem? (i := 66) rfl), lw_t8 (List.mem_of_getElem? (i := 67) rfl)⟩
theorem lw_p93 : lw_okq (⟨"LosslessFabricModel", "stops", "(JJ)V"⟩, 49) := ⟨⟨by decide +kernel, by decide +kernel⟩, lw_t6 (List.mem_of_getElem? (i := 43) rfl), lw_t8 (List.mem_of_getElem? (i := 73) rfl), lw_t8 (List.mem_of_getElem? (i := 74) rfl)⟩
theorem lw_p94 : lw_okq (⟨"LosslessFabricModel", "isStalled", "()Z"⟩, 49) := ⟨⟨by decide +kernel, by decide +kernel⟩, lw_t6 (List.mem_of_getElem? (i := 43) rfl), lw_t8 (List.mem_of_getElem? (i := 96) rfl), lw_t8 (List.mem_of_getElem? (i := 97) rfl)⟩
theorem lw_p95 : lw_okq (⟨"LosslessFabricModel", "isEmpty", "()Z"⟩, 49) := ⟨⟨by decide +kernel, by decide +kernel⟩, lw_t6 (List.mem_of_getElem? (i := 43) rfl), lw_t8 (List.mem_of_getElem? (i := 104) rfl), lw_t8 (List.mem_of_getElem? (i := 105) rfl)⟩
def lw_privs_6 : List (MethodName × Nat) := [(⟨"LosslessFabricModel", "isFlow", "(I)Z"⟩, 49), (⟨"LosslessFabricModel", "isLink", "(I)Z"⟩, 49), (⟨"LosslessFabricModel", "headroomOf", "(I)I"⟩, 49), (⟨"LosslessFabricModel", "laysWaits", "(Z)V"⟩, 49), (⟨"LosslessFabricModel", "nextOf", "(II)I"⟩, 49), (⟨"LosslessFabricModel", "isWaiting", "(III)Z"⟩, 49), (⟨"LosslessFabricModel", "asked", "(I)Z"⟩, 49), (⟨"LosslessFabricModel", "inCyclesNow", "()I"⟩, 49), (⟨"LosslessFabricModel", "laysSteps", "(I)V"⟩, 49), (⟨"LosslessFabricModel", "laysCycle", "()V"⟩, 49), (⟨"LosslessFabricModel", "laysFair", "()V"⟩, 49), (⟨"LosslessFabricModel", "leftOf", "(I)I"⟩, 49), (⟨"LosslessFabricModel", "tells", "(JJ)V"⟩, 49), (⟨"LosslessFabricModel", "stops", "(JJ)V"⟩, 49), (⟨"LosslessFabricModel", "isStalled", "()Z"⟩, 49), (⟨"LosslessFabricModel", "isEmpty", "()Z"⟩, 49)]
theorem lw_r6 : ∀ q ∈ lw_privs_6, lw_okq q := List.forall_mem_cons.mpr ⟨lw_p80, List.forall_mem_cons.mpr ⟨lw_p81, List.forall_mem_cons.mpr ⟨lw_p82, List.forall_mem_cons.mpr ⟨lw_p83, List.forall_mem_cons.mpr ⟨lw_p84, List.forall_mem_cons.mpr ⟨lw_p85, List.forall_mem_cons.mpr ⟨lw_p86, List.forall_mem_cons.mpr ⟨lw_p87, List.forall_mem_cons.mpr ⟨lw_p88, List.forall_mem_cons.mpr ⟨lw_p89, List.forall_mem_cons.mpr ⟨lw_p90, List.forall_mem_cons.mpr ⟨lw_p91, List.forall_mem_cons.mpr ⟨lw_p92, List.forall_mem_cons.mpr ⟨lw_p93, List.forall_mem_cons.mpr ⟨lw_p94, List.forall_mem_cons.mpr ⟨lw_p95, fun _ h => absurd h List.not_mem_nil⟩⟩⟩⟩⟩⟩⟩⟩⟩⟩⟩⟩⟩⟩⟩⟩
theorem lw_p96 : lw_okq (⟨"LosslessFabricModel", "sumOf", "(I)I"⟩, 49) := ⟨⟨by decide +kernel, by decide +kernel⟩, lw_t6 (List.mem_of_getElem? (i := 43) rfl), lw_t8 (List.mem_of_getElem? (i := 112) rfl), lw_t8 (List.mem_of_getElem? (i := 113) rfl)⟩
theorem lw_p97 : lw_okq (⟨"LosslessFabricModel", "lostAll", "()I"⟩, 49) := ⟨⟨by decide +kernel, by decide +kernel⟩, lw_t6 (List.mem_of_getElem? (i := 43) rfl), lw_t8 (List.mem_of_getElem? (i := 124) rfl), lw_t8 (List.mem_of_getElem? (i := 125) rfl)⟩
theorem lw_p98 : lw_okq (⟨"LosslessFabricModel", "draw", "(I)I"⟩, 49) := ⟨⟨by decide +kernel, by decide +kernel⟩, lw_t6 (List.mem_of_getElem? (i := 43) rfl), lw_t8 (List.mem_of_getElem? (i := 128) rfl), lw_t8 (List.mem_of_getElem? (i := 129) rfl)⟩
theorem lw_p99 : lw_okq (⟨"LosslessFabricModel", "askedMany", "()I"⟩, 49) := ⟨⟨by decide +kernel, by decide +kernel⟩, lw_t6 (List.mem_of_getElem? (i := 43) rfl), lw_t8 (List.mem_of_getElem? (i := 138) rfl), lw_t8 (List.mem_of_getElem? (i := 139) rfl)⟩
def lw_privs_7 : List (MethodName × Nat) := [(⟨"LosslessFabricModel", "sumOf", "(I)I"⟩, 49), (⟨"LosslessFabricModel", "lostAll", "()I"⟩, 49), (⟨"LosslessFabricModel", "draw", "(I)I"⟩, 49), (⟨"LosslessFabricModel", "askedMany", "()I"⟩, 49)]
theorem lw_r7 : ∀ q ∈ lw_privs_7, lw_okq q := List.forall_mem_cons.mpr ⟨lw_p96, List.forall_mem_cons.mpr ⟨lw_p97, List.forall_mem_cons.mpr ⟨lw_p98, List.forall_mem_cons.mpr ⟨lw_p99, fun _ h => absurd h List.not_mem_nil⟩⟩⟩⟩
def lw_privs : List (MethodName × Nat) := lw_privs_1 ++ (lw_privs_2 ++ (lw_privs_3 ++ (lw_privs_4 ++ (lw_privs_5 ++ (lw_privs_6 ++ (lw_privs_7))))))
def lw_tbl : List Cond := k2_sels lw_privs ++ tables_1
theorem lw_privs_ok : ∀ q ∈ lw_privs, lw_okq q := by
  show ∀ q ∈ lw_privs_1 ++ (lw_privs_2 ++ (lw_privs_3 ++ (lw_privs_4 ++ (lw_privs_5 ++ (lw_privs_6 ++ (lw_privs_7)))))), lw_okq q
  exact List.forall_mem_append.mpr ⟨lw_r1, List.forall_mem_append.mpr ⟨lw_r2, List.forall_mem_append.mpr ⟨lw_r3, List.forall_mem_append.mpr ⟨lw_r4, List.forall_mem_append.mpr ⟨lw_r5, List.forall_mem_append.mpr ⟨lw_r6, lw_r7⟩⟩⟩⟩⟩⟩
-- ===== ONE list of words for every method: the tables' words that hold all through a run =====
def lw_all : List Cond := lw_tbl.filter goodWord
/-- a word of the tables by its place: claim/WORDS.tsv -/
theorem lw_w {w : Cond} (i : Nat) (h : lw_tbl[i]? = some w) (g : goodWord w = true) : w ∈ lw_all := List.mem_filter.mpr ⟨List.mem_of_getElem? h, g⟩
theorem lw_all_tbl {w : Cond} (h : w ∈ lw_all) : w ∈ lw_tbl := (List.mem_filter.mp h).1
theorem lw_self : GoodIn lw_all lw_all := fun w h => ⟨h, good_of_word (List.mem_filter.mp h).2⟩
/-- a class's field words, by their places -/
theorem lw_in (ws : List Cond) (ps : List Nat) (hp : ws = ps.filterMap (fun i => lw_tbl[i]?)) (hg : ws.all goodWord = true) : ∀ w ∈ ws, w ∈ lw_all := by
  intro w h
  have h1 := List.all_eq_true.mp hg w h
  rw [hp] at h
  obtain ⟨i, -, hi⟩ := List.mem_filterMap.mp h
  exact lw_w i hi h1
/-- the words of a contract for the method y with code b, L locals, answer r -/
abbrev ws_ (y : MethodName) (b : ByteArray) (L : Nat) (r : Option FieldType) : List Cond := Cond.code y b L r :: lw_all
theorem lw_meth {y : MethodName} {b : ByteArray} {L : Nat} {r : Option FieldType} (h : Cond.code y b L r ∈ lw_all) : GoodIn lw_all (ws_ y b L r) := by
  intro w hw
  rcases List.mem_cons.mp hw with e | e
  · rw [e]
    exact lw_self _ h
  · exact lw_self _ e
theorem lw_app {a c : List Cond} (ha : ∀ w ∈ a, w ∈ lw_all) (hc : GoodIn lw_all c) : GoodIn lw_all (a ++ c) := by
  intro w hw
  rcases List.mem_append.mp hw with e | e
  · exact lw_self w (ha w e)
  · exact hc w e
/-- what a call through an object asks: cwV n hts (lw_V ..) -/
theorem lw_V {own : String} {idx : Nat} {C : String} {y : MethodName} {b : ByteArray} {L : Nat} {r : Option FieldType} (h1 : Cond.methodLink own idx y ∈ lw_all) (h2 : Cond.instanceMethod y ∈ lw_all) (h3 : Cond.selects C y y ∈ lw_all) (h4 : Cond.initialized C ∈ lw_all) (h5 : Cond.code y b L r ∈ lw_all) : GoodIn lw_all (wsV own idx C y (ws_ y b L r)) := by
  refine lw_app ?_ (lw_meth h5)
  intro w hw
  simp only [List.mem_cons, List.not_mem_nil, or_false] at hw
  rcases hw with e | e | e | e
  · rw [e]; exact h1
  · rw [e]; exact h2
  · rw [e]; exact h3
  · rw [e]; exact h4
/-- what a static call asks: va_cwS n hts (lw_S ..) -/
theorem lw_S {own : String} {idx : Nat} {y : MethodName} {b : ByteArray} {L : Nat} {r : Option FieldType} (h1 : Cond.methodLink own idx y ∈ lw_all) (h2 : Cond.static y ∈ lw_all) (h3 : Cond.initialized y.cls ∈ lw_all) (h4 : Cond.code y b L r ∈ lw_all) : GoodIn lw_all (va_wsS own idx y (ws_ y b L r)) := by
  refine lw_app ?_ (lw_meth h4)
  intro w hw
  simp only [List.mem_cons, List.not_mem_nil, or_false] at hw
  rcases hw with e | e | e
  · rw [e]; exact h1
  · rw [e]; exact h2
  · rw [e]; exact h3
/-- the words of a contract for a method WITH HANDLERS (hh: its table) -/
abbrev wsW_ (y : MethodName) (b : ByteArray) (L : Nat) (r : Option FieldType) (hh : List (Nat × Nat × Nat × Nat)) : List Cond := Cond.codeWith y b L r hh :: lw_all
theorem lw_methW {y : MethodName} {b : ByteArray} {L : Nat} {r : Option FieldType} {hh : List (Nat × Nat × Nat × Nat)} (h : Cond.codeWith y b L r hh ∈ lw_all) : GoodIn lw_all (wsW_ y b L r hh) := by
  intro w hw
  rcases List.mem_cons.mp hw with e | e
  · rw [e]
    exact lw_self _ h
  · exact lw_self _ e
/-- any list of words by their places (lw_in), good -/
theorem lw_good {ws : List Cond} (h : ∀ w ∈ ws, w ∈ lw_all) : GoodIn lw_all ws := fun w hw => lw_self w (h w hw)
/-- what a call of a method with handlers asks: vx_cwVW n hts (lw_VW ..), vx_cwSW n hts (lw_SW ..) -/
theorem lw_VW {own : String} {idx : Nat} {C : String} {y : MethodName} {b : ByteArray} {L : Nat} {r : Option FieldType} {hh : List (Nat × Nat × Nat × Nat)} (h1 : Cond.methodLink own idx y ∈ lw_all) (h2 : Cond.instanceMethod y ∈ lw_all) (h3 : Cond.selects C y y ∈ lw_all) (h4 : Cond.initialized C ∈ lw_all) (h5 : Cond.codeWith y b L r hh ∈ lw_all) : GoodIn lw_all (wsV own idx C y (wsW_ y b L r hh)) := by
  refine lw_app ?_ (lw_methW h5)
  intro w hw
  simp only [List.mem_cons, List.not_mem_nil, or_false] at hw
  rcases hw with e | e | e | e
  · rw [e]; exact h1
  · rw [e]; exact h2
  · rw [e]; exact h3
  · rw [e]; exact h4
theorem lw_SW {own : String} {idx : Nat} {y : MethodName} {b : ByteArray} {L : Nat} {r : Option FieldType} {hh : List (Nat × Nat × Nat × Nat)} (h1 : Cond.methodLink own idx y ∈ lw_all) (h2 : Cond.static y ∈ lw_all) (h3 : Cond.initialized y.cls ∈ lw_all) (h4 : Cond.codeWith y b L r hh ∈ lw_all) : GoodIn lw_all (va_wsS own idx y (wsW_ y b L r hh)) := by
  refine lw_app ?_ (lw_methW h4)
  intro w hw
  simp only [List.mem_cons, List.not_mem_nil, or_false] at hw
  rcases hw with e | e | e
  · rw [e]; exact h1
  · rw [e]; exact h2
  · rw [e]; exact h3
/-- a word by its place in its run of the tables -/
theorem lw_at {r : List Cond} (hr : ∀ w ∈ r, w ∈ lw_tbl) {w : Cond} (i : Nat) (h : r[i]? = some w) : w ∈ lw_tbl := hr w (List.mem_of_getElem? h)
theorem lw_g {w : Cond} (h : w ∈ lw_tbl) (g : goodWord w = true) : w ∈ lw_all := List.mem_filter.mpr ⟨h, g⟩
theorem lw_ms : ∀ w ∈ k2_sels lw_privs, w ∈ lw_tbl := fun w h => show w ∈ k2_sels lw_privs ++ tables_1 from List.mem_append_left _ h
theorem lw_m1 : ∀ w ∈ tables_1_1, w ∈ lw_tbl := fun w h => show w ∈ k2_sels lw_privs ++ tables_1 from List.mem_append_right (k2_sels lw_privs) (show w ∈ tables_1 from List.mem_append_left _ h)
theorem lw_m2 : ∀ w ∈ tables_1_2, w ∈ lw_tbl := fun w h => show w ∈ k2_sels lw_privs ++ tables_1 from List.mem_append_right (k2_sels lw_privs) (show w ∈ tables_1 from List.mem_append_right _ (List.mem_append_left _ h))
theorem lw_m3 : ∀ w ∈ tables_1_3, w ∈ lw_tbl := fun w h => show w ∈ k2_sels lw_privs ++ tables_1 from List.mem_append_right (k2_sels lw_privs) (show w ∈ tables_1 from List.mem_append_right _ (List.mem_append_right _ (List.mem_append_left _ h)))
theorem lw_m4 : ∀ w ∈ tables_1_4, w ∈ lw_tbl := fun w h => show w ∈ k2_sels lw_privs ++ tables_1 from List.mem_append_right (k2_sels lw_privs) (show w ∈ tables_1 from List.mem_append_right _ (List.mem_append_right _ (List.mem_append_right _ (List.mem_append_left _ h))))
theorem lw_m5 : ∀ w ∈ tables_1_5, w ∈ lw_tbl := fun w h => show w ∈ k2_sels lw_privs ++ tables_1 from List.mem_append_right (k2_sels lw_privs) (show w ∈ tables_1 from List.mem_append_right _ (List.mem_append_right _ (List.mem_append_right _ (List.mem_append_right _ (List.mem_append_left _ h)))))
theorem lw_m6 : ∀ w ∈ tables_1_6, w ∈ lw_tbl := fun w h => show w ∈ k2_sels lw_privs ++ tables_1 from List.mem_append_right (k2_sels lw_privs) (show w ∈ tables_1 from List.mem_append_right _ (List.mem_append_right _ (List.mem_append_right _ (List.mem_append_right _ (List.mem_append_right _ (List.mem_append_left _ h))))))
theorem lw_m7 : ∀ w ∈ tables_1_7, w ∈ lw_tbl := fun w h => show w ∈ k2_sels lw_privs ++ tables_1 from List.mem_append_right (k2_sels lw_privs) (show w ∈ tables_1 from List.mem_append_right _ (List.mem_append_right _ (List.mem_append_right _ (List.mem_append_right _ (List.mem_append_right _ (List.mem_append_right _ (List.mem_append_left _ h)))))))
theorem lw_m8 : ∀ w ∈ tables_1_8, w ∈ lw_tbl := fun w h => show w ∈ k2_sels lw_privs ++ tables_1 from List.mem_append_right (k2_sels lw_privs) (show w ∈ tables_1 from List.mem_append_right _ (List.mem_append_right _ (List.mem_append_right _ (List.mem_append_right _ (List.mem_append_right _ (List.mem_append_right _ (List.mem_append_right _ h)))))))
theorem qs0 : (Cond.selects "LosslessFabric" ⟨"LosslessFabric", "lambda$new$0", "(II)I"⟩ ⟨"LosslessFabric", "lambda$new$0", "(II)I"⟩) ∈ lw_all := lw_g (lw_at lw_ms 0 rfl) rfl
theorem qs1 : (Cond.selects "LosslessFabric" ⟨"LosslessFabric", "begin", "()V"⟩ ⟨"LosslessFabric", "begin", "()V"⟩) ∈ lw_all := lw_g (lw_at lw_ms 1 rfl) rfl
theorem qs2 : (Cond.selects "LosslessFabric$Reader" ⟨"LosslessFabric$Reader", "take", "()V"⟩ ⟨"LosslessFabric$Reader", "take", "()V"⟩) ∈ lw_all := lw_g (lw_at lw_ms 2 rfl) rfl
theorem qs3 : (Cond.selects "LosslessFabric$Reader" ⟨"LosslessFabric$Reader", "see", "(I)I"⟩ ⟨"LosslessFabric$Reader", "see", "(I)I"⟩) ∈ lw_all := lw_g (lw_at lw_ms 3 rfl) rfl
theorem qs4 : (Cond.selects "LosslessFabric$Reader" ⟨"LosslessFabric$Reader", "isSmall", "(I)Z"⟩ ⟨"LosslessFabric$Reader", "isSmall", "(I)Z"⟩) ∈ lw_all := lw_g (lw_at lw_ms 4 rfl) rfl
theorem qs5 : (Cond.selects "LosslessFabric$Reader" ⟨"LosslessFabric$Reader", "takeWord", "()V"⟩ ⟨"LosslessFabric$Reader", "takeWord", "()V"⟩) ∈ lw_all := lw_g (lw_at lw_ms 5 rfl) rfl
theorem qs6 : (Cond.selects "LosslessFabric$Reader" ⟨"LosslessFabric$Reader", "key", "()I"⟩ ⟨"LosslessFabric$Reader", "key", "()I"⟩) ∈ lw_all := lw_g (lw_at lw_ms 6 rfl) rfl
theorem qs7 : (Cond.selects "LosslessFabric$Reader" ⟨"LosslessFabric$Reader", "isDigit", "(I)Z"⟩ ⟨"LosslessFabric$Reader", "isDigit", "(I)Z"⟩) ∈ lw_all := lw_g (lw_at lw_ms 7 rfl) rfl
theorem qs8 : (Cond.selects "LosslessFabric$Reader" ⟨"LosslessFabric$Reader", "must", "(ZI)V"⟩ ⟨"LosslessFabric$Reader", "must", "(ZI)V"⟩) ∈ lw_all := lw_g (lw_at lw_ms 8 rfl) rfl
theorem qs9 : (Cond.selects "java/lang/Throwable" ⟨"java/lang/Throwable", "fillInStackTrace", "(I)Ljava/lang/Throwable;"⟩ ⟨"java/lang/Throwable", "fillInStackTrace", "(I)Ljava/lang/Throwable;"⟩) ∈ lw_all := lw_g (lw_at lw_ms 9 rfl) rfl
theorem qs10 : (Cond.selects "LosslessFabric$Reader" ⟨"LosslessFabric$Reader", "line", "(I)V"⟩ ⟨"LosslessFabric$Reader", "line", "(I)V"⟩) ∈ lw_all := lw_g (lw_at lw_ms 10 rfl) rfl
theorem qs11 : (Cond.selects "LosslessFabric$Reader" ⟨"LosslessFabric$Reader", "link", "()V"⟩ ⟨"LosslessFabric$Reader", "link", "()V"⟩) ∈ lw_all := lw_g (lw_at lw_ms 11 rfl) rfl
theorem qs12 : (Cond.selects "LosslessFabric$Reader" ⟨"LosslessFabric$Reader", "number", "(II)I"⟩ ⟨"LosslessFabric$Reader", "number", "(II)I"⟩) ∈ lw_all := lw_g (lw_at lw_ms 12 rfl) rfl
theorem qs13 : (Cond.selects "LosslessFabric$Reader" ⟨"LosslessFabric$Reader", "flow", "()V"⟩ ⟨"LosslessFabric$Reader", "flow", "()V"⟩) ∈ lw_all := lw_g (lw_at lw_ms 13 rfl) rfl
theorem qs14 : (Cond.selects "LosslessFabric$Reader" ⟨"LosslessFabric$Reader", "off", "()V"⟩ ⟨"LosslessFabric$Reader", "off", "()V"⟩) ∈ lw_all := lw_g (lw_at lw_ms 14 rfl) rfl
theorem qs15 : (Cond.selects "LosslessFabric" ⟨"LosslessFabric", "canUndo", "()V"⟩ ⟨"LosslessFabric", "canUndo", "()V"⟩) ∈ lw_all := lw_g (lw_at lw_ms 15 rfl) rfl
theorem qs16 : (Cond.selects "LosslessFabric" ⟨"LosslessFabric", "ticks", "(LLosslessFabric$State;)V"⟩ ⟨"LosslessFabric", "ticks", "(LLosslessFabric$State;)V"⟩) ∈ lw_all := lw_g (lw_at lw_ms 16 rfl) rfl
theorem qs17 : (Cond.selects "LosslessFabric" ⟨"LosslessFabric", "carries", "(LLosslessFabric$State;I)V"⟩ ⟨"LosslessFabric", "carries", "(LLosslessFabric$State;I)V"⟩) ∈ lw_all := lw_g (lw_at lw_ms 17 rfl) rfl
theorem qs18 : (Cond.selects "LosslessFabric" ⟨"LosslessFabric", "leaves", "(LLosslessFabric$State;III)V"⟩ ⟨"LosslessFabric", "leaves", "(LLosslessFabric$State;III)V"⟩) ∈ lw_all := lw_g (lw_at lw_ms 18 rfl) rfl
theorem qs19 : (Cond.selects "LosslessFabric" ⟨"LosslessFabric", "arrives", "(LLosslessFabric$State;I)V"⟩ ⟨"LosslessFabric", "arrives", "(LLosslessFabric$State;I)V"⟩) ∈ lw_all := lw_g (lw_at lw_ms 19 rfl) rfl
theorem qs20 : (Cond.selects "LosslessFabric" ⟨"LosslessFabric", "samples", "(LLosslessFabric$State;I)V"⟩ ⟨"LosslessFabric", "samples", "(LLosslessFabric$State;I)V"⟩) ∈ lw_all := lw_g (lw_at lw_ms 20 rfl) rfl
theorem qs21 : (Cond.selects "LosslessFabric" ⟨"LosslessFabric", "isFlow", "(I)Z"⟩ ⟨"LosslessFabric", "isFlow", "(I)Z"⟩) ∈ lw_all := lw_g (lw_at lw_ms 21 rfl) rfl
theorem qs22 : (Cond.selects "LosslessFabric" ⟨"LosslessFabric", "isLink", "(I)Z"⟩ ⟨"LosslessFabric", "isLink", "(I)Z"⟩) ∈ lw_all := lw_g (lw_at lw_ms 22 rfl) rfl
theorem qs23 : (Cond.selects "LosslessFabric" ⟨"LosslessFabric", "headroomOf", "(I)I"⟩ ⟨"LosslessFabric", "headroomOf", "(I)I"⟩) ∈ lw_all := lw_g (lw_at lw_ms 23 rfl) rfl
theorem qs24 : (Cond.selects "LosslessFabric" ⟨"LosslessFabric", "paused", "(LLosslessFabric$State;)LLosslessFabric$Cycle;"⟩ ⟨"LosslessFabric", "paused", "(LLosslessFabric$State;)LLosslessFabric$Cycle;"⟩) ∈ lw_all := lw_g (lw_at lw_ms 24 rfl) rfl
theorem qs25 : (Cond.selects "LosslessFabric$Cycle" ⟨"LosslessFabric$Cycle", "laysTo", "(I)V"⟩ ⟨"LosslessFabric$Cycle", "laysTo", "(I)V"⟩) ∈ lw_all := lw_g (lw_at lw_ms 25 rfl) rfl
theorem qs26 : (Cond.selects "LosslessFabric$Cycle" ⟨"LosslessFabric$Cycle", "isAhead", "(III)Z"⟩ ⟨"LosslessFabric$Cycle", "isAhead", "(III)Z"⟩) ∈ lw_all := lw_g (lw_at lw_ms 26 rfl) rfl
theorem qs27 : (Cond.selects "LosslessFabric$Cycle" ⟨"LosslessFabric$Cycle", "nextTo", "(II)I"⟩ ⟨"LosslessFabric$Cycle", "nextTo", "(II)I"⟩) ∈ lw_all := lw_g (lw_at lw_ms 27 rfl) rfl
theorem qs28 : (Cond.selects "LosslessFabric" ⟨"LosslessFabric", "lambda$inCycles$3", "(II)Z"⟩ ⟨"LosslessFabric", "lambda$inCycles$3", "(II)Z"⟩) ∈ lw_all := lw_g (lw_at lw_ms 28 rfl) rfl
theorem qs29 : (Cond.selects "LosslessFabric" ⟨"LosslessFabric", "mayWait", "(II)Z"⟩ ⟨"LosslessFabric", "mayWait", "(II)Z"⟩) ∈ lw_all := lw_g (lw_at lw_ms 29 rfl) rfl
theorem qs30 : (Cond.selects "LosslessFabric$Fair" ⟨"LosslessFabric$Fair", "grows", "()V"⟩ ⟨"LosslessFabric$Fair", "grows", "()V"⟩) ∈ lw_all := lw_g (lw_at lw_ms 30 rfl) rfl
theorem qs31 : (Cond.selects "LosslessFabric$Fair" ⟨"LosslessFabric$Fair", "lays", "(I)Z"⟩ ⟨"LosslessFabric$Fair", "lays", "(I)Z"⟩) ∈ lw_all := lw_g (lw_at lw_ms 31 rfl) rfl
theorem qs32 : (Cond.selects "LosslessFabric$Fair" ⟨"LosslessFabric$Fair", "goesBy", "(II)Z"⟩ ⟨"LosslessFabric$Fair", "goesBy", "(II)Z"⟩) ∈ lw_all := lw_g (lw_at lw_ms 32 rfl) rfl
theorem qs33 : (Cond.selects "LosslessFabric$Fair" ⟨"LosslessFabric$Fair", "less", "(JJ)V"⟩ ⟨"LosslessFabric$Fair", "less", "(JJ)V"⟩) ∈ lw_all := lw_g (lw_at lw_ms 33 rfl) rfl
theorem qs34 : (Cond.selects "LosslessFabric" ⟨"LosslessFabric", "tried", "(I)LLosslessFabric$State;"⟩ ⟨"LosslessFabric", "tried", "(I)LLosslessFabric$State;"⟩) ∈ lw_all := lw_g (lw_at lw_ms 34 rfl) rfl
theorem qs35 : (Cond.selects "LosslessFabric" ⟨"LosslessFabric", "lambda$stalls$4", "(LLosslessFabric$State;)Z"⟩ ⟨"LosslessFabric", "lambda$stalls$4", "(LLosslessFabric$State;)Z"⟩) ∈ lw_all := lw_g (lw_at lw_ms 35 rfl) rfl
theorem qs36 : (Cond.selects "LosslessFabric" ⟨"LosslessFabric", "until", "(LLosslessFabric$Goal;)I"⟩ ⟨"LosslessFabric", "until", "(LLosslessFabric$Goal;)I"⟩) ∈ lw_all := lw_g (lw_at lw_ms 36 rfl) rfl
theorem qs37 : (Cond.selects "LosslessFabric" ⟨"LosslessFabric", "draw", "(I)I"⟩ ⟨"LosslessFabric", "draw", "(I)I"⟩) ∈ lw_all := lw_g (lw_at lw_ms 37 rfl) rfl
theorem qs38 : (Cond.selects "LosslessFabricModel" ⟨"LosslessFabricModel", "freshText", "()V"⟩ ⟨"LosslessFabricModel", "freshText", "()V"⟩) ∈ lw_all := lw_g (lw_at lw_ms 38 rfl) rfl
theorem qs39 : (Cond.selects "LosslessFabricModel" ⟨"LosslessFabricModel", "reads", "(II)V"⟩ ⟨"LosslessFabricModel", "reads", "(II)V"⟩) ∈ lw_all := lw_g (lw_at lw_ms 39 rfl) rfl
theorem qs40 : (Cond.selects "LosslessFabricModel" ⟨"LosslessFabricModel", "takeText", "()V"⟩ ⟨"LosslessFabricModel", "takeText", "()V"⟩) ∈ lw_all := lw_g (lw_at lw_ms 40 rfl) rfl
theorem qs41 : (Cond.selects "LosslessFabricModel" ⟨"LosslessFabricModel", "reading", "(I)I"⟩ ⟨"LosslessFabricModel", "reading", "(I)I"⟩) ∈ lw_all := lw_g (lw_at lw_ms 41 rfl) rfl
theorem qs42 : (Cond.selects "LosslessFabricModel" ⟨"LosslessFabricModel", "begins", "()V"⟩ ⟨"LosslessFabricModel", "begins", "()V"⟩) ∈ lw_all := lw_g (lw_at lw_ms 42 rfl) rfl
theorem qs43 : (Cond.selects "LosslessFabricModel" ⟨"LosslessFabricModel", "links", "()I"⟩ ⟨"LosslessFabricModel", "links", "()I"⟩) ∈ lw_all := lw_g (lw_at lw_ms 43 rfl) rfl
theorem qs44 : (Cond.selects "LosslessFabricModel" ⟨"LosslessFabricModel", "flows", "()I"⟩ ⟨"LosslessFabricModel", "flows", "()I"⟩) ∈ lw_all := lw_g (lw_at lw_ms 44 rfl) rfl
theorem qs45 : (Cond.selects "LosslessFabricModel" ⟨"LosslessFabricModel", "readText", "(I)V"⟩ ⟨"LosslessFabricModel", "readText", "(I)V"⟩) ∈ lw_all := lw_g (lw_at lw_ms 45 rfl) rfl
theorem qs46 : (Cond.selects "LosslessFabricModel" ⟨"LosslessFabricModel", "token", "()V"⟩ ⟨"LosslessFabricModel", "token", "()V"⟩) ∈ lw_all := lw_g (lw_at lw_ms 46 rfl) rfl
theorem qs47 : (Cond.selects "LosslessFabricModel" ⟨"LosslessFabricModel", "here", "()I"⟩ ⟨"LosslessFabricModel", "here", "()I"⟩) ∈ lw_all := lw_g (lw_at lw_ms 47 rfl) rfl
theorem qs48 : (Cond.selects "LosslessFabricModel" ⟨"LosslessFabricModel", "wordHere", "()I"⟩ ⟨"LosslessFabricModel", "wordHere", "()I"⟩) ∈ lw_all := lw_g (lw_at lw_ms 48 rfl) rfl
theorem qs49 : (Cond.selects "LosslessFabricModel" ⟨"LosslessFabricModel", "nameHere", "()V"⟩ ⟨"LosslessFabricModel", "nameHere", "()V"⟩) ∈ lw_all := lw_g (lw_at lw_ms 49 rfl) rfl
theorem qs50 : (Cond.selects "LosslessFabricModel" ⟨"LosslessFabricModel", "readLine", "()V"⟩ ⟨"LosslessFabricModel", "readLine", "()V"⟩) ∈ lw_all := lw_g (lw_at lw_ms 50 rfl) rfl
theorem qs51 : (Cond.selects "LosslessFabricModel" ⟨"LosslessFabricModel", "wrong", "(I)V"⟩ ⟨"LosslessFabricModel", "wrong", "(I)V"⟩) ∈ lw_all := lw_g (lw_at lw_ms 51 rfl) rfl
theorem qs52 : (Cond.selects "LosslessFabricModel" ⟨"LosslessFabricModel", "readLink", "()V"⟩ ⟨"LosslessFabricModel", "readLink", "()V"⟩) ∈ lw_all := lw_g (lw_at lw_ms 52 rfl) rfl
theorem qs53 : (Cond.selects "LosslessFabricModel" ⟨"LosslessFabricModel", "newName", "([III)V"⟩ ⟨"LosslessFabricModel", "newName", "([III)V"⟩) ∈ lw_all := lw_g (lw_at lw_ms 53 rfl) rfl
theorem qs54 : (Cond.selects "LosslessFabricModel" ⟨"LosslessFabricModel", "goOn", "()V"⟩ ⟨"LosslessFabricModel", "goOn", "()V"⟩) ∈ lw_all := lw_g (lw_at lw_ms 54 rfl) rfl
theorem qs55 : (Cond.selects "LosslessFabricModel" ⟨"LosslessFabricModel", "numeral", "(II)I"⟩ ⟨"LosslessFabricModel", "numeral", "(II)I"⟩) ∈ lw_all := lw_g (lw_at lw_ms 55 rfl) rfl
theorem qs56 : (Cond.selects "LosslessFabricModel" ⟨"LosslessFabricModel", "readFlow", "()V"⟩ ⟨"LosslessFabricModel", "readFlow", "()V"⟩) ∈ lw_all := lw_g (lw_at lw_ms 56 rfl) rfl
theorem qs57 : (Cond.selects "LosslessFabricModel" ⟨"LosslessFabricModel", "readHop", "(I)V"⟩ ⟨"LosslessFabricModel", "readHop", "(I)V"⟩) ∈ lw_all := lw_g (lw_at lw_ms 57 rfl) rfl
theorem qs58 : (Cond.selects "LosslessFabricModel" ⟨"LosslessFabricModel", "isOnPath", "(II)Z"⟩ ⟨"LosslessFabricModel", "isOnPath", "(II)Z"⟩) ∈ lw_all := lw_g (lw_at lw_ms 58 rfl) rfl
theorem qs59 : (Cond.selects "LosslessFabricModel" ⟨"LosslessFabricModel", "readSample", "()V"⟩ ⟨"LosslessFabricModel", "readSample", "()V"⟩) ∈ lw_all := lw_g (lw_at lw_ms 59 rfl) rfl
theorem qs60 : (Cond.selects "LosslessFabricModel" ⟨"LosslessFabricModel", "once", "(I)V"⟩ ⟨"LosslessFabricModel", "once", "(I)V"⟩) ∈ lw_all := lw_g (lw_at lw_ms 60 rfl) rfl
theorem qs61 : (Cond.selects "LosslessFabricModel" ⟨"LosslessFabricModel", "readStage", "()V"⟩ ⟨"LosslessFabricModel", "readStage", "()V"⟩) ∈ lw_all := lw_g (lw_at lw_ms 61 rfl) rfl
theorem qs62 : (Cond.selects "LosslessFabricModel" ⟨"LosslessFabricModel", "readOff", "()V"⟩ ⟨"LosslessFabricModel", "readOff", "()V"⟩) ∈ lw_all := lw_g (lw_at lw_ms 62 rfl) rfl
theorem qs63 : (Cond.selects "LosslessFabricModel" ⟨"LosslessFabricModel", "readSeed", "()V"⟩ ⟨"LosslessFabricModel", "readSeed", "()V"⟩) ∈ lw_all := lw_g (lw_at lw_ms 63 rfl) rfl
theorem qs64 : (Cond.selects "LosslessFabricModel" ⟨"LosslessFabricModel", "remembers", "()V"⟩ ⟨"LosslessFabricModel", "remembers", "()V"⟩) ∈ lw_all := lw_g (lw_at lw_ms 64 rfl) rfl
theorem qs65 : (Cond.selects "LosslessFabricModel" ⟨"LosslessFabricModel", "tickGoes", "()V"⟩ ⟨"LosslessFabricModel", "tickGoes", "()V"⟩) ∈ lw_all := lw_g (lw_at lw_ms 65 rfl) rfl
theorem qs66 : (Cond.selects "LosslessFabricModel" ⟨"LosslessFabricModel", "isOn", "(I)Z"⟩ ⟨"LosslessFabricModel", "isOn", "(I)Z"⟩) ∈ lw_all := lw_g (lw_at lw_ms 66 rfl) rfl
theorem qs67 : (Cond.selects "LosslessFabricModel" ⟨"LosslessFabricModel", "laysCan", "()V"⟩ ⟨"LosslessFabricModel", "laysCan", "()V"⟩) ∈ lw_all := lw_g (lw_at lw_ms 67 rfl) rfl
theorem qs68 : (Cond.selects "LosslessFabricModel" ⟨"LosslessFabricModel", "hopOf", "(II)I"⟩ ⟨"LosslessFabricModel", "hopOf", "(II)I"⟩) ∈ lw_all := lw_g (lw_at lw_ms 68 rfl) rfl
theorem qs69 : (Cond.selects "LosslessFabricModel" ⟨"LosslessFabricModel", "carriesOf", "(I)V"⟩ ⟨"LosslessFabricModel", "carriesOf", "(I)V"⟩) ∈ lw_all := lw_g (lw_at lw_ms 69 rfl) rfl
theorem qs70 : (Cond.selects "LosslessFabricModel" ⟨"LosslessFabricModel", "takesOff", "()V"⟩ ⟨"LosslessFabricModel", "takesOff", "()V"⟩) ∈ lw_all := lw_g (lw_at lw_ms 70 rfl) rfl
theorem qs71 : (Cond.selects "LosslessFabricModel" ⟨"LosslessFabricModel", "comesTo", "(I)V"⟩ ⟨"LosslessFabricModel", "comesTo", "(I)V"⟩) ∈ lw_all := lw_g (lw_at lw_ms 71 rfl) rfl
theorem qs72 : (Cond.selects "LosslessFabricModel" ⟨"LosslessFabricModel", "queueOf", "(I)I"⟩ ⟨"LosslessFabricModel", "queueOf", "(I)I"⟩) ∈ lw_all := lw_g (lw_at lw_ms 72 rfl) rfl
theorem qs73 : (Cond.selects "LosslessFabricModel" ⟨"LosslessFabricModel", "asks", "(I)V"⟩ ⟨"LosslessFabricModel", "asks", "(I)V"⟩) ∈ lw_all := lw_g (lw_at lw_ms 73 rfl) rfl
theorem qs74 : (Cond.selects "LosslessFabricModel" ⟨"LosslessFabricModel", "samples", "(I)V"⟩ ⟨"LosslessFabricModel", "samples", "(I)V"⟩) ∈ lw_all := lw_g (lw_at lw_ms 74 rfl) rfl
theorem qs75 : (Cond.selects "LosslessFabricModel" ⟨"LosslessFabricModel", "feedbackOf", "(I)I"⟩ ⟨"LosslessFabricModel", "feedbackOf", "(I)I"⟩) ∈ lw_all := lw_g (lw_at lw_ms 75 rfl) rfl
theorem qs76 : (Cond.selects "LosslessFabricModel" ⟨"LosslessFabricModel", "noticeOf", "(I)I"⟩ ⟨"LosslessFabricModel", "noticeOf", "(I)I"⟩) ∈ lw_all := lw_g (lw_at lw_ms 76 rfl) rfl
theorem qs77 : (Cond.selects "LosslessFabricModel" ⟨"LosslessFabricModel", "takesNotices", "()V"⟩ ⟨"LosslessFabricModel", "takesNotices", "()V"⟩) ∈ lw_all := lw_g (lw_at lw_ms 77 rfl) rfl
theorem qs78 : (Cond.selects "LosslessFabricModel" ⟨"LosslessFabricModel", "recovers", "(I)V"⟩ ⟨"LosslessFabricModel", "recovers", "(I)V"⟩) ∈ lw_all := lw_g (lw_at lw_ms 78 rfl) rfl
theorem qs79 : (Cond.selects "LosslessFabricModel" ⟨"LosslessFabricModel", "climbs", "(I)V"⟩ ⟨"LosslessFabricModel", "climbs", "(I)V"⟩) ∈ lw_all := lw_g (lw_at lw_ms 79 rfl) rfl
theorem qs80 : (Cond.selects "LosslessFabricModel" ⟨"LosslessFabricModel", "isFlow", "(I)Z"⟩ ⟨"LosslessFabricModel", "isFlow", "(I)Z"⟩) ∈ lw_all := lw_g (lw_at lw_ms 80 rfl) rfl
theorem qs81 : (Cond.selects "LosslessFabricModel" ⟨"LosslessFabricModel", "isLink", "(I)Z"⟩ ⟨"LosslessFabricModel", "isLink", "(I)Z"⟩) ∈ lw_all := lw_g (lw_at lw_ms 81 rfl) rfl
theorem qs82 : (Cond.selects "LosslessFabricModel" ⟨"LosslessFabricModel", "headroomOf", "(I)I"⟩ ⟨"LosslessFabricModel", "headroomOf", "(I)I"⟩) ∈ lw_all := lw_g (lw_at lw_ms 82 rfl) rfl
theorem qs83 : (Cond.selects "LosslessFabricModel" ⟨"LosslessFabricModel", "laysWaits", "(Z)V"⟩ ⟨"LosslessFabricModel", "laysWaits", "(Z)V"⟩) ∈ lw_all := lw_g (lw_at lw_ms 83 rfl) rfl
theorem qs84 : (Cond.selects "LosslessFabricModel" ⟨"LosslessFabricModel", "nextOf", "(II)I"⟩ ⟨"LosslessFabricModel", "nextOf", "(II)I"⟩) ∈ lw_all := lw_g (lw_at lw_ms 84 rfl) rfl
theorem qs85 : (Cond.selects "LosslessFabricModel" ⟨"LosslessFabricModel", "isWaiting", "(III)Z"⟩ ⟨"LosslessFabricModel", "isWaiting", "(III)Z"⟩) ∈ lw_all := lw_g (lw_at lw_ms 85 rfl) rfl
theorem qs86 : (Cond.selects "LosslessFabricModel" ⟨"LosslessFabricModel", "asked", "(I)Z"⟩ ⟨"LosslessFabricModel", "asked", "(I)Z"⟩) ∈ lw_all := lw_g (lw_at lw_ms 86 rfl) rfl
theorem qs87 : (Cond.selects "LosslessFabricModel" ⟨"LosslessFabricModel", "inCyclesNow", "()I"⟩ ⟨"LosslessFabricModel", "inCyclesNow", "()I"⟩) ∈ lw_all := lw_g (lw_at lw_ms 87 rfl) rfl
theorem qs88 : (Cond.selects "LosslessFabricModel" ⟨"LosslessFabricModel", "laysSteps", "(I)V"⟩ ⟨"LosslessFabricModel", "laysSteps", "(I)V"⟩) ∈ lw_all := lw_g (lw_at lw_ms 88 rfl) rfl
theorem qs89 : (Cond.selects "LosslessFabricModel" ⟨"LosslessFabricModel", "laysCycle", "()V"⟩ ⟨"LosslessFabricModel", "laysCycle", "()V"⟩) ∈ lw_all := lw_g (lw_at lw_ms 89 rfl) rfl
theorem qs90 : (Cond.selects "LosslessFabricModel" ⟨"LosslessFabricModel", "laysFair", "()V"⟩ ⟨"LosslessFabricModel", "laysFair", "()V"⟩) ∈ lw_all := lw_g (lw_at lw_ms 90 rfl) rfl
theorem qs91 : (Cond.selects "LosslessFabricModel" ⟨"LosslessFabricModel", "leftOf", "(I)I"⟩ ⟨"LosslessFabricModel", "leftOf", "(I)I"⟩) ∈ lw_all := lw_g (lw_at lw_ms 91 rfl) rfl
theorem qs92 : (Cond.selects "LosslessFabricModel" ⟨"LosslessFabricModel", "tells", "(JJ)V"⟩ ⟨"LosslessFabricModel", "tells", "(JJ)V"⟩) ∈ lw_all := lw_g (lw_at lw_ms 92 rfl) rfl
theorem qs93 : (Cond.selects "LosslessFabricModel" ⟨"LosslessFabricModel", "stops", "(JJ)V"⟩ ⟨"LosslessFabricModel", "stops", "(JJ)V"⟩) ∈ lw_all := lw_g (lw_at lw_ms 93 rfl) rfl
theorem qs94 : (Cond.selects "LosslessFabricModel" ⟨"LosslessFabricModel", "isStalled", "()Z"⟩ ⟨"LosslessFabricModel", "isStalled", "()Z"⟩) ∈ lw_all := lw_g (lw_at lw_ms 94 rfl) rfl
theorem qs95 : (Cond.selects "LosslessFabricModel" ⟨"LosslessFabricModel", "isEmpty", "()Z"⟩ ⟨"LosslessFabricModel", "isEmpty", "()Z"⟩) ∈ lw_all := lw_g (lw_at lw_ms 95 rfl) rfl
theorem qs96 : (Cond.selects "LosslessFabricModel" ⟨"LosslessFabricModel", "sumOf", "(I)I"⟩ ⟨"LosslessFabricModel", "sumOf", "(I)I"⟩) ∈ lw_all := lw_g (lw_at lw_ms 96 rfl) rfl
theorem qs97 : (Cond.selects "LosslessFabricModel" ⟨"LosslessFabricModel", "lostAll", "()I"⟩ ⟨"LosslessFabricModel", "lostAll", "()I"⟩) ∈ lw_all := lw_g (lw_at lw_ms 97 rfl) rfl
theorem qs98 : (Cond.selects "LosslessFabricModel" ⟨"LosslessFabricModel", "draw", "(I)I"⟩ ⟨"LosslessFabricModel", "draw", "(I)I"⟩) ∈ lw_all := lw_g (lw_at lw_ms 98 rfl) rfl
theorem qs99 : (Cond.selects "LosslessFabricModel" ⟨"LosslessFabricModel", "askedMany", "()I"⟩ ⟨"LosslessFabricModel", "askedMany", "()I"⟩) ∈ lw_all := lw_g (lw_at lw_ms 99 rfl) rfl
