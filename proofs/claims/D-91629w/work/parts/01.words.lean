-- ===== PART A: goes FIRST, ahead of the names: the tables' words, and 'selects' of the private methods out of them =====
/-- a private method of a class that the tables say can be made, by its rows of tables_1 -/
def lw_okq (q : MethodName × Nat) : Prop := (q.1.cls ≠ "java/lang/invoke/MethodHandle" ∧ q.1.cls ≠ "java/lang/invoke/VarHandle") ∧ Cond.instantiable q.1.cls q.2 ∈ tables_1 ∧ Cond.privateMethod q.1 ∈ tables_1 ∧ Cond.instanceMethod q.1 ∈ tables_1
set_option maxRecDepth 100000
theorem lw_t1 {w : Cond} (h : w ∈ tables_1_1) : w ∈ tables_1 := List.mem_append_left _ h
theorem lw_t2 {w : Cond} (h : w ∈ tables_1_2) : w ∈ tables_1 := List.mem_append_right _ (List.mem_append_left _ h)
theorem lw_t3 {w : Cond} (h : w ∈ tables_1_3) : w ∈ tables_1 := List.mem_append_right _ (List.mem_append_right _ (List.mem_append_left _ h))
theorem lw_t4 {w : Cond} (h : w ∈ tables_1_4) : w ∈ tables_1 := List.mem_append_right _ (List.mem_append_right _ (List.mem_append_right _ (List.mem_append_left _ h)))
theorem lw_t5 {w : Cond} (h : w ∈ tables_1_5) : w ∈ tables_1 := List.mem_append_right _ (List.mem_append_right _ (List.mem_append_right _ (List.mem_append_right _ (List.mem_append_left _ h))))
theorem lw_t6 {w : Cond} (h : w ∈ tables_1_6) : w ∈ tables_1 := List.mem_append_right _ (List.mem_append_right _ (List.mem_append_right _ (List.mem_append_right _ (List.mem_append_right _ (List.mem_append_left _ h)))))
theorem lw_t7 {w : Cond} (h : w ∈ tables_1_7) : w ∈ tables_1 := List.mem_append_right _ (List.mem_append_right _ (List.mem_append_right _ (List.mem_append_right _ (List.mem_append_right _ (List.mem_append_right _ (List.mem_append_left _ h))))))
theorem lw_t8 {w : Cond} (h : w ∈ tables_1_8) : w ∈ tables_1 := List.mem_append_right _ (List.mem_append_right _ (List.mem_append_right _ (List.mem_append_right _ (List.mem_append_right _ (List.mem_append_right _ (List.mem_append_right _ (List.mem_append_left _ h)))))))
theorem lw_t9 {w : Cond} (h : w ∈ tables_1_9) : w ∈ tables_1 := List.mem_append_right _ (List.mem_append_right _ (List.mem_append_right _ (List.mem_append_right _ (List.mem_append_right _ (List.mem_append_right _ (List.mem_append_right _ (List.mem_append_right _ (List.mem_append_left _ h))))))))
theorem lw_t10 {w : Cond} (h : w ∈ tables_1_10) : w ∈ tables_1 := List.mem_append_right _ (List.mem_append_right _ (List.mem_append_right _ (List.mem_append_right _ (List.mem_append_right _ (List.mem_append_right _ (List.mem_append_right _ (List.mem_append_right _ (List.mem_append_right _ (List.mem_append_left _ h)))))))))
theorem lw_t11 {w : Cond} (h : w ∈ tables_1_11) : w ∈ tables_1 := List.mem_append_right _ (List.mem_append_right _ (List.mem_append_right _ (List.mem_append_right _ (List.mem_append_right _ (List.mem_append_right _ (List.mem_append_right _ (List.mem_append_right _ (List.mem_append_right _ (List.mem_append_right _ h)))))))))
theorem lw_p0 : lw_okq (⟨"FastPlane$Reader", "here", "(I)I"⟩, 7) := ⟨⟨by decide +kernel, by decide +kernel⟩, lw_t2 (List.mem_of_getElem? (i := 105) rfl), lw_t2 (List.mem_of_getElem? (i := 103) rfl), lw_t2 (List.mem_of_getElem? (i := 104) rfl)⟩
theorem lw_p1 : lw_okq (⟨"FastPlane$Reader", "isLetter", "(I)Z"⟩, 7) := ⟨⟨by decide +kernel, by decide +kernel⟩, lw_t2 (List.mem_of_getElem? (i := 105) rfl), lw_t2 (List.mem_of_getElem? (i := 108) rfl), lw_t2 (List.mem_of_getElem? (i := 109) rfl)⟩
theorem lw_p2 : lw_okq (⟨"FastPlane$Reader", "isDigit", "(I)Z"⟩, 7) := ⟨⟨by decide +kernel, by decide +kernel⟩, lw_t2 (List.mem_of_getElem? (i := 105) rfl), lw_t3 (List.mem_of_getElem? (i := 61) rfl), lw_t3 (List.mem_of_getElem? (i := 62) rfl)⟩
theorem lw_p3 : lw_okq (⟨"FastPlane$MachineReader", "part", "()V"⟩, 9) := ⟨⟨by decide +kernel, by decide +kernel⟩, lw_t2 (List.mem_of_getElem? (i := 37) rfl), lw_t3 (List.mem_of_getElem? (i := 151) rfl), lw_t3 (List.mem_of_getElem? (i := 152) rfl)⟩
theorem lw_p4 : lw_okq (⟨"java/lang/Throwable", "fillInStackTrace", "(I)Ljava/lang/Throwable;"⟩, 6) := ⟨⟨by decide +kernel, by decide +kernel⟩, lw_t4 (List.mem_of_getElem? (i := 25) rfl), lw_t4 (List.mem_of_getElem? (i := 23) rfl), lw_t4 (List.mem_of_getElem? (i := 24) rfl)⟩
theorem lw_p5 : lw_okq (⟨"java/util/ArrayList", "add", "(Ljava/lang/Object;[Ljava/lang/Object;I)V"⟩, 3) := ⟨⟨by decide +kernel, by decide +kernel⟩, lw_t1 (List.mem_of_getElem? (i := 59) rfl), lw_t4 (List.mem_of_getElem? (i := 180) rfl), lw_t4 (List.mem_of_getElem? (i := 181) rfl)⟩
theorem lw_p6 : lw_okq (⟨"java/util/ArrayList", "grow", "()[Ljava/lang/Object;"⟩, 3) := ⟨⟨by decide +kernel, by decide +kernel⟩, lw_t1 (List.mem_of_getElem? (i := 59) rfl), lw_t4 (List.mem_of_getElem? (i := 184) rfl), lw_t4 (List.mem_of_getElem? (i := 185) rfl)⟩
theorem lw_p7 : lw_okq (⟨"java/util/ArrayList", "grow", "(I)[Ljava/lang/Object;"⟩, 3) := ⟨⟨by decide +kernel, by decide +kernel⟩, lw_t1 (List.mem_of_getElem? (i := 59) rfl), lw_t4 (List.mem_of_getElem? (i := 188) rfl), lw_t4 (List.mem_of_getElem? (i := 189) rfl)⟩
theorem lw_p8 : lw_okq (⟨"FastPlane$MachineReader", "link", "(Ljava/util/ArrayList;Ljava/lang/String;I)V"⟩, 9) := ⟨⟨by decide +kernel, by decide +kernel⟩, lw_t2 (List.mem_of_getElem? (i := 37) rfl), lw_t4 (List.mem_of_getElem? (i := 234) rfl), lw_t4 (List.mem_of_getElem? (i := 235) rfl)⟩
theorem lw_p9 : lw_okq (⟨"FastPlane$MachineReader", "named", "(LFastPlane$Part;)LFastPlane$Part;"⟩, 9) := ⟨⟨by decide +kernel, by decide +kernel⟩, lw_t2 (List.mem_of_getElem? (i := 37) rfl), lw_t4 (List.mem_of_getElem? (i := 238) rfl), lw_t4 (List.mem_of_getElem? (i := 239) rfl)⟩
theorem lw_p10 : lw_okq (⟨"FastPlane$MachineReader", "tank", "()V"⟩, 9) := ⟨⟨by decide +kernel, by decide +kernel⟩, lw_t2 (List.mem_of_getElem? (i := 37) rfl), lw_t5 (List.mem_of_getElem? (i := 24) rfl), lw_t5 (List.mem_of_getElem? (i := 25) rfl)⟩
theorem lw_p11 : lw_okq (⟨"FastPlane$MachineReader", "row", "()V"⟩, 9) := ⟨⟨by decide +kernel, by decide +kernel⟩, lw_t2 (List.mem_of_getElem? (i := 37) rfl), lw_t5 (List.mem_of_getElem? (i := 31) rfl), lw_t5 (List.mem_of_getElem? (i := 32) rfl)⟩
theorem lw_p12 : lw_okq (⟨"FastPlane", "read", "(LFastPlane$Wrong;)V"⟩, 34) := ⟨⟨by decide +kernel, by decide +kernel⟩, lw_t1 (List.mem_of_getElem? (i := 45) rfl), lw_t5 (List.mem_of_getElem? (i := 57) rfl), lw_t5 (List.mem_of_getElem? (i := 58) rfl)⟩
theorem lw_p13 : lw_okq (⟨"FastPlane$TreatyReader", "lineHere", "()I"⟩, 12) := ⟨⟨by decide +kernel, by decide +kernel⟩, lw_t5 (List.mem_of_getElem? (i := 71) rfl), lw_t5 (List.mem_of_getElem? (i := 109) rfl), lw_t5 (List.mem_of_getElem? (i := 110) rfl)⟩
theorem lw_p14 : lw_okq (⟨"FastPlane$TreatyReader", "either", "()LFastPlane$Ex;"⟩, 12) := ⟨⟨by decide +kernel, by decide +kernel⟩, lw_t5 (List.mem_of_getElem? (i := 71) rfl), lw_t5 (List.mem_of_getElem? (i := 127) rfl), lw_t5 (List.mem_of_getElem? (i := 128) rfl)⟩
theorem lw_p15 : lw_okq (⟨"FastPlane$TreatyReader", "both", "()LFastPlane$Ex;"⟩, 12) := ⟨⟨by decide +kernel, by decide +kernel⟩, lw_t5 (List.mem_of_getElem? (i := 71) rfl), lw_t5 (List.mem_of_getElem? (i := 133) rfl), lw_t5 (List.mem_of_getElem? (i := 134) rfl)⟩
def lw_privs_1 : List (MethodName × Nat) := [(⟨"FastPlane$Reader", "here", "(I)I"⟩, 7), (⟨"FastPlane$Reader", "isLetter", "(I)Z"⟩, 7), (⟨"FastPlane$Reader", "isDigit", "(I)Z"⟩, 7), (⟨"FastPlane$MachineReader", "part", "()V"⟩, 9), (⟨"java/lang/Throwable", "fillInStackTrace", "(I)Ljava/lang/Throwable;"⟩, 6), (⟨"java/util/ArrayList", "add", "(Ljava/lang/Object;[Ljava/lang/Object;I)V"⟩, 3), (⟨"java/util/ArrayList", "grow", "()[Ljava/lang/Object;"⟩, 3), (⟨"java/util/ArrayList", "grow", "(I)[Ljava/lang/Object;"⟩, 3), (⟨"FastPlane$MachineReader", "link", "(Ljava/util/ArrayList;Ljava/lang/String;I)V"⟩, 9), (⟨"FastPlane$MachineReader", "named", "(LFastPlane$Part;)LFastPlane$Part;"⟩, 9), (⟨"FastPlane$MachineReader", "tank", "()V"⟩, 9), (⟨"FastPlane$MachineReader", "row", "()V"⟩, 9), (⟨"FastPlane", "read", "(LFastPlane$Wrong;)V"⟩, 34), (⟨"FastPlane$TreatyReader", "lineHere", "()I"⟩, 12), (⟨"FastPlane$TreatyReader", "either", "()LFastPlane$Ex;"⟩, 12), (⟨"FastPlane$TreatyReader", "both", "()LFastPlane$Ex;"⟩, 12)]
theorem lw_r1 : ∀ q ∈ lw_privs_1, lw_okq q := List.forall_mem_cons.mpr ⟨lw_p0, List.forall_mem_cons.mpr ⟨lw_p1, List.forall_mem_cons.mpr ⟨lw_p2, List.forall_mem_cons.mpr ⟨lw_p3, List.forall_mem_cons.mpr ⟨lw_p4, List.forall_mem_cons.mpr ⟨lw_p5, List.forall_mem_cons.mpr ⟨lw_p6, List.forall_mem_cons.mpr ⟨lw_p7, List.forall_mem_cons.mpr ⟨lw_p8, List.forall_mem_cons.mpr ⟨lw_p9, List.forall_mem_cons.mpr ⟨lw_p10, List.forall_mem_cons.mpr ⟨lw_p11, List.forall_mem_cons.mpr ⟨lw_p12, List.forall_mem_cons.mpr ⟨lw_p13, List.forall_mem_cons.mpr ⟨lw_p14, List.forall_mem_cons.mpr ⟨lw_p15, fun _ h => absurd h List.not_mem_nil⟩⟩⟩⟩⟩⟩⟩⟩⟩⟩⟩⟩⟩⟩⟩⟩
theorem lw_p16 : lw_okq (⟨"FastPlane$TreatyReader", "one", "()LFastPlane$Ex;"⟩, 12) := ⟨⟨by decide +kernel, by decide +kernel⟩, lw_t5 (List.mem_of_getElem? (i := 71) rfl), lw_t5 (List.mem_of_getElem? (i := 137) rfl), lw_t5 (List.mem_of_getElem? (i := 138) rfl)⟩
theorem lw_p17 : lw_okq (⟨"FastPlane$TreatyReader", "deeper", "()V"⟩, 12) := ⟨⟨by decide +kernel, by decide +kernel⟩, lw_t5 (List.mem_of_getElem? (i := 71) rfl), lw_t5 (List.mem_of_getElem? (i := 142) rfl), lw_t5 (List.mem_of_getElem? (i := 143) rfl)⟩
theorem lw_p18 : lw_okq (⟨"FastPlane$TreatyReader", "sum", "()LFastPlane$Ex;"⟩, 12) := ⟨⟨by decide +kernel, by decide +kernel⟩, lw_t5 (List.mem_of_getElem? (i := 71) rfl), lw_t5 (List.mem_of_getElem? (i := 159) rfl), lw_t5 (List.mem_of_getElem? (i := 160) rfl)⟩
theorem lw_p19 : lw_okq (⟨"FastPlane$TreatyReader", "term", "()LFastPlane$Ex;"⟩, 12) := ⟨⟨by decide +kernel, by decide +kernel⟩, lw_t5 (List.mem_of_getElem? (i := 71) rfl), lw_t5 (List.mem_of_getElem? (i := 163) rfl), lw_t5 (List.mem_of_getElem? (i := 164) rfl)⟩
theorem lw_p20 : lw_okq (⟨"FastPlane$TreatyReader", "unit", "()LFastPlane$Ex;"⟩, 12) := ⟨⟨by decide +kernel, by decide +kernel⟩, lw_t5 (List.mem_of_getElem? (i := 71) rfl), lw_t5 (List.mem_of_getElem? (i := 167) rfl), lw_t5 (List.mem_of_getElem? (i := 168) rfl)⟩
theorem lw_p21 : lw_okq (⟨"FastPlane", "partAt", "(I)LFastPlane$Part;"⟩, 34) := ⟨⟨by decide +kernel, by decide +kernel⟩, lw_t1 (List.mem_of_getElem? (i := 45) rfl), lw_t6 (List.mem_of_getElem? (i := 49) rfl), lw_t6 (List.mem_of_getElem? (i := 50) rfl)⟩
theorem lw_p22 : lw_okq (⟨"FastPlane", "seekMend", "()V"⟩, 34) := ⟨⟨by decide +kernel, by decide +kernel⟩, lw_t1 (List.mem_of_getElem? (i := 45) rfl), lw_t6 (List.mem_of_getElem? (i := 96) rfl), lw_t6 (List.mem_of_getElem? (i := 97) rfl)⟩
theorem lw_p23 : lw_okq (⟨"FastPlane", "fitting", "(LFastPlane$Part;I)I"⟩, 34) := ⟨⟨by decide +kernel, by decide +kernel⟩, lw_t1 (List.mem_of_getElem? (i := 45) rfl), lw_t6 (List.mem_of_getElem? (i := 100) rfl), lw_t6 (List.mem_of_getElem? (i := 101) rfl)⟩
theorem lw_p24 : lw_okq (⟨"FastPlane", "mayLeave", "(III)Z"⟩, 34) := ⟨⟨by decide +kernel, by decide +kernel⟩, lw_t1 (List.mem_of_getElem? (i := 45) rfl), lw_t6 (List.mem_of_getElem? (i := 110) rfl), lw_t6 (List.mem_of_getElem? (i := 111) rfl)⟩
theorem lw_p25 : lw_okq (⟨"FastPlane", "mayFly", "(IIII)Z"⟩, 34) := ⟨⟨by decide +kernel, by decide +kernel⟩, lw_t1 (List.mem_of_getElem? (i := 45) rfl), lw_t6 (List.mem_of_getElem? (i := 154) rfl), lw_t6 (List.mem_of_getElem? (i := 155) rfl)⟩
theorem lw_p26 : lw_okq (⟨"FastPlane", "tell", "(ZLFastPlane$Fact;)I"⟩, 34) := ⟨⟨by decide +kernel, by decide +kernel⟩, lw_t1 (List.mem_of_getElem? (i := 45) rfl), lw_t6 (List.mem_of_getElem? (i := 193) rfl), lw_t6 (List.mem_of_getElem? (i := 194) rfl)⟩
theorem lw_p27 : lw_okq (⟨"FastPlane", "know", "(I)V"⟩, 34) := ⟨⟨by decide +kernel, by decide +kernel⟩, lw_t1 (List.mem_of_getElem? (i := 45) rfl), lw_t7 (List.mem_of_getElem? (i := 16) rfl), lw_t7 (List.mem_of_getElem? (i := 17) rfl)⟩
theorem lw_p28 : lw_okq (⟨"FastPlane", "costs", "(II)I"⟩, 34) := ⟨⟨by decide +kernel, by decide +kernel⟩, lw_t1 (List.mem_of_getElem? (i := 45) rfl), lw_t7 (List.mem_of_getElem? (i := 32) rfl), lw_t7 (List.mem_of_getElem? (i := 33) rfl)⟩
theorem lw_p29 : lw_okq (⟨"FastPlane", "overOf", "(II)I"⟩, 34) := ⟨⟨by decide +kernel, by decide +kernel⟩, lw_t1 (List.mem_of_getElem? (i := 45) rfl), lw_t7 (List.mem_of_getElem? (i := 50) rfl), lw_t7 (List.mem_of_getElem? (i := 51) rfl)⟩
theorem lw_p30 : lw_okq (⟨"FastPlane", "canPlan", "(III)Z"⟩, 34) := ⟨⟨by decide +kernel, by decide +kernel⟩, lw_t1 (List.mem_of_getElem? (i := 45) rfl), lw_t7 (List.mem_of_getElem? (i := 77) rfl), lw_t7 (List.mem_of_getElem? (i := 78) rfl)⟩
theorem lw_p31 : lw_okq (⟨"FastPlane", "fill", "(III)I"⟩, 34) := ⟨⟨by decide +kernel, by decide +kernel⟩, lw_t1 (List.mem_of_getElem? (i := 45) rfl), lw_t7 (List.mem_of_getElem? (i := 81) rfl), lw_t7 (List.mem_of_getElem? (i := 82) rfl)⟩
def lw_privs_2 : List (MethodName × Nat) := [(⟨"FastPlane$TreatyReader", "one", "()LFastPlane$Ex;"⟩, 12), (⟨"FastPlane$TreatyReader", "deeper", "()V"⟩, 12), (⟨"FastPlane$TreatyReader", "sum", "()LFastPlane$Ex;"⟩, 12), (⟨"FastPlane$TreatyReader", "term", "()LFastPlane$Ex;"⟩, 12), (⟨"FastPlane$TreatyReader", "unit", "()LFastPlane$Ex;"⟩, 12), (⟨"FastPlane", "partAt", "(I)LFastPlane$Part;"⟩, 34), (⟨"FastPlane", "seekMend", "()V"⟩, 34), (⟨"FastPlane", "fitting", "(LFastPlane$Part;I)I"⟩, 34), (⟨"FastPlane", "mayLeave", "(III)Z"⟩, 34), (⟨"FastPlane", "mayFly", "(IIII)Z"⟩, 34), (⟨"FastPlane", "tell", "(ZLFastPlane$Fact;)I"⟩, 34), (⟨"FastPlane", "know", "(I)V"⟩, 34), (⟨"FastPlane", "costs", "(II)I"⟩, 34), (⟨"FastPlane", "overOf", "(II)I"⟩, 34), (⟨"FastPlane", "canPlan", "(III)Z"⟩, 34), (⟨"FastPlane", "fill", "(III)I"⟩, 34)]
theorem lw_r2 : ∀ q ∈ lw_privs_2, lw_okq q := List.forall_mem_cons.mpr ⟨lw_p16, List.forall_mem_cons.mpr ⟨lw_p17, List.forall_mem_cons.mpr ⟨lw_p18, List.forall_mem_cons.mpr ⟨lw_p19, List.forall_mem_cons.mpr ⟨lw_p20, List.forall_mem_cons.mpr ⟨lw_p21, List.forall_mem_cons.mpr ⟨lw_p22, List.forall_mem_cons.mpr ⟨lw_p23, List.forall_mem_cons.mpr ⟨lw_p24, List.forall_mem_cons.mpr ⟨lw_p25, List.forall_mem_cons.mpr ⟨lw_p26, List.forall_mem_cons.mpr ⟨lw_p27, List.forall_mem_cons.mpr ⟨lw_p28, List.forall_mem_cons.mpr ⟨lw_p29, List.forall_mem_cons.mpr ⟨lw_p30, List.forall_mem_cons.mpr ⟨lw_p31, fun _ h => absurd h List.not_mem_nil⟩⟩⟩⟩⟩⟩⟩⟩⟩⟩⟩⟩⟩⟩⟩⟩
theorem lw_p32 : lw_okq (⟨"FastPlane", "worth", "(III)I"⟩, 34) := ⟨⟨by decide +kernel, by decide +kernel⟩, lw_t1 (List.mem_of_getElem? (i := 45) rfl), lw_t7 (List.mem_of_getElem? (i := 85) rfl), lw_t7 (List.mem_of_getElem? (i := 86) rfl)⟩
theorem lw_p33 : lw_okq (⟨"FastPlane", "by", "(III)I"⟩, 34) := ⟨⟨by decide +kernel, by decide +kernel⟩, lw_t1 (List.mem_of_getElem? (i := 45) rfl), lw_t7 (List.mem_of_getElem? (i := 89) rfl), lw_t7 (List.mem_of_getElem? (i := 90) rfl)⟩
theorem lw_p34 : lw_okq (⟨"FastPlane", "enter", "(IIII)V"⟩, 34) := ⟨⟨by decide +kernel, by decide +kernel⟩, lw_t1 (List.mem_of_getElem? (i := 45) rfl), lw_t7 (List.mem_of_getElem? (i := 108) rfl), lw_t7 (List.mem_of_getElem? (i := 109) rfl)⟩
theorem lw_p35 : lw_okq (⟨"FastPlane", "lapsing", "(III)I"⟩, 34) := ⟨⟨by decide +kernel, by decide +kernel⟩, lw_t1 (List.mem_of_getElem? (i := 45) rfl), lw_t7 (List.mem_of_getElem? (i := 120) rfl), lw_t7 (List.mem_of_getElem? (i := 121) rfl)⟩
theorem lw_p36 : lw_okq (⟨"FastPlane", "lay", "(IIIII)V"⟩, 34) := ⟨⟨by decide +kernel, by decide +kernel⟩, lw_t1 (List.mem_of_getElem? (i := 45) rfl), lw_t7 (List.mem_of_getElem? (i := 139) rfl), lw_t7 (List.mem_of_getElem? (i := 140) rfl)⟩
theorem lw_p37 : lw_okq (⟨"FastPlane", "secure", "()V"⟩, 34) := ⟨⟨by decide +kernel, by decide +kernel⟩, lw_t1 (List.mem_of_getElem? (i := 45) rfl), lw_t7 (List.mem_of_getElem? (i := 164) rfl), lw_t7 (List.mem_of_getElem? (i := 165) rfl)⟩
theorem lw_p38 : lw_okq (⟨"FastPlane", "canGoOn", "(IIIII)Z"⟩, 34) := ⟨⟨by decide +kernel, by decide +kernel⟩, lw_t1 (List.mem_of_getElem? (i := 45) rfl), lw_t7 (List.mem_of_getElem? (i := 171) rfl), lw_t7 (List.mem_of_getElem? (i := 172) rfl)⟩
theorem lw_p39 : lw_okq (⟨"FastPlane", "isSafe", "(IIIII)Z"⟩, 34) := ⟨⟨by decide +kernel, by decide +kernel⟩, lw_t1 (List.mem_of_getElem? (i := 45) rfl), lw_t7 (List.mem_of_getElem? (i := 175) rfl), lw_t7 (List.mem_of_getElem? (i := 176) rfl)⟩
theorem lw_p40 : lw_okq (⟨"FastPlane", "canWait", "(IIIII)Z"⟩, 34) := ⟨⟨by decide +kernel, by decide +kernel⟩, lw_t1 (List.mem_of_getElem? (i := 45) rfl), lw_t7 (List.mem_of_getElem? (i := 179) rfl), lw_t7 (List.mem_of_getElem? (i := 180) rfl)⟩
theorem lw_p41 : lw_okq (⟨"FastPlaneModel", "takeTape", "()V"⟩, 94) := ⟨⟨by decide +kernel, by decide +kernel⟩, lw_t7 (List.mem_of_getElem? (i := 196) rfl), lw_t9 (List.mem_of_getElem? (i := 12) rfl), lw_t9 (List.mem_of_getElem? (i := 13) rfl)⟩
theorem lw_p42 : lw_okq (⟨"FastPlaneModel", "next", "()V"⟩, 94) := ⟨⟨by decide +kernel, by decide +kernel⟩, lw_t7 (List.mem_of_getElem? (i := 196) rfl), lw_t9 (List.mem_of_getElem? (i := 16) rfl), lw_t9 (List.mem_of_getElem? (i := 17) rfl)⟩
theorem lw_p43 : lw_okq (⟨"FastPlaneModel", "sign", "(I)I"⟩, 94) := ⟨⟨by decide +kernel, by decide +kernel⟩, lw_t7 (List.mem_of_getElem? (i := 196) rfl), lw_t9 (List.mem_of_getElem? (i := 20) rfl), lw_t9 (List.mem_of_getElem? (i := 21) rfl)⟩
theorem lw_p44 : lw_okq (⟨"FastPlaneModel", "isGood", "()Z"⟩, 94) := ⟨⟨by decide +kernel, by decide +kernel⟩, lw_t7 (List.mem_of_getElem? (i := 196) rfl), lw_t9 (List.mem_of_getElem? (i := 70) rfl), lw_t9 (List.mem_of_getElem? (i := 71) rfl)⟩
theorem lw_p45 : lw_okq (⟨"FastPlaneModel", "readMachine", "()V"⟩, 94) := ⟨⟨by decide +kernel, by decide +kernel⟩, lw_t7 (List.mem_of_getElem? (i := 196) rfl), lw_t9 (List.mem_of_getElem? (i := 74) rfl), lw_t9 (List.mem_of_getElem? (i := 75) rfl)⟩
theorem lw_p46 : lw_okq (⟨"FastPlaneModel", "isWord", "(J)Z"⟩, 94) := ⟨⟨by decide +kernel, by decide +kernel⟩, lw_t7 (List.mem_of_getElem? (i := 196) rfl), lw_t9 (List.mem_of_getElem? (i := 78) rfl), lw_t9 (List.mem_of_getElem? (i := 79) rfl)⟩
theorem lw_p47 : lw_okq (⟨"FastPlaneModel", "isFull", "()Z"⟩, 94) := ⟨⟨by decide +kernel, by decide +kernel⟩, lw_t7 (List.mem_of_getElem? (i := 196) rfl), lw_t9 (List.mem_of_getElem? (i := 82) rfl), lw_t9 (List.mem_of_getElem? (i := 83) rfl)⟩
def lw_privs_3 : List (MethodName × Nat) := [(⟨"FastPlane", "worth", "(III)I"⟩, 34), (⟨"FastPlane", "by", "(III)I"⟩, 34), (⟨"FastPlane", "enter", "(IIII)V"⟩, 34), (⟨"FastPlane", "lapsing", "(III)I"⟩, 34), (⟨"FastPlane", "lay", "(IIIII)V"⟩, 34), (⟨"FastPlane", "secure", "()V"⟩, 34), (⟨"FastPlane", "canGoOn", "(IIIII)Z"⟩, 34), (⟨"FastPlane", "isSafe", "(IIIII)Z"⟩, 34), (⟨"FastPlane", "canWait", "(IIIII)Z"⟩, 34), (⟨"FastPlaneModel", "takeTape", "()V"⟩, 94), (⟨"FastPlaneModel", "next", "()V"⟩, 94), (⟨"FastPlaneModel", "sign", "(I)I"⟩, 94), (⟨"FastPlaneModel", "isGood", "()Z"⟩, 94), (⟨"FastPlaneModel", "readMachine", "()V"⟩, 94), (⟨"FastPlaneModel", "isWord", "(J)Z"⟩, 94), (⟨"FastPlaneModel", "isFull", "()Z"⟩, 94)]
theorem lw_r3 : ∀ q ∈ lw_privs_3, lw_okq q := List.forall_mem_cons.mpr ⟨lw_p32, List.forall_mem_cons.mpr ⟨lw_p33, List.forall_mem_cons.mpr ⟨lw_p34, List.forall_mem_cons.mpr ⟨lw_p35, List.forall_mem_cons.mpr ⟨lw_p36, List.forall_mem_cons.mpr ⟨lw_p37, List.forall_mem_cons.mpr ⟨lw_p38, List.forall_mem_cons.mpr ⟨lw_p39, List.forall_mem_cons.mpr ⟨lw_p40, List.forall_mem_cons.mpr ⟨lw_p41, List.forall_mem_cons.mpr ⟨lw_p42, List.forall_mem_cons.mpr ⟨lw_p43, List.forall_mem_cons.mpr ⟨lw_p44, List.forall_mem_cons.mpr ⟨lw_p45, List.forall_mem_cons.mpr ⟨lw_p46, List.forall_mem_cons.mpr ⟨lw_p47, fun _ h => absurd h List.not_mem_nil⟩⟩⟩⟩⟩⟩⟩⟩⟩⟩⟩⟩⟩⟩⟩⟩
theorem lw_p48 : lw_okq (⟨"FastPlaneModel", "wrong", "()V"⟩, 94) := ⟨⟨by decide +kernel, by decide +kernel⟩, lw_t7 (List.mem_of_getElem? (i := 196) rfl), lw_t9 (List.mem_of_getElem? (i := 86) rfl), lw_t9 (List.mem_of_getElem? (i := 87) rfl)⟩
theorem lw_p49 : lw_okq (⟨"FastPlaneModel", "fails", "(II)V"⟩, 94) := ⟨⟨by decide +kernel, by decide +kernel⟩, lw_t7 (List.mem_of_getElem? (i := 196) rfl), lw_t9 (List.mem_of_getElem? (i := 90) rfl), lw_t9 (List.mem_of_getElem? (i := 91) rfl)⟩
theorem lw_p50 : lw_okq (⟨"FastPlaneModel", "readPart", "()V"⟩, 94) := ⟨⟨by decide +kernel, by decide +kernel⟩, lw_t7 (List.mem_of_getElem? (i := 196) rfl), lw_t9 (List.mem_of_getElem? (i := 94) rfl), lw_t9 (List.mem_of_getElem? (i := 95) rfl)⟩
theorem lw_p51 : lw_okq (⟨"FastPlaneModel", "must", "(Z)V"⟩, 94) := ⟨⟨by decide +kernel, by decide +kernel⟩, lw_t7 (List.mem_of_getElem? (i := 196) rfl), lw_t9 (List.mem_of_getElem? (i := 98) rfl), lw_t9 (List.mem_of_getElem? (i := 99) rfl)⟩
theorem lw_p52 : lw_okq (⟨"FastPlaneModel", "numeral", "(II)I"⟩, 94) := ⟨⟨by decide +kernel, by decide +kernel⟩, lw_t7 (List.mem_of_getElem? (i := 196) rfl), lw_t9 (List.mem_of_getElem? (i := 102) rfl), lw_t9 (List.mem_of_getElem? (i := 103) rfl)⟩
theorem lw_p53 : lw_okq (⟨"FastPlaneModel", "readJoin", "()V"⟩, 94) := ⟨⟨by decide +kernel, by decide +kernel⟩, lw_t7 (List.mem_of_getElem? (i := 196) rfl), lw_t9 (List.mem_of_getElem? (i := 106) rfl), lw_t9 (List.mem_of_getElem? (i := 107) rfl)⟩
theorem lw_p54 : lw_okq (⟨"FastPlaneModel", "partNamed", "(I)I"⟩, 94) := ⟨⟨by decide +kernel, by decide +kernel⟩, lw_t7 (List.mem_of_getElem? (i := 196) rfl), lw_t9 (List.mem_of_getElem? (i := 110) rfl), lw_t9 (List.mem_of_getElem? (i := 111) rfl)⟩
theorem lw_p55 : lw_okq (⟨"FastPlaneModel", "readMoves", "()V"⟩, 94) := ⟨⟨by decide +kernel, by decide +kernel⟩, lw_t7 (List.mem_of_getElem? (i := 196) rfl), lw_t9 (List.mem_of_getElem? (i := 114) rfl), lw_t9 (List.mem_of_getElem? (i := 115) rfl)⟩
theorem lw_p56 : lw_okq (⟨"FastPlaneModel", "readTank", "()V"⟩, 94) := ⟨⟨by decide +kernel, by decide +kernel⟩, lw_t7 (List.mem_of_getElem? (i := 196) rfl), lw_t9 (List.mem_of_getElem? (i := 118) rfl), lw_t9 (List.mem_of_getElem? (i := 119) rfl)⟩
theorem lw_p57 : lw_okq (⟨"FastPlaneModel", "readRow", "()V"⟩, 94) := ⟨⟨by decide +kernel, by decide +kernel⟩, lw_t7 (List.mem_of_getElem? (i := 196) rfl), lw_t9 (List.mem_of_getElem? (i := 122) rfl), lw_t9 (List.mem_of_getElem? (i := 123) rfl)⟩
theorem lw_p58 : lw_okq (⟨"FastPlaneModel", "is", "(I)Z"⟩, 94) := ⟨⟨by decide +kernel, by decide +kernel⟩, lw_t7 (List.mem_of_getElem? (i := 196) rfl), lw_t9 (List.mem_of_getElem? (i := 126) rfl), lw_t9 (List.mem_of_getElem? (i := 127) rfl)⟩
theorem lw_p59 : lw_okq (⟨"FastPlaneModel", "isPart", "(I)Z"⟩, 94) := ⟨⟨by decide +kernel, by decide +kernel⟩, lw_t7 (List.mem_of_getElem? (i := 196) rfl), lw_t9 (List.mem_of_getElem? (i := 138) rfl), lw_t9 (List.mem_of_getElem? (i := 139) rfl)⟩
theorem lw_p60 : lw_okq (⟨"FastPlaneModel", "parts", "()I"⟩, 94) := ⟨⟨by decide +kernel, by decide +kernel⟩, lw_t7 (List.mem_of_getElem? (i := 196) rfl), lw_t9 (List.mem_of_getElem? (i := 142) rfl), lw_t9 (List.mem_of_getElem? (i := 143) rfl)⟩
theorem lw_p61 : lw_okq (⟨"FastPlaneModel", "mmOf", "(II)I"⟩, 94) := ⟨⟨by decide +kernel, by decide +kernel⟩, lw_t7 (List.mem_of_getElem? (i := 196) rfl), lw_t9 (List.mem_of_getElem? (i := 149) rfl), lw_t9 (List.mem_of_getElem? (i := 150) rfl)⟩
theorem lw_p62 : lw_okq (⟨"FastPlaneModel", "joins", "()I"⟩, 94) := ⟨⟨by decide +kernel, by decide +kernel⟩, lw_t7 (List.mem_of_getElem? (i := 196) rfl), lw_t9 (List.mem_of_getElem? (i := 158) rfl), lw_t9 (List.mem_of_getElem? (i := 159) rfl)⟩
theorem lw_p63 : lw_okq (⟨"FastPlaneModel", "fits", "(II)Z"⟩, 94) := ⟨⟨by decide +kernel, by decide +kernel⟩, lw_t7 (List.mem_of_getElem? (i := 196) rfl), lw_t9 (List.mem_of_getElem? (i := 162) rfl), lw_t9 (List.mem_of_getElem? (i := 163) rfl)⟩
def lw_privs_4 : List (MethodName × Nat) := [(⟨"FastPlaneModel", "wrong", "()V"⟩, 94), (⟨"FastPlaneModel", "fails", "(II)V"⟩, 94), (⟨"FastPlaneModel", "readPart", "()V"⟩, 94), (⟨"FastPlaneModel", "must", "(Z)V"⟩, 94), (⟨"FastPlaneModel", "numeral", "(II)I"⟩, 94), (⟨"FastPlaneModel", "readJoin", "()V"⟩, 94), (⟨"FastPlaneModel", "partNamed", "(I)I"⟩, 94), (⟨"FastPlaneModel", "readMoves", "()V"⟩, 94), (⟨"FastPlaneModel", "readTank", "()V"⟩, 94), (⟨"FastPlaneModel", "readRow", "()V"⟩, 94), (⟨"FastPlaneModel", "is", "(I)Z"⟩, 94), (⟨"FastPlaneModel", "isPart", "(I)Z"⟩, 94), (⟨"FastPlaneModel", "parts", "()I"⟩, 94), (⟨"FastPlaneModel", "mmOf", "(II)I"⟩, 94), (⟨"FastPlaneModel", "joins", "()I"⟩, 94), (⟨"FastPlaneModel", "fits", "(II)Z"⟩, 94)]
theorem lw_r4 : ∀ q ∈ lw_privs_4, lw_okq q := List.forall_mem_cons.mpr ⟨lw_p48, List.forall_mem_cons.mpr ⟨lw_p49, List.forall_mem_cons.mpr ⟨lw_p50, List.forall_mem_cons.mpr ⟨lw_p51, List.forall_mem_cons.mpr ⟨lw_p52, List.forall_mem_cons.mpr ⟨lw_p53, List.forall_mem_cons.mpr ⟨lw_p54, List.forall_mem_cons.mpr ⟨lw_p55, List.forall_mem_cons.mpr ⟨lw_p56, List.forall_mem_cons.mpr ⟨lw_p57, List.forall_mem_cons.mpr ⟨lw_p58, List.forall_mem_cons.mpr ⟨lw_p59, List.forall_mem_cons.mpr ⟨lw_p60, List.forall_mem_cons.mpr ⟨lw_p61, List.forall_mem_cons.mpr ⟨lw_p62, List.forall_mem_cons.mpr ⟨lw_p63, fun _ h => absurd h List.not_mem_nil⟩⟩⟩⟩⟩⟩⟩⟩⟩⟩⟩⟩⟩⟩⟩⟩
theorem lw_p64 : lw_okq (⟨"FastPlaneModel", "fitsBy", "(III)Z"⟩, 94) := ⟨⟨by decide +kernel, by decide +kernel⟩, lw_t7 (List.mem_of_getElem? (i := 196) rfl), lw_t9 (List.mem_of_getElem? (i := 166) rfl), lw_t9 (List.mem_of_getElem? (i := 167) rfl)⟩
theorem lw_p65 : lw_okq (⟨"FastPlaneModel", "seekMend", "()V"⟩, 94) := ⟨⟨by decide +kernel, by decide +kernel⟩, lw_t7 (List.mem_of_getElem? (i := 196) rfl), lw_t9 (List.mem_of_getElem? (i := 178) rfl), lw_t9 (List.mem_of_getElem? (i := 179) rfl)⟩
theorem lw_p66 : lw_okq (⟨"FastPlaneModel", "fitsWith", "(II)I"⟩, 94) := ⟨⟨by decide +kernel, by decide +kernel⟩, lw_t7 (List.mem_of_getElem? (i := 196) rfl), lw_t9 (List.mem_of_getElem? (i := 182) rfl), lw_t9 (List.mem_of_getElem? (i := 183) rfl)⟩
theorem lw_p67 : lw_okq (⟨"FastPlaneModel", "readTreaty", "()V"⟩, 94) := ⟨⟨by decide +kernel, by decide +kernel⟩, lw_t7 (List.mem_of_getElem? (i := 196) rfl), lw_t9 (List.mem_of_getElem? (i := 193) rfl), lw_t9 (List.mem_of_getElem? (i := 194) rfl)⟩
theorem lw_p68 : lw_okq (⟨"FastPlaneModel", "e", "()V"⟩, 94) := ⟨⟨by decide +kernel, by decide +kernel⟩, lw_t7 (List.mem_of_getElem? (i := 196) rfl), lw_t9 (List.mem_of_getElem? (i := 197) rfl), lw_t9 (List.mem_of_getElem? (i := 198) rfl)⟩
theorem lw_p69 : lw_okq (⟨"FastPlaneModel", "put", "(II)V"⟩, 94) := ⟨⟨by decide +kernel, by decide +kernel⟩, lw_t7 (List.mem_of_getElem? (i := 196) rfl), lw_t9 (List.mem_of_getElem? (i := 201) rfl), lw_t9 (List.mem_of_getElem? (i := 202) rfl)⟩
theorem lw_p70 : lw_okq (⟨"FastPlaneModel", "unit", "()Z"⟩, 94) := ⟨⟨by decide +kernel, by decide +kernel⟩, lw_t7 (List.mem_of_getElem? (i := 196) rfl), lw_t9 (List.mem_of_getElem? (i := 205) rfl), lw_t9 (List.mem_of_getElem? (i := 206) rfl)⟩
theorem lw_p71 : lw_okq (⟨"FastPlaneModel", "wordHere", "()I"⟩, 94) := ⟨⟨by decide +kernel, by decide +kernel⟩, lw_t7 (List.mem_of_getElem? (i := 196) rfl), lw_t9 (List.mem_of_getElem? (i := 209) rfl), lw_t9 (List.mem_of_getElem? (i := 210) rfl)⟩
theorem lw_p72 : lw_okq (⟨"FastPlaneModel", "mayAsk", "(I)Z"⟩, 94) := ⟨⟨by decide +kernel, by decide +kernel⟩, lw_t7 (List.mem_of_getElem? (i := 196) rfl), lw_t9 (List.mem_of_getElem? (i := 213) rfl), lw_t9 (List.mem_of_getElem? (i := 214) rfl)⟩
theorem lw_p73 : lw_okq (⟨"FastPlaneModel", "step", "(II)V"⟩, 94) := ⟨⟨by decide +kernel, by decide +kernel⟩, lw_t7 (List.mem_of_getElem? (i := 196) rfl), lw_t9 (List.mem_of_getElem? (i := 217) rfl), lw_t9 (List.mem_of_getElem? (i := 218) rfl)⟩
theorem lw_p74 : lw_okq (⟨"FastPlaneModel", "behind", "()Z"⟩, 94) := ⟨⟨by decide +kernel, by decide +kernel⟩, lw_t7 (List.mem_of_getElem? (i := 196) rfl), lw_t9 (List.mem_of_getElem? (i := 221) rfl), lw_t9 (List.mem_of_getElem? (i := 222) rfl)⟩
theorem lw_p75 : lw_okq (⟨"FastPlaneModel", "rankHere", "()I"⟩, 94) := ⟨⟨by decide +kernel, by decide +kernel⟩, lw_t7 (List.mem_of_getElem? (i := 196) rfl), lw_t9 (List.mem_of_getElem? (i := 225) rfl), lw_t9 (List.mem_of_getElem? (i := 226) rfl)⟩
theorem lw_p76 : lw_okq (⟨"FastPlaneModel", "isCompared", "()Z"⟩, 94) := ⟨⟨by decide +kernel, by decide +kernel⟩, lw_t7 (List.mem_of_getElem? (i := 196) rfl), lw_t9 (List.mem_of_getElem? (i := 229) rfl), lw_t9 (List.mem_of_getElem? (i := 230) rfl)⟩
theorem lw_p77 : lw_okq (⟨"FastPlaneModel", "unlikeToFly", "(II)I"⟩, 94) := ⟨⟨by decide +kernel, by decide +kernel⟩, lw_t7 (List.mem_of_getElem? (i := 196) rfl), lw_t9 (List.mem_of_getElem? (i := 237) rfl), lw_t9 (List.mem_of_getElem? (i := 238) rfl)⟩
theorem lw_p78 : lw_okq (⟨"FastPlaneModel", "flies", "(IIII)Z"⟩, 94) := ⟨⟨by decide +kernel, by decide +kernel⟩, lw_t7 (List.mem_of_getElem? (i := 196) rfl), lw_t10 (List.mem_of_getElem? (i := 1) rfl), lw_t10 (List.mem_of_getElem? (i := 2) rfl)⟩
theorem lw_p79 : lw_okq (⟨"FastPlaneModel", "work", "(III)I"⟩, 94) := ⟨⟨by decide +kernel, by decide +kernel⟩, lw_t7 (List.mem_of_getElem? (i := 196) rfl), lw_t10 (List.mem_of_getElem? (i := 5) rfl), lw_t10 (List.mem_of_getElem? (i := 6) rfl)⟩
def lw_privs_5 : List (MethodName × Nat) := [(⟨"FastPlaneModel", "fitsBy", "(III)Z"⟩, 94), (⟨"FastPlaneModel", "seekMend", "()V"⟩, 94), (⟨"FastPlaneModel", "fitsWith", "(II)I"⟩, 94), (⟨"FastPlaneModel", "readTreaty", "()V"⟩, 94), (⟨"FastPlaneModel", "e", "()V"⟩, 94), (⟨"FastPlaneModel", "put", "(II)V"⟩, 94), (⟨"FastPlaneModel", "unit", "()Z"⟩, 94), (⟨"FastPlaneModel", "wordHere", "()I"⟩, 94), (⟨"FastPlaneModel", "mayAsk", "(I)Z"⟩, 94), (⟨"FastPlaneModel", "step", "(II)V"⟩, 94), (⟨"FastPlaneModel", "behind", "()Z"⟩, 94), (⟨"FastPlaneModel", "rankHere", "()I"⟩, 94), (⟨"FastPlaneModel", "isCompared", "()Z"⟩, 94), (⟨"FastPlaneModel", "unlikeToFly", "(II)I"⟩, 94), (⟨"FastPlaneModel", "flies", "(IIII)Z"⟩, 94), (⟨"FastPlaneModel", "work", "(III)I"⟩, 94)]
theorem lw_r5 : ∀ q ∈ lw_privs_5, lw_okq q := List.forall_mem_cons.mpr ⟨lw_p64, List.forall_mem_cons.mpr ⟨lw_p65, List.forall_mem_cons.mpr ⟨lw_p66, List.forall_mem_cons.mpr ⟨lw_p67, List.forall_mem_cons.mpr ⟨lw_p68, List.forall_mem_cons.mpr ⟨lw_p69, List.forall_mem_cons.mpr ⟨lw_p70, List.forall_mem_cons.mpr ⟨lw_p71, List.forall_mem_cons.mpr ⟨lw_p72, List.forall_mem_cons.mpr ⟨lw_p73, List.forall_mem_cons.mpr ⟨lw_p74, List.forall_mem_cons.mpr ⟨lw_p75, List.forall_mem_cons.mpr ⟨lw_p76, List.forall_mem_cons.mpr ⟨lw_p77, List.forall_mem_cons.mpr ⟨lw_p78, List.forall_mem_cons.mpr ⟨lw_p79, fun _ h => absurd h List.not_mem_nil⟩⟩⟩⟩⟩⟩⟩⟩⟩⟩⟩⟩⟩⟩⟩⟩
theorem lw_p80 : lw_okq (⟨"FastPlaneModel", "term", "(II)I"⟩, 94) := ⟨⟨by decide +kernel, by decide +kernel⟩, lw_t7 (List.mem_of_getElem? (i := 196) rfl), lw_t10 (List.mem_of_getElem? (i := 9) rfl), lw_t10 (List.mem_of_getElem? (i := 10) rfl)⟩
theorem lw_p81 : lw_okq (⟨"FastPlaneModel", "leavesBy", "(III)Z"⟩, 94) := ⟨⟨by decide +kernel, by decide +kernel⟩, lw_t7 (List.mem_of_getElem? (i := 196) rfl), lw_t10 (List.mem_of_getElem? (i := 16) rfl), lw_t10 (List.mem_of_getElem? (i := 17) rfl)⟩
theorem lw_p82 : lw_okq (⟨"FastPlaneModel", "tell", "(III)I"⟩, 94) := ⟨⟨by decide +kernel, by decide +kernel⟩, lw_t7 (List.mem_of_getElem? (i := 196) rfl), lw_t10 (List.mem_of_getElem? (i := 27) rfl), lw_t10 (List.mem_of_getElem? (i := 28) rfl)⟩
theorem lw_p83 : lw_okq (⟨"FastPlaneModel", "findMoves", "(I)V"⟩, 94) := ⟨⟨by decide +kernel, by decide +kernel⟩, lw_t7 (List.mem_of_getElem? (i := 196) rfl), lw_t10 (List.mem_of_getElem? (i := 53) rfl), lw_t10 (List.mem_of_getElem? (i := 54) rfl)⟩
theorem lw_p84 : lw_okq (⟨"FastPlaneModel", "counts", "(III)Z"⟩, 94) := ⟨⟨by decide +kernel, by decide +kernel⟩, lw_t7 (List.mem_of_getElem? (i := 196) rfl), lw_t10 (List.mem_of_getElem? (i := 58) rfl), lw_t10 (List.mem_of_getElem? (i := 59) rfl)⟩
theorem lw_p85 : lw_okq (⟨"FastPlaneModel", "costsOf", "(II)I"⟩, 94) := ⟨⟨by decide +kernel, by decide +kernel⟩, lw_t7 (List.mem_of_getElem? (i := 196) rfl), lw_t10 (List.mem_of_getElem? (i := 66) rfl), lw_t10 (List.mem_of_getElem? (i := 67) rfl)⟩
theorem lw_p86 : lw_okq (⟨"FastPlaneModel", "overOf", "(II)I"⟩, 94) := ⟨⟨by decide +kernel, by decide +kernel⟩, lw_t7 (List.mem_of_getElem? (i := 196) rfl), lw_t10 (List.mem_of_getElem? (i := 78) rfl), lw_t10 (List.mem_of_getElem? (i := 79) rfl)⟩
theorem lw_p87 : lw_okq (⟨"FastPlaneModel", "planOf", "(III)I"⟩, 94) := ⟨⟨by decide +kernel, by decide +kernel⟩, lw_t7 (List.mem_of_getElem? (i := 196) rfl), lw_t10 (List.mem_of_getElem? (i := 102) rfl), lw_t10 (List.mem_of_getElem? (i := 103) rfl)⟩
theorem lw_p88 : lw_okq (⟨"FastPlaneModel", "isFuel", "(II)Z"⟩, 94) := ⟨⟨by decide +kernel, by decide +kernel⟩, lw_t7 (List.mem_of_getElem? (i := 196) rfl), lw_t10 (List.mem_of_getElem? (i := 106) rfl), lw_t10 (List.mem_of_getElem? (i := 107) rfl)⟩
theorem lw_p89 : lw_okq (⟨"FastPlaneModel", "tanks", "()I"⟩, 94) := ⟨⟨by decide +kernel, by decide +kernel⟩, lw_t7 (List.mem_of_getElem? (i := 196) rfl), lw_t10 (List.mem_of_getElem? (i := 110) rfl), lw_t10 (List.mem_of_getElem? (i := 111) rfl)⟩
theorem lw_p90 : lw_okq (⟨"FastPlaneModel", "fillPlan", "()V"⟩, 94) := ⟨⟨by decide +kernel, by decide +kernel⟩, lw_t7 (List.mem_of_getElem? (i := 196) rfl), lw_t10 (List.mem_of_getElem? (i := 114) rfl), lw_t10 (List.mem_of_getElem? (i := 115) rfl)⟩
theorem lw_p91 : lw_okq (⟨"FastPlaneModel", "fillUp", "(I)V"⟩, 94) := ⟨⟨by decide +kernel, by decide +kernel⟩, lw_t7 (List.mem_of_getElem? (i := 196) rfl), lw_t10 (List.mem_of_getElem? (i := 118) rfl), lw_t10 (List.mem_of_getElem? (i := 119) rfl)⟩
theorem lw_p92 : lw_okq (⟨"FastPlaneModel", "bestMove", "(II)I"⟩, 94) := ⟨⟨by decide +kernel, by decide +kernel⟩, lw_t7 (List.mem_of_getElem? (i := 196) rfl), lw_t10 (List.mem_of_getElem? (i := 122) rfl), lw_t10 (List.mem_of_getElem? (i := 123) rfl)⟩
theorem lw_p93 : lw_okq (⟨"FastPlaneModel", "tryMove", "(IIIIII)I"⟩, 94) := ⟨⟨by decide +kernel, by decide +kernel⟩, lw_t7 (List.mem_of_getElem? (i := 196) rfl), lw_t10 (List.mem_of_getElem? (i := 126) rfl), lw_t10 (List.mem_of_getElem? (i := 127) rfl)⟩
theorem lw_p94 : lw_okq (⟨"FastPlaneModel", "stateNow", "()I"⟩, 94) := ⟨⟨by decide +kernel, by decide +kernel⟩, lw_t7 (List.mem_of_getElem? (i := 196) rfl), lw_t10 (List.mem_of_getElem? (i := 130) rfl), lw_t10 (List.mem_of_getElem? (i := 131) rfl)⟩
theorem lw_p95 : lw_okq (⟨"FastPlaneModel", "enter", "(IIIIIII)V"⟩, 94) := ⟨⟨by decide +kernel, by decide +kernel⟩, lw_t7 (List.mem_of_getElem? (i := 196) rfl), lw_t10 (List.mem_of_getElem? (i := 142) rfl), lw_t10 (List.mem_of_getElem? (i := 143) rfl)⟩
def lw_privs_6 : List (MethodName × Nat) := [(⟨"FastPlaneModel", "term", "(II)I"⟩, 94), (⟨"FastPlaneModel", "leavesBy", "(III)Z"⟩, 94), (⟨"FastPlaneModel", "tell", "(III)I"⟩, 94), (⟨"FastPlaneModel", "findMoves", "(I)V"⟩, 94), (⟨"FastPlaneModel", "counts", "(III)Z"⟩, 94), (⟨"FastPlaneModel", "costsOf", "(II)I"⟩, 94), (⟨"FastPlaneModel", "overOf", "(II)I"⟩, 94), (⟨"FastPlaneModel", "planOf", "(III)I"⟩, 94), (⟨"FastPlaneModel", "isFuel", "(II)Z"⟩, 94), (⟨"FastPlaneModel", "tanks", "()I"⟩, 94), (⟨"FastPlaneModel", "fillPlan", "()V"⟩, 94), (⟨"FastPlaneModel", "fillUp", "(I)V"⟩, 94), (⟨"FastPlaneModel", "bestMove", "(II)I"⟩, 94), (⟨"FastPlaneModel", "tryMove", "(IIIIII)I"⟩, 94), (⟨"FastPlaneModel", "stateNow", "()I"⟩, 94), (⟨"FastPlaneModel", "enter", "(IIIIIII)V"⟩, 94)]
theorem lw_r6 : ∀ q ∈ lw_privs_6, lw_okq q := List.forall_mem_cons.mpr ⟨lw_p80, List.forall_mem_cons.mpr ⟨lw_p81, List.forall_mem_cons.mpr ⟨lw_p82, List.forall_mem_cons.mpr ⟨lw_p83, List.forall_mem_cons.mpr ⟨lw_p84, List.forall_mem_cons.mpr ⟨lw_p85, List.forall_mem_cons.mpr ⟨lw_p86, List.forall_mem_cons.mpr ⟨lw_p87, List.forall_mem_cons.mpr ⟨lw_p88, List.forall_mem_cons.mpr ⟨lw_p89, List.forall_mem_cons.mpr ⟨lw_p90, List.forall_mem_cons.mpr ⟨lw_p91, List.forall_mem_cons.mpr ⟨lw_p92, List.forall_mem_cons.mpr ⟨lw_p93, List.forall_mem_cons.mpr ⟨lw_p94, List.forall_mem_cons.mpr ⟨lw_p95, fun _ h => absurd h List.not_mem_nil⟩⟩⟩⟩⟩⟩⟩⟩⟩⟩⟩⟩⟩⟩⟩⟩
theorem lw_p96 : lw_okq (⟨"FastPlaneModel", "rounds", "(III)I"⟩, 94) := ⟨⟨by decide +kernel, by decide +kernel⟩, lw_t7 (List.mem_of_getElem? (i := 196) rfl), lw_t10 (List.mem_of_getElem? (i := 154) rfl), lw_t10 (List.mem_of_getElem? (i := 155) rfl)⟩
theorem lw_p97 : lw_okq (⟨"FastPlaneModel", "seekShared", "(I)V"⟩, 94) := ⟨⟨by decide +kernel, by decide +kernel⟩, lw_t7 (List.mem_of_getElem? (i := 196) rfl), lw_t10 (List.mem_of_getElem? (i := 167) rfl), lw_t10 (List.mem_of_getElem? (i := 168) rfl)⟩
theorem lw_p98 : lw_okq (⟨"FastPlaneModel", "give", "(II)V"⟩, 94) := ⟨⟨by decide +kernel, by decide +kernel⟩, lw_t7 (List.mem_of_getElem? (i := 196) rfl), lw_t10 (List.mem_of_getElem? (i := 171) rfl), lw_t10 (List.mem_of_getElem? (i := 172) rfl)⟩
theorem lw_p99 : lw_okq (⟨"FastPlaneModel", "layStages", "()V"⟩, 94) := ⟨⟨by decide +kernel, by decide +kernel⟩, lw_t7 (List.mem_of_getElem? (i := 196) rfl), lw_t10 (List.mem_of_getElem? (i := 195) rfl), lw_t10 (List.mem_of_getElem? (i := 196) rfl)⟩
theorem lw_p100 : lw_okq (⟨"FastPlaneModel", "waits", "(IIIII)Z"⟩, 94) := ⟨⟨by decide +kernel, by decide +kernel⟩, lw_t7 (List.mem_of_getElem? (i := 196) rfl), lw_t10 (List.mem_of_getElem? (i := 202) rfl), lw_t10 (List.mem_of_getElem? (i := 203) rfl)⟩
theorem lw_p101 : lw_okq (⟨"FastPlaneModel", "goesOn", "(IIIII)Z"⟩, 94) := ⟨⟨by decide +kernel, by decide +kernel⟩, lw_t7 (List.mem_of_getElem? (i := 196) rfl), lw_t10 (List.mem_of_getElem? (i := 209) rfl), lw_t10 (List.mem_of_getElem? (i := 210) rfl)⟩
theorem lw_p102 : lw_okq (⟨"FastPlaneModel", "paid", "(IIIII)Z"⟩, 94) := ⟨⟨by decide +kernel, by decide +kernel⟩, lw_t7 (List.mem_of_getElem? (i := 196) rfl), lw_t10 (List.mem_of_getElem? (i := 213) rfl), lw_t10 (List.mem_of_getElem? (i := 214) rfl)⟩
def lw_privs_7 : List (MethodName × Nat) := [(⟨"FastPlaneModel", "rounds", "(III)I"⟩, 94), (⟨"FastPlaneModel", "seekShared", "(I)V"⟩, 94), (⟨"FastPlaneModel", "give", "(II)V"⟩, 94), (⟨"FastPlaneModel", "layStages", "()V"⟩, 94), (⟨"FastPlaneModel", "waits", "(IIIII)Z"⟩, 94), (⟨"FastPlaneModel", "goesOn", "(IIIII)Z"⟩, 94), (⟨"FastPlaneModel", "paid", "(IIIII)Z"⟩, 94)]
theorem lw_r7 : ∀ q ∈ lw_privs_7, lw_okq q := List.forall_mem_cons.mpr ⟨lw_p96, List.forall_mem_cons.mpr ⟨lw_p97, List.forall_mem_cons.mpr ⟨lw_p98, List.forall_mem_cons.mpr ⟨lw_p99, List.forall_mem_cons.mpr ⟨lw_p100, List.forall_mem_cons.mpr ⟨lw_p101, List.forall_mem_cons.mpr ⟨lw_p102, fun _ h => absurd h List.not_mem_nil⟩⟩⟩⟩⟩⟩⟩
def lw_privs : List (MethodName × Nat) := lw_privs_1 ++ (lw_privs_2 ++ (lw_privs_3 ++ (lw_privs_4 ++ (lw_privs_5 ++ (lw_privs_6 ++ (lw_privs_7))))))
def lw_tbl : List Cond := k2_sels lw_privs ++ tables_1
theorem lw_privs_ok : ∀ q ∈ lw_privs, lw_okq q := by
  show ∀ q ∈ lw_privs_1 ++ (lw_privs_2 ++ (lw_privs_3 ++ (lw_privs_4 ++ (lw_privs_5 ++ (lw_privs_6 ++ (lw_privs_7)))))), lw_okq q
  exact List.forall_mem_append.mpr ⟨lw_r1, List.forall_mem_append.mpr ⟨lw_r2, List.forall_mem_append.mpr ⟨lw_r3, List.forall_mem_append.mpr ⟨lw_r4, List.forall_mem_append.mpr ⟨lw_r5, List.forall_mem_append.mpr ⟨lw_r6, lw_r7⟩⟩⟩⟩⟩⟩
-- ===== ONE list of words for every method: the tables' words that hold all through a run =====
def lw_all : List Cond := lw_tbl.filter goodWord
/-- a word of the tables by its place: claim/WORDS.tsv -/
theorem lw_w {w : Cond} (i : Nat) (h : lw_tbl[i]? = some w) (g : goodWord w = true) : w ∈ lw_all := List.mem_filter.mpr ⟨List.mem_of_getElem? h, g⟩
theorem lw_all_tbl {w : Cond} (h : w ∈ lw_all) : w ∈ lw_tbl := (List.mem_filter.mp h).1
theorem lw_self : GoodIn lw_all lw_all := fun w h => ⟨h, good_of_word (List.mem_filter.mp h).2⟩
/-- a class's field words, by their places -/
theorem lw_in (ws : List Cond) (ps : List Nat) (hp : ws = ps.filterMap (fun i => lw_tbl[i]?)) (hg : ws.all goodWord = true) : ∀ w ∈ ws, w ∈ lw_all := by
  intro w h
  have h1 := List.all_eq_true.mp hg w h
  rw [hp] at h
  obtain ⟨i, -, hi⟩ := List.mem_filterMap.mp h
  exact lw_w i hi h1
/-- the words of a contract for the method y with code b, L locals, answer r -/
abbrev ws_ (y : MethodName) (b : ByteArray) (L : Nat) (r : Option FieldType) : List Cond := Cond.code y b L r :: lw_all
theorem lw_meth {y : MethodName} {b : ByteArray} {L : Nat} {r : Option FieldType} (h : Cond.code y b L r ∈ lw_all) : GoodIn lw_all (ws_ y b L r) := by
  intro w hw
  rcases List.mem_cons.mp hw with e | e
  · rw [e]
    exact lw_self _ h
  · exact lw_self _ e
theorem lw_app {a c : List Cond} (ha : ∀ w ∈ a, w ∈ lw_all) (hc : GoodIn lw_all c) : GoodIn lw_all (a ++ c) := by
  intro w hw
  rcases List.mem_append.mp hw with e | e
  · exact lw_self w (ha w e)
  · exact hc w e
/-- what a call through an object asks: cwV n hts (lw_V ..) -/
theorem lw_V {own : String} {idx : Nat} {C : String} {y : MethodName} {b : ByteArray} {L : Nat} {r : Option FieldType} (h1 : Cond.methodLink own idx y ∈ lw_all) (h2 : Cond.instanceMethod y ∈ lw_all) (h3 : Cond.selects C y y ∈ lw_all) (h4 : Cond.initialized C ∈ lw_all) (h5 : Cond.code y b L r ∈ lw_all) : GoodIn lw_all (wsV own idx C y (ws_ y b L r)) := by
  refine lw_app ?_ (lw_meth h5)
  intro w hw
  simp only [List.mem_cons, List.not_mem_nil, or_false] at hw
  rcases hw with e | e | e | e
  · rw [e]; exact h1
  · rw [e]; exact h2
  · rw [e]; exact h3
  · rw [e]; exact h4
/-- what a static call asks: va_cwS n hts (lw_S ..) -/
theorem lw_S {own : String} {idx : Nat} {y : MethodName} {b : ByteArray} {L : Nat} {r : Option FieldType} (h1 : Cond.methodLink own idx y ∈ lw_all) (h2 : Cond.static y ∈ lw_all) (h3 : Cond.initialized y.cls ∈ lw_all) (h4 : Cond.code y b L r ∈ lw_all) : GoodIn lw_all (va_wsS own idx y (ws_ y b L r)) := by
  refine lw_app ?_ (lw_meth h4)
  intro w hw
  simp only [List.mem_cons, List.not_mem_nil, or_false] at hw
  rcases hw with e | e | e
  · rw [e]; exact h1
  · rw [e]; exact h2
  · rw [e]; exact h3
/-- the words of a contract for a method WITH HANDLERS (hh: its table) -/
abbrev wsW_ (y : MethodName) (b : ByteArray) (L : Nat) (r : Option FieldType) (hh : List (Nat × Nat × Nat × Nat)) : List Cond := Cond.codeWith y b L r hh :: lw_all
theorem lw_methW {y : MethodName} {b : ByteArray} {L : Nat} {r : Option FieldType} {hh : List (Nat × Nat × Nat × Nat)} (h : Cond.codeWith y b L r hh ∈ lw_all) : GoodIn lw_all (wsW_ y b L r hh) := by
  intro w hw
  rcases List.mem_cons.mp hw with e | e
  · rw [e]
    exact lw_self _ h
  · exact lw_self _ e
/-- any list of words by their places (lw_in), good -/
theorem lw_good {ws : List Cond} (h : ∀ w ∈ ws, w ∈ lw_all) : GoodIn lw_all ws := fun w hw => lw_self w (h w hw)
/-- what a call of a method with handlers asks: vx_cwVW n hts (lw_VW ..), vx_cwSW n hts (lw_SW ..) -/
theorem lw_VW {own : String} {idx : Nat} {C : String} {y : MethodName} {b : ByteArray} {L : Nat} {r : Option FieldType} {hh : List (Nat × Nat × Nat × Nat)} (h1 : Cond.methodLink own idx y ∈ lw_all) (h2 : Cond.instanceMethod y ∈ lw_all) (h3 : Cond.selects C y y ∈ lw_all) (h4 : Cond.initialized C ∈ lw_all) (h5 : Cond.codeWith y b L r hh ∈ lw_all) : GoodIn lw_all (wsV own idx C y (wsW_ y b L r hh)) := by
  refine lw_app ?_ (lw_methW h5)
  intro w hw
  simp only [List.mem_cons, List.not_mem_nil, or_false] at hw
  rcases hw with e | e | e | e
  · rw [e]; exact h1
  · rw [e]; exact h2
  · rw [e]; exact h3
  · rw [e]; exact h4
theorem lw_SW {own : String} {idx : Nat} {y : MethodName} {b : ByteArray} {L : Nat} {r : Option FieldType} {hh : List (Nat × Nat × Nat × Nat)} (h1 : Cond.methodLink own idx y ∈ lw_all) (h2 : Cond.static y ∈ lw_all) (h3 : Cond.initialized y.cls ∈ lw_all) (h4 : Cond.codeWith y b L r hh ∈ lw_all) : GoodIn lw_all (va_wsS own idx y (wsW_ y b L r hh)) := by
  refine lw_app ?_ (lw_methW h4)
  intro w hw
  simp only [List.mem_cons, List.not_mem_nil, or_false] at hw
  rcases hw with e | e | e
  · rw [e]; exact h1
  · rw [e]; exact h2
  · rw [e]; exact h3
/-- a word by its place in its run of the tables -/
theorem lw_at {r : List Cond} (hr : ∀ w ∈ r, w ∈ lw_tbl) {w : Cond} (i : Nat) (h : r[i]? = some w) : w ∈ lw_tbl := hr w (List.mem_of_getElem? h)
theorem lw_g {w : Cond} (h : w ∈ lw_tbl) (g : goodWord w = true) : w ∈ lw_all := List.mem_filter.mpr ⟨h, g⟩
theorem lw_ms : ∀ w ∈ k2_sels lw_privs, w ∈ lw_tbl := fun w h => show w ∈ k2_sels lw_privs ++ tables_1 from List.mem_append_left _ h
theorem lw_m1 : ∀ w ∈ tables_1_1, w ∈ lw_tbl := fun w h => show w ∈ k2_sels lw_privs ++ tables_1 from List.mem_append_right (k2_sels lw_privs) (show w ∈ tables_1 from List.mem_append_left _ h)
theorem lw_m2 : ∀ w ∈ tables_1_2, w ∈ lw_tbl := fun w h => show w ∈ k2_sels lw_privs ++ tables_1 from List.mem_append_right (k2_sels lw_privs) (show w ∈ tables_1 from List.mem_append_right _ (List.mem_append_left _ h))
theorem lw_m3 : ∀ w ∈ tables_1_3, w ∈ lw_tbl := fun w h => show w ∈ k2_sels lw_privs ++ tables_1 from List.mem_append_right (k2_sels lw_privs) (show w ∈ tables_1 from List.mem_append_right _ (List.mem_append_right _ (List.mem_append_left _ h)))
theorem lw_m4 : ∀ w ∈ tables_1_4, w ∈ lw_tbl := fun w h => show w ∈ k2_sels lw_privs ++ tables_1 from List.mem_append_right (k2_sels lw_privs) (show w ∈ tables_1 from List.mem_append_right _ (List.mem_append_right _ (List.mem_append_right _ (List.mem_append_left _ h))))
theorem lw_m5 : ∀ w ∈ tables_1_5, w ∈ lw_tbl := fun w h => show w ∈ k2_sels lw_privs ++ tables_1 from List.mem_append_right (k2_sels lw_privs) (show w ∈ tables_1 from List.mem_append_right _ (List.mem_append_right _ (List.mem_append_right _ (List.mem_append_right _ (List.mem_append_left _ h)))))
theorem lw_m6 : ∀ w ∈ tables_1_6, w ∈ lw_tbl := fun w h => show w ∈ k2_sels lw_privs ++ tables_1 from List.mem_append_right (k2_sels lw_privs) (show w ∈ tables_1 from List.mem_append_right _ (List.mem_append_right _ (List.mem_append_right _ (List.mem_append_right _ (List.mem_append_right _ (List.mem_append_left _ h))))))
theorem lw_m7 : ∀ w ∈ tables_1_7, w ∈ lw_tbl := fun w h => show w ∈ k2_sels lw_privs ++ tables_1 from List.mem_append_right (k2_sels lw_privs) (show w ∈ tables_1 from List.mem_append_right _ (List.mem_append_right _ (List.mem_append_right _ (List.mem_append_right _ (List.mem_append_right _ (List.mem_append_right _ (List.mem_append_left _ h)))))))
theorem lw_m8 : ∀ w ∈ tables_1_8, w ∈ lw_tbl := fun w h => show w ∈ k2_sels lw_privs ++ tables_1 from List.mem_append_right (k2_sels lw_privs) (show w ∈ tables_1 from List.mem_append_right _ (List.mem_append_right _ (List.mem_append_right _ (List.mem_append_right _ (List.mem_append_right _ (List.mem_append_right _ (List.mem_append_right _ (List.mem_append_left _ h))))))))
theorem lw_m9 : ∀ w ∈ tables_1_9, w ∈ lw_tbl := fun w h => show w ∈ k2_sels lw_privs ++ tables_1 from List.mem_append_right (k2_sels lw_privs) (show w ∈ tables_1 from List.mem_append_right _ (List.mem_append_right _ (List.mem_append_right _ (List.mem_append_right _ (List.mem_append_right _ (List.mem_append_right _ (List.mem_append_right _ (List.mem_append_right _ (List.mem_append_left _ h)))))))))
theorem lw_m10 : ∀ w ∈ tables_1_10, w ∈ lw_tbl := fun w h => show w ∈ k2_sels lw_privs ++ tables_1 from List.mem_append_right (k2_sels lw_privs) (show w ∈ tables_1 from List.mem_append_right _ (List.mem_append_right _ (List.mem_append_right _ (List.mem_append_right _ (List.mem_append_right _ (List.mem_append_right _ (List.mem_append_right _ (List.mem_append_right _ (List.mem_append_right _ (List.mem_append_left _ h))))))))))
theorem lw_m11 : ∀ w ∈ tables_1_11, w ∈ lw_tbl := fun w h => show w ∈ k2_sels lw_privs ++ tables_1 from List.mem_append_right (k2_sels lw_privs) (show w ∈ tables_1 from List.mem_append_right _ (List.mem_append_right _ (List.mem_append_right _ (List.mem_append_right _ (List.mem_append_right _ (List.mem_append_right _ (List.mem_append_right _ (List.mem_append_right _ (List.mem_append_right _ (List.mem_append_right _ h))))))))))
theorem qs0 : (Cond.selects "FastPlane$Reader" ⟨"FastPlane$Reader", "here", "(I)I"⟩ ⟨"FastPlane$Reader", "here", "(I)I"⟩) ∈ lw_all := lw_g (lw_at lw_ms 0 rfl) rfl
theorem qs1 : (Cond.selects "FastPlane$Reader" ⟨"FastPlane$Reader", "isLetter", "(I)Z"⟩ ⟨"FastPlane$Reader", "isLetter", "(I)Z"⟩) ∈ lw_all := lw_g (lw_at lw_ms 1 rfl) rfl
theorem qs2 : (Cond.selects "FastPlane$Reader" ⟨"FastPlane$Reader", "isDigit", "(I)Z"⟩ ⟨"FastPlane$Reader", "isDigit", "(I)Z"⟩) ∈ lw_all := lw_g (lw_at lw_ms 2 rfl) rfl
theorem qs3 : (Cond.selects "FastPlane$MachineReader" ⟨"FastPlane$MachineReader", "part", "()V"⟩ ⟨"FastPlane$MachineReader", "part", "()V"⟩) ∈ lw_all := lw_g (lw_at lw_ms 3 rfl) rfl
theorem qs4 : (Cond.selects "java/lang/Throwable" ⟨"java/lang/Throwable", "fillInStackTrace", "(I)Ljava/lang/Throwable;"⟩ ⟨"java/lang/Throwable", "fillInStackTrace", "(I)Ljava/lang/Throwable;"⟩) ∈ lw_all := lw_g (lw_at lw_ms 4 rfl) rfl
theorem qs5 : (Cond.selects "java/util/ArrayList" ⟨"java/util/ArrayList", "add", "(Ljava/lang/Object;[Ljava/lang/Object;I)V"⟩ ⟨"java/util/ArrayList", "add", "(Ljava/lang/Object;[Ljava/lang/Object;I)V"⟩) ∈ lw_all := lw_g (lw_at lw_ms 5 rfl) rfl
theorem qs6 : (Cond.selects "java/util/ArrayList" ⟨"java/util/ArrayList", "grow", "()[Ljava/lang/Object;"⟩ ⟨"java/util/ArrayList", "grow", "()[Ljava/lang/Object;"⟩) ∈ lw_all := lw_g (lw_at lw_ms 6 rfl) rfl
theorem qs7 : (Cond.selects "java/util/ArrayList" ⟨"java/util/ArrayList", "grow", "(I)[Ljava/lang/Object;"⟩ ⟨"java/util/ArrayList", "grow", "(I)[Ljava/lang/Object;"⟩) ∈ lw_all := lw_g (lw_at lw_ms 7 rfl) rfl
theorem qs8 : (Cond.selects "FastPlane$MachineReader" ⟨"FastPlane$MachineReader", "link", "(Ljava/util/ArrayList;Ljava/lang/String;I)V"⟩ ⟨"FastPlane$MachineReader", "link", "(Ljava/util/ArrayList;Ljava/lang/String;I)V"⟩) ∈ lw_all := lw_g (lw_at lw_ms 8 rfl) rfl
theorem qs9 : (Cond.selects "FastPlane$MachineReader" ⟨"FastPlane$MachineReader", "named", "(LFastPlane$Part;)LFastPlane$Part;"⟩ ⟨"FastPlane$MachineReader", "named", "(LFastPlane$Part;)LFastPlane$Part;"⟩) ∈ lw_all := lw_g (lw_at lw_ms 9 rfl) rfl
theorem qs10 : (Cond.selects "FastPlane$MachineReader" ⟨"FastPlane$MachineReader", "tank", "()V"⟩ ⟨"FastPlane$MachineReader", "tank", "()V"⟩) ∈ lw_all := lw_g (lw_at lw_ms 10 rfl) rfl
theorem qs11 : (Cond.selects "FastPlane$MachineReader" ⟨"FastPlane$MachineReader", "row", "()V"⟩ ⟨"FastPlane$MachineReader", "row", "()V"⟩) ∈ lw_all := lw_g (lw_at lw_ms 11 rfl) rfl
theorem qs12 : (Cond.selects "FastPlane" ⟨"FastPlane", "read", "(LFastPlane$Wrong;)V"⟩ ⟨"FastPlane", "read", "(LFastPlane$Wrong;)V"⟩) ∈ lw_all := lw_g (lw_at lw_ms 12 rfl) rfl
theorem qs13 : (Cond.selects "FastPlane$TreatyReader" ⟨"FastPlane$TreatyReader", "lineHere", "()I"⟩ ⟨"FastPlane$TreatyReader", "lineHere", "()I"⟩) ∈ lw_all := lw_g (lw_at lw_ms 13 rfl) rfl
theorem qs14 : (Cond.selects "FastPlane$TreatyReader" ⟨"FastPlane$TreatyReader", "either", "()LFastPlane$Ex;"⟩ ⟨"FastPlane$TreatyReader", "either", "()LFastPlane$Ex;"⟩) ∈ lw_all := lw_g (lw_at lw_ms 14 rfl) rfl
theorem qs15 : (Cond.selects "FastPlane$TreatyReader" ⟨"FastPlane$TreatyReader", "both", "()LFastPlane$Ex;"⟩ ⟨"FastPlane$TreatyReader", "both", "()LFastPlane$Ex;"⟩) ∈ lw_all := lw_g (lw_at lw_ms 15 rfl) rfl
theorem qs16 : (Cond.selects "FastPlane$TreatyReader" ⟨"FastPlane$TreatyReader", "one", "()LFastPlane$Ex;"⟩ ⟨"FastPlane$TreatyReader", "one", "()LFastPlane$Ex;"⟩) ∈ lw_all := lw_g (lw_at lw_ms 16 rfl) rfl
theorem qs17 : (Cond.selects "FastPlane$TreatyReader" ⟨"FastPlane$TreatyReader", "deeper", "()V"⟩ ⟨"FastPlane$TreatyReader", "deeper", "()V"⟩) ∈ lw_all := lw_g (lw_at lw_ms 17 rfl) rfl
theorem qs18 : (Cond.selects "FastPlane$TreatyReader" ⟨"FastPlane$TreatyReader", "sum", "()LFastPlane$Ex;"⟩ ⟨"FastPlane$TreatyReader", "sum", "()LFastPlane$Ex;"⟩) ∈ lw_all := lw_g (lw_at lw_ms 18 rfl) rfl
theorem qs19 : (Cond.selects "FastPlane$TreatyReader" ⟨"FastPlane$TreatyReader", "term", "()LFastPlane$Ex;"⟩ ⟨"FastPlane$TreatyReader", "term", "()LFastPlane$Ex;"⟩) ∈ lw_all := lw_g (lw_at lw_ms 19 rfl) rfl
theorem qs20 : (Cond.selects "FastPlane$TreatyReader" ⟨"FastPlane$TreatyReader", "unit", "()LFastPlane$Ex;"⟩ ⟨"FastPlane$TreatyReader", "unit", "()LFastPlane$Ex;"⟩) ∈ lw_all := lw_g (lw_at lw_ms 20 rfl) rfl
theorem qs21 : (Cond.selects "FastPlane" ⟨"FastPlane", "partAt", "(I)LFastPlane$Part;"⟩ ⟨"FastPlane", "partAt", "(I)LFastPlane$Part;"⟩) ∈ lw_all := lw_g (lw_at lw_ms 21 rfl) rfl
theorem qs22 : (Cond.selects "FastPlane" ⟨"FastPlane", "seekMend", "()V"⟩ ⟨"FastPlane", "seekMend", "()V"⟩) ∈ lw_all := lw_g (lw_at lw_ms 22 rfl) rfl
theorem qs23 : (Cond.selects "FastPlane" ⟨"FastPlane", "fitting", "(LFastPlane$Part;I)I"⟩ ⟨"FastPlane", "fitting", "(LFastPlane$Part;I)I"⟩) ∈ lw_all := lw_g (lw_at lw_ms 23 rfl) rfl
theorem qs24 : (Cond.selects "FastPlane" ⟨"FastPlane", "mayLeave", "(III)Z"⟩ ⟨"FastPlane", "mayLeave", "(III)Z"⟩) ∈ lw_all := lw_g (lw_at lw_ms 24 rfl) rfl
theorem qs25 : (Cond.selects "FastPlane" ⟨"FastPlane", "mayFly", "(IIII)Z"⟩ ⟨"FastPlane", "mayFly", "(IIII)Z"⟩) ∈ lw_all := lw_g (lw_at lw_ms 25 rfl) rfl
theorem qs26 : (Cond.selects "FastPlane" ⟨"FastPlane", "tell", "(ZLFastPlane$Fact;)I"⟩ ⟨"FastPlane", "tell", "(ZLFastPlane$Fact;)I"⟩) ∈ lw_all := lw_g (lw_at lw_ms 26 rfl) rfl
theorem qs27 : (Cond.selects "FastPlane" ⟨"FastPlane", "know", "(I)V"⟩ ⟨"FastPlane", "know", "(I)V"⟩) ∈ lw_all := lw_g (lw_at lw_ms 27 rfl) rfl
theorem qs28 : (Cond.selects "FastPlane" ⟨"FastPlane", "costs", "(II)I"⟩ ⟨"FastPlane", "costs", "(II)I"⟩) ∈ lw_all := lw_g (lw_at lw_ms 28 rfl) rfl
theorem qs29 : (Cond.selects "FastPlane" ⟨"FastPlane", "overOf", "(II)I"⟩ ⟨"FastPlane", "overOf", "(II)I"⟩) ∈ lw_all := lw_g (lw_at lw_ms 29 rfl) rfl
theorem qs30 : (Cond.selects "FastPlane" ⟨"FastPlane", "canPlan", "(III)Z"⟩ ⟨"FastPlane", "canPlan", "(III)Z"⟩) ∈ lw_all := lw_g (lw_at lw_ms 30 rfl) rfl
theorem qs31 : (Cond.selects "FastPlane" ⟨"FastPlane", "fill", "(III)I"⟩ ⟨"FastPlane", "fill", "(III)I"⟩) ∈ lw_all := lw_g (lw_at lw_ms 31 rfl) rfl
theorem qs32 : (Cond.selects "FastPlane" ⟨"FastPlane", "worth", "(III)I"⟩ ⟨"FastPlane", "worth", "(III)I"⟩) ∈ lw_all := lw_g (lw_at lw_ms 32 rfl) rfl
theorem qs33 : (Cond.selects "FastPlane" ⟨"FastPlane", "by", "(III)I"⟩ ⟨"FastPlane", "by", "(III)I"⟩) ∈ lw_all := lw_g (lw_at lw_ms 33 rfl) rfl
theorem qs34 : (Cond.selects "FastPlane" ⟨"FastPlane", "enter", "(IIII)V"⟩ ⟨"FastPlane", "enter", "(IIII)V"⟩) ∈ lw_all := lw_g (lw_at lw_ms 34 rfl) rfl
theorem qs35 : (Cond.selects "FastPlane" ⟨"FastPlane", "lapsing", "(III)I"⟩ ⟨"FastPlane", "lapsing", "(III)I"⟩) ∈ lw_all := lw_g (lw_at lw_ms 35 rfl) rfl
theorem qs36 : (Cond.selects "FastPlane" ⟨"FastPlane", "lay", "(IIIII)V"⟩ ⟨"FastPlane", "lay", "(IIIII)V"⟩) ∈ lw_all := lw_g (lw_at lw_ms 36 rfl) rfl
theorem qs37 : (Cond.selects "FastPlane" ⟨"FastPlane", "secure", "()V"⟩ ⟨"FastPlane", "secure", "()V"⟩) ∈ lw_all := lw_g (lw_at lw_ms 37 rfl) rfl
theorem qs38 : (Cond.selects "FastPlane" ⟨"FastPlane", "canGoOn", "(IIIII)Z"⟩ ⟨"FastPlane", "canGoOn", "(IIIII)Z"⟩) ∈ lw_all := lw_g (lw_at lw_ms 38 rfl) rfl
theorem qs39 : (Cond.selects "FastPlane" ⟨"FastPlane", "isSafe", "(IIIII)Z"⟩ ⟨"FastPlane", "isSafe", "(IIIII)Z"⟩) ∈ lw_all := lw_g (lw_at lw_ms 39 rfl) rfl
theorem qs40 : (Cond.selects "FastPlane" ⟨"FastPlane", "canWait", "(IIIII)Z"⟩ ⟨"FastPlane", "canWait", "(IIIII)Z"⟩) ∈ lw_all := lw_g (lw_at lw_ms 40 rfl) rfl
theorem qs41 : (Cond.selects "FastPlaneModel" ⟨"FastPlaneModel", "takeTape", "()V"⟩ ⟨"FastPlaneModel", "takeTape", "()V"⟩) ∈ lw_all := lw_g (lw_at lw_ms 41 rfl) rfl
theorem qs42 : (Cond.selects "FastPlaneModel" ⟨"FastPlaneModel", "next", "()V"⟩ ⟨"FastPlaneModel", "next", "()V"⟩) ∈ lw_all := lw_g (lw_at lw_ms 42 rfl) rfl
theorem qs43 : (Cond.selects "FastPlaneModel" ⟨"FastPlaneModel", "sign", "(I)I"⟩ ⟨"FastPlaneModel", "sign", "(I)I"⟩) ∈ lw_all := lw_g (lw_at lw_ms 43 rfl) rfl
theorem qs44 : (Cond.selects "FastPlaneModel" ⟨"FastPlaneModel", "isGood", "()Z"⟩ ⟨"FastPlaneModel", "isGood", "()Z"⟩) ∈ lw_all := lw_g (lw_at lw_ms 44 rfl) rfl
theorem qs45 : (Cond.selects "FastPlaneModel" ⟨"FastPlaneModel", "readMachine", "()V"⟩ ⟨"FastPlaneModel", "readMachine", "()V"⟩) ∈ lw_all := lw_g (lw_at lw_ms 45 rfl) rfl
theorem qs46 : (Cond.selects "FastPlaneModel" ⟨"FastPlaneModel", "isWord", "(J)Z"⟩ ⟨"FastPlaneModel", "isWord", "(J)Z"⟩) ∈ lw_all := lw_g (lw_at lw_ms 46 rfl) rfl
theorem qs47 : (Cond.selects "FastPlaneModel" ⟨"FastPlaneModel", "isFull", "()Z"⟩ ⟨"FastPlaneModel", "isFull", "()Z"⟩) ∈ lw_all := lw_g (lw_at lw_ms 47 rfl) rfl
theorem qs48 : (Cond.selects "FastPlaneModel" ⟨"FastPlaneModel", "wrong", "()V"⟩ ⟨"FastPlaneModel", "wrong", "()V"⟩) ∈ lw_all := lw_g (lw_at lw_ms 48 rfl) rfl
theorem qs49 : (Cond.selects "FastPlaneModel" ⟨"FastPlaneModel", "fails", "(II)V"⟩ ⟨"FastPlaneModel", "fails", "(II)V"⟩) ∈ lw_all := lw_g (lw_at lw_ms 49 rfl) rfl
theorem qs50 : (Cond.selects "FastPlaneModel" ⟨"FastPlaneModel", "readPart", "()V"⟩ ⟨"FastPlaneModel", "readPart", "()V"⟩) ∈ lw_all := lw_g (lw_at lw_ms 50 rfl) rfl
theorem qs51 : (Cond.selects "FastPlaneModel" ⟨"FastPlaneModel", "must", "(Z)V"⟩ ⟨"FastPlaneModel", "must", "(Z)V"⟩) ∈ lw_all := lw_g (lw_at lw_ms 51 rfl) rfl
theorem qs52 : (Cond.selects "FastPlaneModel" ⟨"FastPlaneModel", "numeral", "(II)I"⟩ ⟨"FastPlaneModel", "numeral", "(II)I"⟩) ∈ lw_all := lw_g (lw_at lw_ms 52 rfl) rfl
theorem qs53 : (Cond.selects "FastPlaneModel" ⟨"FastPlaneModel", "readJoin", "()V"⟩ ⟨"FastPlaneModel", "readJoin", "()V"⟩) ∈ lw_all := lw_g (lw_at lw_ms 53 rfl) rfl
theorem qs54 : (Cond.selects "FastPlaneModel" ⟨"FastPlaneModel", "partNamed", "(I)I"⟩ ⟨"FastPlaneModel", "partNamed", "(I)I"⟩) ∈ lw_all := lw_g (lw_at lw_ms 54 rfl) rfl
theorem qs55 : (Cond.selects "FastPlaneModel" ⟨"FastPlaneModel", "readMoves", "()V"⟩ ⟨"FastPlaneModel", "readMoves", "()V"⟩) ∈ lw_all := lw_g (lw_at lw_ms 55 rfl) rfl
theorem qs56 : (Cond.selects "FastPlaneModel" ⟨"FastPlaneModel", "readTank", "()V"⟩ ⟨"FastPlaneModel", "readTank", "()V"⟩) ∈ lw_all := lw_g (lw_at lw_ms 56 rfl) rfl
theorem qs57 : (Cond.selects "FastPlaneModel" ⟨"FastPlaneModel", "readRow", "()V"⟩ ⟨"FastPlaneModel", "readRow", "()V"⟩) ∈ lw_all := lw_g (lw_at lw_ms 57 rfl) rfl
theorem qs58 : (Cond.selects "FastPlaneModel" ⟨"FastPlaneModel", "is", "(I)Z"⟩ ⟨"FastPlaneModel", "is", "(I)Z"⟩) ∈ lw_all := lw_g (lw_at lw_ms 58 rfl) rfl
theorem qs59 : (Cond.selects "FastPlaneModel" ⟨"FastPlaneModel", "isPart", "(I)Z"⟩ ⟨"FastPlaneModel", "isPart", "(I)Z"⟩) ∈ lw_all := lw_g (lw_at lw_ms 59 rfl) rfl
theorem qs60 : (Cond.selects "FastPlaneModel" ⟨"FastPlaneModel", "parts", "()I"⟩ ⟨"FastPlaneModel", "parts", "()I"⟩) ∈ lw_all := lw_g (lw_at lw_ms 60 rfl) rfl
theorem qs61 : (Cond.selects "FastPlaneModel" ⟨"FastPlaneModel", "mmOf", "(II)I"⟩ ⟨"FastPlaneModel", "mmOf", "(II)I"⟩) ∈ lw_all := lw_g (lw_at lw_ms 61 rfl) rfl
theorem qs62 : (Cond.selects "FastPlaneModel" ⟨"FastPlaneModel", "joins", "()I"⟩ ⟨"FastPlaneModel", "joins", "()I"⟩) ∈ lw_all := lw_g (lw_at lw_ms 62 rfl) rfl
theorem qs63 : (Cond.selects "FastPlaneModel" ⟨"FastPlaneModel", "fits", "(II)Z"⟩ ⟨"FastPlaneModel", "fits", "(II)Z"⟩) ∈ lw_all := lw_g (lw_at lw_ms 63 rfl) rfl
theorem qs64 : (Cond.selects "FastPlaneModel" ⟨"FastPlaneModel", "fitsBy", "(III)Z"⟩ ⟨"FastPlaneModel", "fitsBy", "(III)Z"⟩) ∈ lw_all := lw_g (lw_at lw_ms 64 rfl) rfl
theorem qs65 : (Cond.selects "FastPlaneModel" ⟨"FastPlaneModel", "seekMend", "()V"⟩ ⟨"FastPlaneModel", "seekMend", "()V"⟩) ∈ lw_all := lw_g (lw_at lw_ms 65 rfl) rfl
theorem qs66 : (Cond.selects "FastPlaneModel" ⟨"FastPlaneModel", "fitsWith", "(II)I"⟩ ⟨"FastPlaneModel", "fitsWith", "(II)I"⟩) ∈ lw_all := lw_g (lw_at lw_ms 66 rfl) rfl
theorem qs67 : (Cond.selects "FastPlaneModel" ⟨"FastPlaneModel", "readTreaty", "()V"⟩ ⟨"FastPlaneModel", "readTreaty", "()V"⟩) ∈ lw_all := lw_g (lw_at lw_ms 67 rfl) rfl
theorem qs68 : (Cond.selects "FastPlaneModel" ⟨"FastPlaneModel", "e", "()V"⟩ ⟨"FastPlaneModel", "e", "()V"⟩) ∈ lw_all := lw_g (lw_at lw_ms 68 rfl) rfl
theorem qs69 : (Cond.selects "FastPlaneModel" ⟨"FastPlaneModel", "put", "(II)V"⟩ ⟨"FastPlaneModel", "put", "(II)V"⟩) ∈ lw_all := lw_g (lw_at lw_ms 69 rfl) rfl
theorem qs70 : (Cond.selects "FastPlaneModel" ⟨"FastPlaneModel", "unit", "()Z"⟩ ⟨"FastPlaneModel", "unit", "()Z"⟩) ∈ lw_all := lw_g (lw_at lw_ms 70 rfl) rfl
theorem qs71 : (Cond.selects "FastPlaneModel" ⟨"FastPlaneModel", "wordHere", "()I"⟩ ⟨"FastPlaneModel", "wordHere", "()I"⟩) ∈ lw_all := lw_g (lw_at lw_ms 71 rfl) rfl
theorem qs72 : (Cond.selects "FastPlaneModel" ⟨"FastPlaneModel", "mayAsk", "(I)Z"⟩ ⟨"FastPlaneModel", "mayAsk", "(I)Z"⟩) ∈ lw_all := lw_g (lw_at lw_ms 72 rfl) rfl
theorem qs73 : (Cond.selects "FastPlaneModel" ⟨"FastPlaneModel", "step", "(II)V"⟩ ⟨"FastPlaneModel", "step", "(II)V"⟩) ∈ lw_all := lw_g (lw_at lw_ms 73 rfl) rfl
theorem qs74 : (Cond.selects "FastPlaneModel" ⟨"FastPlaneModel", "behind", "()Z"⟩ ⟨"FastPlaneModel", "behind", "()Z"⟩) ∈ lw_all := lw_g (lw_at lw_ms 74 rfl) rfl
theorem qs75 : (Cond.selects "FastPlaneModel" ⟨"FastPlaneModel", "rankHere", "()I"⟩ ⟨"FastPlaneModel", "rankHere", "()I"⟩) ∈ lw_all := lw_g (lw_at lw_ms 75 rfl) rfl
theorem qs76 : (Cond.selects "FastPlaneModel" ⟨"FastPlaneModel", "isCompared", "()Z"⟩ ⟨"FastPlaneModel", "isCompared", "()Z"⟩) ∈ lw_all := lw_g (lw_at lw_ms 76 rfl) rfl
theorem qs77 : (Cond.selects "FastPlaneModel" ⟨"FastPlaneModel", "unlikeToFly", "(II)I"⟩ ⟨"FastPlaneModel", "unlikeToFly", "(II)I"⟩) ∈ lw_all := lw_g (lw_at lw_ms 77 rfl) rfl
theorem qs78 : (Cond.selects "FastPlaneModel" ⟨"FastPlaneModel", "flies", "(IIII)Z"⟩ ⟨"FastPlaneModel", "flies", "(IIII)Z"⟩) ∈ lw_all := lw_g (lw_at lw_ms 78 rfl) rfl
theorem qs79 : (Cond.selects "FastPlaneModel" ⟨"FastPlaneModel", "work", "(III)I"⟩ ⟨"FastPlaneModel", "work", "(III)I"⟩) ∈ lw_all := lw_g (lw_at lw_ms 79 rfl) rfl
theorem qs80 : (Cond.selects "FastPlaneModel" ⟨"FastPlaneModel", "term", "(II)I"⟩ ⟨"FastPlaneModel", "term", "(II)I"⟩) ∈ lw_all := lw_g (lw_at lw_ms 80 rfl) rfl
theorem qs81 : (Cond.selects "FastPlaneModel" ⟨"FastPlaneModel", "leavesBy", "(III)Z"⟩ ⟨"FastPlaneModel", "leavesBy", "(III)Z"⟩) ∈ lw_all := lw_g (lw_at lw_ms 81 rfl) rfl
theorem qs82 : (Cond.selects "FastPlaneModel" ⟨"FastPlaneModel", "tell", "(III)I"⟩ ⟨"FastPlaneModel", "tell", "(III)I"⟩) ∈ lw_all := lw_g (lw_at lw_ms 82 rfl) rfl
theorem qs83 : (Cond.selects "FastPlaneModel" ⟨"FastPlaneModel", "findMoves", "(I)V"⟩ ⟨"FastPlaneModel", "findMoves", "(I)V"⟩) ∈ lw_all := lw_g (lw_at lw_ms 83 rfl) rfl
theorem qs84 : (Cond.selects "FastPlaneModel" ⟨"FastPlaneModel", "counts", "(III)Z"⟩ ⟨"FastPlaneModel", "counts", "(III)Z"⟩) ∈ lw_all := lw_g (lw_at lw_ms 84 rfl) rfl
theorem qs85 : (Cond.selects "FastPlaneModel" ⟨"FastPlaneModel", "costsOf", "(II)I"⟩ ⟨"FastPlaneModel", "costsOf", "(II)I"⟩) ∈ lw_all := lw_g (lw_at lw_ms 85 rfl) rfl
theorem qs86 : (Cond.selects "FastPlaneModel" ⟨"FastPlaneModel", "overOf", "(II)I"⟩ ⟨"FastPlaneModel", "overOf", "(II)I"⟩) ∈ lw_all := lw_g (lw_at lw_ms 86 rfl) rfl
theorem qs87 : (Cond.selects "FastPlaneModel" ⟨"FastPlaneModel", "planOf", "(III)I"⟩ ⟨"FastPlaneModel", "planOf", "(III)I"⟩) ∈ lw_all := lw_g (lw_at lw_ms 87 rfl) rfl
theorem qs88 : (Cond.selects "FastPlaneModel" ⟨"FastPlaneModel", "isFuel", "(II)Z"⟩ ⟨"FastPlaneModel", "isFuel", "(II)Z"⟩) ∈ lw_all := lw_g (lw_at lw_ms 88 rfl) rfl
theorem qs89 : (Cond.selects "FastPlaneModel" ⟨"FastPlaneModel", "tanks", "()I"⟩ ⟨"FastPlaneModel", "tanks", "()I"⟩) ∈ lw_all := lw_g (lw_at lw_ms 89 rfl) rfl
theorem qs90 : (Cond.selects "FastPlaneModel" ⟨"FastPlaneModel", "fillPlan", "()V"⟩ ⟨"FastPlaneModel", "fillPlan", "()V"⟩) ∈ lw_all := lw_g (lw_at lw_ms 90 rfl) rfl
theorem qs91 : (Cond.selects "FastPlaneModel" ⟨"FastPlaneModel", "fillUp", "(I)V"⟩ ⟨"FastPlaneModel", "fillUp", "(I)V"⟩) ∈ lw_all := lw_g (lw_at lw_ms 91 rfl) rfl
theorem qs92 : (Cond.selects "FastPlaneModel" ⟨"FastPlaneModel", "bestMove", "(II)I"⟩ ⟨"FastPlaneModel", "bestMove", "(II)I"⟩) ∈ lw_all := lw_g (lw_at lw_ms 92 rfl) rfl
theorem qs93 : (Cond.selects "FastPlaneModel" ⟨"FastPlaneModel", "tryMove", "(IIIIII)I"⟩ ⟨"FastPlaneModel", "tryMove", "(IIIIII)I"⟩) ∈ lw_all := lw_g (lw_at lw_ms 93 rfl) rfl
theorem qs94 : (Cond.selects "FastPlaneModel" ⟨"FastPlaneModel", "stateNow", "()I"⟩ ⟨"FastPlaneModel", "stateNow", "()I"⟩) ∈ lw_all := lw_g (lw_at lw_ms 94 rfl) rfl
theorem qs95 : (Cond.selects "FastPlaneModel" ⟨"FastPlaneModel", "enter", "(IIIIIII)V"⟩ ⟨"FastPlaneModel", "enter", "(IIIIIII)V"⟩) ∈ lw_all := lw_g (lw_at lw_ms 95 rfl) rfl
theorem qs96 : (Cond.selects "FastPlaneModel" ⟨"FastPlaneModel", "rounds", "(III)I"⟩ ⟨"FastPlaneModel", "rounds", "(III)I"⟩) ∈ lw_all := lw_g (lw_at lw_ms 96 rfl) rfl
theorem qs97 : (Cond.selects "FastPlaneModel" ⟨"FastPlaneModel", "seekShared", "(I)V"⟩ ⟨"FastPlaneModel", "seekShared", "(I)V"⟩) ∈ lw_all := lw_g (lw_at lw_ms 97 rfl) rfl
theorem qs98 : (Cond.selects "FastPlaneModel" ⟨"FastPlaneModel", "give", "(II)V"⟩ ⟨"FastPlaneModel", "give", "(II)V"⟩) ∈ lw_all := lw_g (lw_at lw_ms 98 rfl) rfl
theorem qs99 : (Cond.selects "FastPlaneModel" ⟨"FastPlaneModel", "layStages", "()V"⟩ ⟨"FastPlaneModel", "layStages", "()V"⟩) ∈ lw_all := lw_g (lw_at lw_ms 99 rfl) rfl
theorem qs100 : (Cond.selects "FastPlaneModel" ⟨"FastPlaneModel", "waits", "(IIIII)Z"⟩ ⟨"FastPlaneModel", "waits", "(IIIII)Z"⟩) ∈ lw_all := lw_g (lw_at lw_ms 100 rfl) rfl
theorem qs101 : (Cond.selects "FastPlaneModel" ⟨"FastPlaneModel", "goesOn", "(IIIII)Z"⟩ ⟨"FastPlaneModel", "goesOn", "(IIIII)Z"⟩) ∈ lw_all := lw_g (lw_at lw_ms 101 rfl) rfl
theorem qs102 : (Cond.selects "FastPlaneModel" ⟨"FastPlaneModel", "paid", "(IIIII)Z"⟩ ⟨"FastPlaneModel", "paid", "(IIIII)Z"⟩) ∈ lw_all := lw_g (lw_at lw_ms 102 rfl) rfl
