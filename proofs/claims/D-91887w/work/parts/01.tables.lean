-- ===== PART A: goes FIRST, ahead of the names: the tables' words, and 'selects' of the private methods out of them =====
/-- a private method of a class that the tables say can be made, by its rows of tables_1 -/
def lw_okq (q : MethodName × Nat) : Prop := (q.1.cls ≠ "java/lang/invoke/MethodHandle" ∧ q.1.cls ≠ "java/lang/invoke/VarHandle") ∧ Cond.instantiable q.1.cls q.2 ∈ tables_1 ∧ Cond.privateMethod q.1 ∈ tables_1 ∧ Cond.instanceMethod q.1 ∈ tables_1
set_option maxRecDepth 100000
theorem lw_t1 {w : Cond} (h : w ∈ tables_1_1) : w ∈ tables_1 := List.mem_append_left _ h
theorem lw_t2 {w : Cond} (h : w ∈ tables_1_2) : w ∈ tables_1 := List.mem_append_right _ (List.mem_append_left _ h)
theorem lw_t3 {w : Cond} (h : w ∈ tables_1_3) : w ∈ tables_1 := List.mem_append_right _ (List.mem_append_right _ (List.mem_append_left _ h))
theorem lw_t4 {w : Cond} (h : w ∈ tables_1_4) : w ∈ tables_1 := List.mem_append_right _ (List.mem_append_right _ (List.mem_append_right _ (List.mem_append_left _ h)))
theorem lw_t5 {w : Cond} (h : w ∈ tables_1_5) : w ∈ tables_1 := List.mem_append_right _ (List.mem_append_right _ (List.mem_append_right _ (List.mem_append_right _ (List.mem_append_left _ h))))
theorem lw_t6 {w : Cond} (h : w ∈ tables_1_6) : w ∈ tables_1 := List.mem_append_right _ (List.mem_append_right _ (List.mem_append_right _ (List.mem_append_right _ (List.mem_append_right _ (List.mem_append_left _ h)))))
theorem lw_t7 {w : Cond} (h : w ∈ tables_1_7) : w ∈ tables_1 := List.mem_append_right _ (List.mem_append_right _ (List.mem_append_right _ (List.mem_append_right _ (List.mem_append_right _ (List.mem_append_right _ (List.mem_append_left _ h))))))
theorem lw_t8 {w : Cond} (h : w ∈ tables_1_8) : w ∈ tables_1 := List.mem_append_right _ (List.mem_append_right _ (List.mem_append_right _ (List.mem_append_right _ (List.mem_append_right _ (List.mem_append_right _ (List.mem_append_right _ (List.mem_append_left _ h)))))))
theorem lw_t9 {w : Cond} (h : w ∈ tables_1_9) : w ∈ tables_1 := List.mem_append_right _ (List.mem_append_right _ (List.mem_append_right _ (List.mem_append_right _ (List.mem_append_right _ (List.mem_append_right _ (List.mem_append_right _ (List.mem_append_right _ h)))))))
theorem lw_p0 : lw_okq (⟨"HotIron", "refuse", "(I)I"⟩, 20) := ⟨⟨by decide +kernel, by decide +kernel⟩, lw_t1 (List.mem_of_getElem? (i := 46) rfl), lw_t2 (List.mem_of_getElem? (i := 164) rfl), lw_t2 (List.mem_of_getElem? (i := 165) rfl)⟩
theorem lw_p1 : lw_okq (⟨"java/util/ArrayList", "grow", "(I)[Ljava/lang/Object;"⟩, 3) := ⟨⟨by decide +kernel, by decide +kernel⟩, lw_t1 (List.mem_of_getElem? (i := 60) rfl), lw_t2 (List.mem_of_getElem? (i := 235) rfl), lw_t2 (List.mem_of_getElem? (i := 236) rfl)⟩
theorem lw_p2 : lw_okq (⟨"HotIron", "done", "(I)I"⟩, 20) := ⟨⟨by decide +kernel, by decide +kernel⟩, lw_t1 (List.mem_of_getElem? (i := 46) rfl), lw_t3 (List.mem_of_getElem? (i := 13) rfl), lw_t3 (List.mem_of_getElem? (i := 14) rfl)⟩
theorem lw_p3 : lw_okq (⟨"HotIron", "told", "(I)I"⟩, 20) := ⟨⟨by decide +kernel, by decide +kernel⟩, lw_t1 (List.mem_of_getElem? (i := 46) rfl), lw_t3 (List.mem_of_getElem? (i := 21) rfl), lw_t3 (List.mem_of_getElem? (i := 22) rfl)⟩
theorem lw_p4 : lw_okq (⟨"HotIron", "puts", "([III)I"⟩, 20) := ⟨⟨by decide +kernel, by decide +kernel⟩, lw_t1 (List.mem_of_getElem? (i := 46) rfl), lw_t3 (List.mem_of_getElem? (i := 33) rfl), lw_t3 (List.mem_of_getElem? (i := 34) rfl)⟩
theorem lw_p5 : lw_okq (⟨"HotIron", "isCell", "(I)Z"⟩, 20) := ⟨⟨by decide +kernel, by decide +kernel⟩, lw_t1 (List.mem_of_getElem? (i := 46) rfl), lw_t3 (List.mem_of_getElem? (i := 37) rfl), lw_t3 (List.mem_of_getElem? (i := 38) rfl)⟩
theorem lw_p6 : lw_okq (⟨"HotIron", "four", "(I)V"⟩, 20) := ⟨⟨by decide +kernel, by decide +kernel⟩, lw_t1 (List.mem_of_getElem? (i := 46) rfl), lw_t3 (List.mem_of_getElem? (i := 60) rfl), lw_t3 (List.mem_of_getElem? (i := 61) rfl)⟩
theorem lw_p7 : lw_okq (⟨"java/lang/Throwable", "fillInStackTrace", "(I)Ljava/lang/Throwable;"⟩, 6) := ⟨⟨by decide +kernel, by decide +kernel⟩, lw_t3 (List.mem_of_getElem? (i := 101) rfl), lw_t3 (List.mem_of_getElem? (i := 99) rfl), lw_t3 (List.mem_of_getElem? (i := 100) rfl)⟩
theorem lw_p8 : lw_okq (⟨"HotIron$Reader", "next", "()V"⟩, 7) := ⟨⟨by decide +kernel, by decide +kernel⟩, lw_t3 (List.mem_of_getElem? (i := 159) rfl), lw_t3 (List.mem_of_getElem? (i := 194) rfl), lw_t3 (List.mem_of_getElem? (i := 195) rfl)⟩
theorem lw_p9 : lw_okq (⟨"HotIron$Reader", "isIn", "(III)Z"⟩, 7) := ⟨⟨by decide +kernel, by decide +kernel⟩, lw_t3 (List.mem_of_getElem? (i := 159) rfl), lw_t3 (List.mem_of_getElem? (i := 198) rfl), lw_t3 (List.mem_of_getElem? (i := 199) rfl)⟩
theorem lw_p10 : lw_okq (⟨"HotIron$Reader", "step", "()V"⟩, 7) := ⟨⟨by decide +kernel, by decide +kernel⟩, lw_t3 (List.mem_of_getElem? (i := 159) rfl), lw_t3 (List.mem_of_getElem? (i := 202) rfl), lw_t3 (List.mem_of_getElem? (i := 203) rfl)⟩
theorem lw_p11 : lw_okq (⟨"HotIron$Reader", "plainStep", "()LHotIron$Step;"⟩, 7) := ⟨⟨by decide +kernel, by decide +kernel⟩, lw_t3 (List.mem_of_getElem? (i := 159) rfl), lw_t3 (List.mem_of_getElem? (i := 231) rfl), lw_t3 (List.mem_of_getElem? (i := 232) rfl)⟩
theorem lw_p12 : lw_okq (⟨"HotIron$Reader", "takes", "(Ljava/lang/String;)Z"⟩, 7) := ⟨⟨by decide +kernel, by decide +kernel⟩, lw_t3 (List.mem_of_getElem? (i := 159) rfl), lw_t3 (List.mem_of_getElem? (i := 236) rfl), lw_t3 (List.mem_of_getElem? (i := 237) rfl)⟩
theorem lw_p13 : lw_okq (⟨"HotIron$Reader", "is", "(Ljava/lang/String;)Z"⟩, 7) := ⟨⟨by decide +kernel, by decide +kernel⟩, lw_t3 (List.mem_of_getElem? (i := 159) rfl), lw_t4 (List.mem_of_getElem? (i := 0) rfl), lw_t4 (List.mem_of_getElem? (i := 1) rfl)⟩
theorem lw_p14 : lw_okq (⟨"HotIron$Reader", "sum", "()LHotIron$Sum;"⟩, 7) := ⟨⟨by decide +kernel, by decide +kernel⟩, lw_t3 (List.mem_of_getElem? (i := 159) rfl), lw_t4 (List.mem_of_getElem? (i := 54) rfl), lw_t4 (List.mem_of_getElem? (i := 55) rfl)⟩
theorem lw_p15 : lw_okq (⟨"HotIron$Reader", "part", "()LHotIron$Sum;"⟩, 7) := ⟨⟨by decide +kernel, by decide +kernel⟩, lw_t3 (List.mem_of_getElem? (i := 159) rfl), lw_t4 (List.mem_of_getElem? (i := 58) rfl), lw_t4 (List.mem_of_getElem? (i := 59) rfl)⟩
def lw_privs_1 : List (MethodName × Nat) := [(⟨"HotIron", "refuse", "(I)I"⟩, 20), (⟨"java/util/ArrayList", "grow", "(I)[Ljava/lang/Object;"⟩, 3), (⟨"HotIron", "done", "(I)I"⟩, 20), (⟨"HotIron", "told", "(I)I"⟩, 20), (⟨"HotIron", "puts", "([III)I"⟩, 20), (⟨"HotIron", "isCell", "(I)Z"⟩, 20), (⟨"HotIron", "four", "(I)V"⟩, 20), (⟨"java/lang/Throwable", "fillInStackTrace", "(I)Ljava/lang/Throwable;"⟩, 6), (⟨"HotIron$Reader", "next", "()V"⟩, 7), (⟨"HotIron$Reader", "isIn", "(III)Z"⟩, 7), (⟨"HotIron$Reader", "step", "()V"⟩, 7), (⟨"HotIron$Reader", "plainStep", "()LHotIron$Step;"⟩, 7), (⟨"HotIron$Reader", "takes", "(Ljava/lang/String;)Z"⟩, 7), (⟨"HotIron$Reader", "is", "(Ljava/lang/String;)Z"⟩, 7), (⟨"HotIron$Reader", "sum", "()LHotIron$Sum;"⟩, 7), (⟨"HotIron$Reader", "part", "()LHotIron$Sum;"⟩, 7)]
theorem lw_r1 : ∀ q ∈ lw_privs_1, lw_okq q := List.forall_mem_cons.mpr ⟨lw_p0, List.forall_mem_cons.mpr ⟨lw_p1, List.forall_mem_cons.mpr ⟨lw_p2, List.forall_mem_cons.mpr ⟨lw_p3, List.forall_mem_cons.mpr ⟨lw_p4, List.forall_mem_cons.mpr ⟨lw_p5, List.forall_mem_cons.mpr ⟨lw_p6, List.forall_mem_cons.mpr ⟨lw_p7, List.forall_mem_cons.mpr ⟨lw_p8, List.forall_mem_cons.mpr ⟨lw_p9, List.forall_mem_cons.mpr ⟨lw_p10, List.forall_mem_cons.mpr ⟨lw_p11, List.forall_mem_cons.mpr ⟨lw_p12, List.forall_mem_cons.mpr ⟨lw_p13, List.forall_mem_cons.mpr ⟨lw_p14, List.forall_mem_cons.mpr ⟨lw_p15, fun _ h => absurd h List.not_mem_nil⟩⟩⟩⟩⟩⟩⟩⟩⟩⟩⟩⟩⟩⟩⟩⟩
theorem lw_p16 : lw_okq (⟨"HotIron$Reader", "told", "()I"⟩, 7) := ⟨⟨by decide +kernel, by decide +kernel⟩, lw_t3 (List.mem_of_getElem? (i := 159) rfl), lw_t4 (List.mem_of_getElem? (i := 63) rfl), lw_t4 (List.mem_of_getElem? (i := 64) rfl)⟩
theorem lw_p17 : lw_okq (⟨"HotIron$Reader", "leaf", "()V"⟩, 7) := ⟨⟨by decide +kernel, by decide +kernel⟩, lw_t3 (List.mem_of_getElem? (i := 159) rfl), lw_t4 (List.mem_of_getElem? (i := 73) rfl), lw_t4 (List.mem_of_getElem? (i := 74) rfl)⟩
theorem lw_p18 : lw_okq (⟨"HotIron$Reader", "number", "(II)I"⟩, 7) := ⟨⟨by decide +kernel, by decide +kernel⟩, lw_t3 (List.mem_of_getElem? (i := 159) rfl), lw_t4 (List.mem_of_getElem? (i := 79) rfl), lw_t4 (List.mem_of_getElem? (i := 80) rfl)⟩
theorem lw_p19 : lw_okq (⟨"HotIron$Reader", "inside", "(Ljava/lang/String;Ljava/lang/String;)LHotIron$Sum;"⟩, 7) := ⟨⟨by decide +kernel, by decide +kernel⟩, lw_t3 (List.mem_of_getElem? (i := 159) rfl), lw_t4 (List.mem_of_getElem? (i := 95) rfl), lw_t4 (List.mem_of_getElem? (i := 96) rfl)⟩
theorem lw_p20 : lw_okq (⟨"HotIron$Reader", "opens", "(Ljava/lang/String;)V"⟩, 7) := ⟨⟨by decide +kernel, by decide +kernel⟩, lw_t3 (List.mem_of_getElem? (i := 159) rfl), lw_t4 (List.mem_of_getElem? (i := 99) rfl), lw_t4 (List.mem_of_getElem? (i := 100) rfl)⟩
theorem lw_p21 : lw_okq (⟨"HotIron$Reader", "closes", "(Ljava/lang/String;)V"⟩, 7) := ⟨⟨by decide +kernel, by decide +kernel⟩, lw_t3 (List.mem_of_getElem? (i := 159) rfl), lw_t4 (List.mem_of_getElem? (i := 103) rfl), lw_t4 (List.mem_of_getElem? (i := 104) rfl)⟩
theorem lw_p22 : lw_okq (⟨"HotIron$Reader", "need", "(Ljava/lang/String;)V"⟩, 7) := ⟨⟨by decide +kernel, by decide +kernel⟩, lw_t3 (List.mem_of_getElem? (i := 159) rfl), lw_t4 (List.mem_of_getElem? (i := 107) rfl), lw_t4 (List.mem_of_getElem? (i := 108) rfl)⟩
theorem lw_p23 : lw_okq (⟨"HotIron$Reader", "test", "()LHotIron$Test;"⟩, 7) := ⟨⟨by decide +kernel, by decide +kernel⟩, lw_t3 (List.mem_of_getElem? (i := 159) rfl), lw_t5 (List.mem_of_getElem? (i := 3) rfl), lw_t5 (List.mem_of_getElem? (i := 4) rfl)⟩
theorem lw_p24 : lw_okq (⟨"HotIron$Reader", "both", "()LHotIron$Test;"⟩, 7) := ⟨⟨by decide +kernel, by decide +kernel⟩, lw_t3 (List.mem_of_getElem? (i := 159) rfl), lw_t5 (List.mem_of_getElem? (i := 7) rfl), lw_t5 (List.mem_of_getElem? (i := 8) rfl)⟩
theorem lw_p25 : lw_okq (⟨"HotIron$Reader", "plain", "()LHotIron$Test;"⟩, 7) := ⟨⟨by decide +kernel, by decide +kernel⟩, lw_t3 (List.mem_of_getElem? (i := 159) rfl), lw_t5 (List.mem_of_getElem? (i := 11) rfl), lw_t5 (List.mem_of_getElem? (i := 12) rfl)⟩
theorem lw_p26 : lw_okq (⟨"HotIron$Reader", "positive", "()LHotIron$Test;"⟩, 7) := ⟨⟨by decide +kernel, by decide +kernel⟩, lw_t3 (List.mem_of_getElem? (i := 159) rfl), lw_t5 (List.mem_of_getElem? (i := 16) rfl), lw_t5 (List.mem_of_getElem? (i := 17) rfl)⟩
theorem lw_p27 : lw_okq (⟨"java/util/ArrayList", "add", "(Ljava/lang/Object;[Ljava/lang/Object;I)V"⟩, 3) := ⟨⟨by decide +kernel, by decide +kernel⟩, lw_t1 (List.mem_of_getElem? (i := 60) rfl), lw_t5 (List.mem_of_getElem? (i := 73) rfl), lw_t5 (List.mem_of_getElem? (i := 74) rfl)⟩
theorem lw_p28 : lw_okq (⟨"java/util/ArrayList", "grow", "()[Ljava/lang/Object;"⟩, 3) := ⟨⟨by decide +kernel, by decide +kernel⟩, lw_t1 (List.mem_of_getElem? (i := 60) rfl), lw_t5 (List.mem_of_getElem? (i := 77) rfl), lw_t5 (List.mem_of_getElem? (i := 78) rfl)⟩
theorem lw_p29 : lw_okq (⟨"HotIron", "isRecipe", "(I)Z"⟩, 20) := ⟨⟨by decide +kernel, by decide +kernel⟩, lw_t1 (List.mem_of_getElem? (i := 46) rfl), lw_t5 (List.mem_of_getElem? (i := 92) rfl), lw_t5 (List.mem_of_getElem? (i := 93) rfl)⟩
theorem lw_p30 : lw_okq (⟨"HotIron", "goes", "(LHotIron$Work;IILHotIron$Hand;)I"⟩, 20) := ⟨⟨by decide +kernel, by decide +kernel⟩, lw_t1 (List.mem_of_getElem? (i := 46) rfl), lw_t5 (List.mem_of_getElem? (i := 113) rfl), lw_t5 (List.mem_of_getElem? (i := 114) rfl)⟩
theorem lw_p31 : lw_okq (⟨"HotIron$Work", "scales", "(I)V"⟩, 23) := ⟨⟨by decide +kernel, by decide +kernel⟩, lw_t1 (List.mem_of_getElem? (i := 125) rfl), lw_t5 (List.mem_of_getElem? (i := 194) rfl), lw_t5 (List.mem_of_getElem? (i := 195) rfl)⟩
def lw_privs_2 : List (MethodName × Nat) := [(⟨"HotIron$Reader", "told", "()I"⟩, 7), (⟨"HotIron$Reader", "leaf", "()V"⟩, 7), (⟨"HotIron$Reader", "number", "(II)I"⟩, 7), (⟨"HotIron$Reader", "inside", "(Ljava/lang/String;Ljava/lang/String;)LHotIron$Sum;"⟩, 7), (⟨"HotIron$Reader", "opens", "(Ljava/lang/String;)V"⟩, 7), (⟨"HotIron$Reader", "closes", "(Ljava/lang/String;)V"⟩, 7), (⟨"HotIron$Reader", "need", "(Ljava/lang/String;)V"⟩, 7), (⟨"HotIron$Reader", "test", "()LHotIron$Test;"⟩, 7), (⟨"HotIron$Reader", "both", "()LHotIron$Test;"⟩, 7), (⟨"HotIron$Reader", "plain", "()LHotIron$Test;"⟩, 7), (⟨"HotIron$Reader", "positive", "()LHotIron$Test;"⟩, 7), (⟨"java/util/ArrayList", "add", "(Ljava/lang/Object;[Ljava/lang/Object;I)V"⟩, 3), (⟨"java/util/ArrayList", "grow", "()[Ljava/lang/Object;"⟩, 3), (⟨"HotIron", "isRecipe", "(I)Z"⟩, 20), (⟨"HotIron", "goes", "(LHotIron$Work;IILHotIron$Hand;)I"⟩, 20), (⟨"HotIron$Work", "scales", "(I)V"⟩, 23)]
theorem lw_r2 : ∀ q ∈ lw_privs_2, lw_okq q := List.forall_mem_cons.mpr ⟨lw_p16, List.forall_mem_cons.mpr ⟨lw_p17, List.forall_mem_cons.mpr ⟨lw_p18, List.forall_mem_cons.mpr ⟨lw_p19, List.forall_mem_cons.mpr ⟨lw_p20, List.forall_mem_cons.mpr ⟨lw_p21, List.forall_mem_cons.mpr ⟨lw_p22, List.forall_mem_cons.mpr ⟨lw_p23, List.forall_mem_cons.mpr ⟨lw_p24, List.forall_mem_cons.mpr ⟨lw_p25, List.forall_mem_cons.mpr ⟨lw_p26, List.forall_mem_cons.mpr ⟨lw_p27, List.forall_mem_cons.mpr ⟨lw_p28, List.forall_mem_cons.mpr ⟨lw_p29, List.forall_mem_cons.mpr ⟨lw_p30, List.forall_mem_cons.mpr ⟨lw_p31, fun _ h => absurd h List.not_mem_nil⟩⟩⟩⟩⟩⟩⟩⟩⟩⟩⟩⟩⟩⟩⟩⟩
theorem lw_p32 : lw_okq (⟨"HotIron$Work", "uses", "(IZ)Z"⟩, 23) := ⟨⟨by decide +kernel, by decide +kernel⟩, lw_t1 (List.mem_of_getElem? (i := 125) rfl), lw_t5 (List.mem_of_getElem? (i := 211) rfl), lw_t5 (List.mem_of_getElem? (i := 212) rfl)⟩
theorem lw_p33 : lw_okq (⟨"HotIron$Work", "cools", "(I)V"⟩, 23) := ⟨⟨by decide +kernel, by decide +kernel⟩, lw_t1 (List.mem_of_getElem? (i := 125) rfl), lw_t5 (List.mem_of_getElem? (i := 215) rfl), lw_t5 (List.mem_of_getElem? (i := 216) rfl)⟩
theorem lw_p34 : lw_okq (⟨"HotIron$Plans", "totalOf", "([I)I"⟩, 18) := ⟨⟨by decide +kernel, by decide +kernel⟩, lw_t1 (List.mem_of_getElem? (i := 222) rfl), lw_t6 (List.mem_of_getElem? (i := 48) rfl), lw_t6 (List.mem_of_getElem? (i := 49) rfl)⟩
theorem lw_p35 : lw_okq (⟨"HotIron$Plans", "lays", "(III)I"⟩, 18) := ⟨⟨by decide +kernel, by decide +kernel⟩, lw_t1 (List.mem_of_getElem? (i := 222) rfl), lw_t6 (List.mem_of_getElem? (i := 57) rfl), lw_t6 (List.mem_of_getElem? (i := 58) rfl)⟩
theorem lw_p36 : lw_okq (⟨"HotIron$Plans", "is", "([BII)Z"⟩, 18) := ⟨⟨by decide +kernel, by decide +kernel⟩, lw_t1 (List.mem_of_getElem? (i := 222) rfl), lw_t6 (List.mem_of_getElem? (i := 61) rfl), lw_t6 (List.mem_of_getElem? (i := 62) rfl)⟩
theorem lw_p37 : lw_okq (⟨"HotIron$Plans", "leads", "(II)V"⟩, 18) := ⟨⟨by decide +kernel, by decide +kernel⟩, lw_t1 (List.mem_of_getElem? (i := 222) rfl), lw_t6 (List.mem_of_getElem? (i := 65) rfl), lw_t6 (List.mem_of_getElem? (i := 66) rfl)⟩
theorem lw_p38 : lw_okq (⟨"HotIron$Plans", "ironAt", "(II)I"⟩, 18) := ⟨⟨by decide +kernel, by decide +kernel⟩, lw_t1 (List.mem_of_getElem? (i := 222) rfl), lw_t6 (List.mem_of_getElem? (i := 70) rfl), lw_t6 (List.mem_of_getElem? (i := 71) rfl)⟩
theorem lw_p39 : lw_okq (⟨"HotIron$Plans", "adds", "(II)V"⟩, 18) := ⟨⟨by decide +kernel, by decide +kernel⟩, lw_t1 (List.mem_of_getElem? (i := 222) rfl), lw_t6 (List.mem_of_getElem? (i := 74) rfl), lw_t6 (List.mem_of_getElem? (i := 75) rfl)⟩
theorem lw_p40 : lw_okq (⟨"HotIron$Plans", "strikes", "(IIII)V"⟩, 18) := ⟨⟨by decide +kernel, by decide +kernel⟩, lw_t1 (List.mem_of_getElem? (i := 222) rfl), lw_t6 (List.mem_of_getElem? (i := 80) rfl), lw_t6 (List.mem_of_getElem? (i := 81) rfl)⟩
theorem lw_p41 : lw_okq (⟨"HotIron$Plans", "enters", "(II)V"⟩, 18) := ⟨⟨by decide +kernel, by decide +kernel⟩, lw_t1 (List.mem_of_getElem? (i := 222) rfl), lw_t6 (List.mem_of_getElem? (i := 84) rfl), lw_t6 (List.mem_of_getElem? (i := 85) rfl)⟩
theorem lw_p42 : lw_okq (⟨"HotIron$Plans", "marks", "(I)V"⟩, 18) := ⟨⟨by decide +kernel, by decide +kernel⟩, lw_t1 (List.mem_of_getElem? (i := 222) rfl), lw_t6 (List.mem_of_getElem? (i := 88) rfl), lw_t6 (List.mem_of_getElem? (i := 89) rfl)⟩
theorem lw_p43 : lw_okq (⟨"HotIron$Plans", "leadsTo", "(II[BI)Z"⟩, 18) := ⟨⟨by decide +kernel, by decide +kernel⟩, lw_t1 (List.mem_of_getElem? (i := 222) rfl), lw_t6 (List.mem_of_getElem? (i := 92) rfl), lw_t6 (List.mem_of_getElem? (i := 93) rfl)⟩
theorem lw_p44 : lw_okq (⟨"HotIron$Plans", "chooses", "(I)V"⟩, 18) := ⟨⟨by decide +kernel, by decide +kernel⟩, lw_t1 (List.mem_of_getElem? (i := 222) rfl), lw_t6 (List.mem_of_getElem? (i := 96) rfl), lw_t6 (List.mem_of_getElem? (i := 97) rfl)⟩
theorem lw_p45 : lw_okq (⟨"HotIron$Plans", "leadsOn", "(II)Z"⟩, 18) := ⟨⟨by decide +kernel, by decide +kernel⟩, lw_t1 (List.mem_of_getElem? (i := 222) rfl), lw_t6 (List.mem_of_getElem? (i := 100) rfl), lw_t6 (List.mem_of_getElem? (i := 101) rfl)⟩
theorem lw_p46 : lw_okq (⟨"HotIron$Plans", "walks", "(II)V"⟩, 18) := ⟨⟨by decide +kernel, by decide +kernel⟩, lw_t1 (List.mem_of_getElem? (i := 222) rfl), lw_t6 (List.mem_of_getElem? (i := 104) rfl), lw_t6 (List.mem_of_getElem? (i := 105) rfl)⟩
theorem lw_p47 : lw_okq (⟨"HotIron", "apart", "(II)I"⟩, 20) := ⟨⟨by decide +kernel, by decide +kernel⟩, lw_t1 (List.mem_of_getElem? (i := 46) rfl), lw_t6 (List.mem_of_getElem? (i := 153) rfl), lw_t6 (List.mem_of_getElem? (i := 154) rfl)⟩
def lw_privs_3 : List (MethodName × Nat) := [(⟨"HotIron$Work", "uses", "(IZ)Z"⟩, 23), (⟨"HotIron$Work", "cools", "(I)V"⟩, 23), (⟨"HotIron$Plans", "totalOf", "([I)I"⟩, 18), (⟨"HotIron$Plans", "lays", "(III)I"⟩, 18), (⟨"HotIron$Plans", "is", "([BII)Z"⟩, 18), (⟨"HotIron$Plans", "leads", "(II)V"⟩, 18), (⟨"HotIron$Plans", "ironAt", "(II)I"⟩, 18), (⟨"HotIron$Plans", "adds", "(II)V"⟩, 18), (⟨"HotIron$Plans", "strikes", "(IIII)V"⟩, 18), (⟨"HotIron$Plans", "enters", "(II)V"⟩, 18), (⟨"HotIron$Plans", "marks", "(I)V"⟩, 18), (⟨"HotIron$Plans", "leadsTo", "(II[BI)Z"⟩, 18), (⟨"HotIron$Plans", "chooses", "(I)V"⟩, 18), (⟨"HotIron$Plans", "leadsOn", "(II)Z"⟩, 18), (⟨"HotIron$Plans", "walks", "(II)V"⟩, 18), (⟨"HotIron", "apart", "(II)I"⟩, 20)]
theorem lw_r3 : ∀ q ∈ lw_privs_3, lw_okq q := List.forall_mem_cons.mpr ⟨lw_p32, List.forall_mem_cons.mpr ⟨lw_p33, List.forall_mem_cons.mpr ⟨lw_p34, List.forall_mem_cons.mpr ⟨lw_p35, List.forall_mem_cons.mpr ⟨lw_p36, List.forall_mem_cons.mpr ⟨lw_p37, List.forall_mem_cons.mpr ⟨lw_p38, List.forall_mem_cons.mpr ⟨lw_p39, List.forall_mem_cons.mpr ⟨lw_p40, List.forall_mem_cons.mpr ⟨lw_p41, List.forall_mem_cons.mpr ⟨lw_p42, List.forall_mem_cons.mpr ⟨lw_p43, List.forall_mem_cons.mpr ⟨lw_p44, List.forall_mem_cons.mpr ⟨lw_p45, List.forall_mem_cons.mpr ⟨lw_p46, List.forall_mem_cons.mpr ⟨lw_p47, fun _ h => absurd h List.not_mem_nil⟩⟩⟩⟩⟩⟩⟩⟩⟩⟩⟩⟩⟩⟩⟩⟩
theorem lw_p48 : lw_okq (⟨"HotIron$Gate", "goes", "(II)V"⟩, 7) := ⟨⟨by decide +kernel, by decide +kernel⟩, lw_t2 (List.mem_of_getElem? (i := 63) rfl), lw_t6 (List.mem_of_getElem? (i := 187) rfl), lw_t6 (List.mem_of_getElem? (i := 188) rfl)⟩
theorem lw_p49 : lw_okq (⟨"HotIronModel", "tell", "(I)I"⟩, 67) := ⟨⟨by decide +kernel, by decide +kernel⟩, lw_t6 (List.mem_of_getElem? (i := 204) rfl), lw_t7 (List.mem_of_getElem? (i := 181) rfl), lw_t7 (List.mem_of_getElem? (i := 182) rfl)⟩
theorem lw_p50 : lw_okq (⟨"HotIronModel", "forget", "()V"⟩, 67) := ⟨⟨by decide +kernel, by decide +kernel⟩, lw_t6 (List.mem_of_getElem? (i := 204) rfl), lw_t7 (List.mem_of_getElem? (i := 189) rfl), lw_t7 (List.mem_of_getElem? (i := 190) rfl)⟩
theorem lw_p51 : lw_okq (⟨"HotIronModel", "put", "(III)I"⟩, 67) := ⟨⟨by decide +kernel, by decide +kernel⟩, lw_t6 (List.mem_of_getElem? (i := 204) rfl), lw_t7 (List.mem_of_getElem? (i := 203) rfl), lw_t7 (List.mem_of_getElem? (i := 204) rfl)⟩
theorem lw_p52 : lw_okq (⟨"HotIronModel", "isCell", "(J)Z"⟩, 67) := ⟨⟨by decide +kernel, by decide +kernel⟩, lw_t6 (List.mem_of_getElem? (i := 204) rfl), lw_t7 (List.mem_of_getElem? (i := 207) rfl), lw_t7 (List.mem_of_getElem? (i := 208) rfl)⟩
theorem lw_p53 : lw_okq (⟨"HotIronModel", "four", "(I)V"⟩, 67) := ⟨⟨by decide +kernel, by decide +kernel⟩, lw_t6 (List.mem_of_getElem? (i := 204) rfl), lw_t7 (List.mem_of_getElem? (i := 238) rfl), lw_t7 (List.mem_of_getElem? (i := 239) rfl)⟩
theorem lw_p54 : lw_okq (⟨"HotIronModel", "begin", "()V"⟩, 67) := ⟨⟨by decide +kernel, by decide +kernel⟩, lw_t6 (List.mem_of_getElem? (i := 204) rfl), lw_t8 (List.mem_of_getElem? (i := 14) rfl), lw_t8 (List.mem_of_getElem? (i := 15) rfl)⟩
theorem lw_p55 : lw_okq (⟨"HotIronModel", "next", "()V"⟩, 67) := ⟨⟨by decide +kernel, by decide +kernel⟩, lw_t6 (List.mem_of_getElem? (i := 204) rfl), lw_t8 (List.mem_of_getElem? (i := 18) rfl), lw_t8 (List.mem_of_getElem? (i := 19) rfl)⟩
theorem lw_p56 : lw_okq (⟨"HotIronModel", "readStep", "()V"⟩, 67) := ⟨⟨by decide +kernel, by decide +kernel⟩, lw_t6 (List.mem_of_getElem? (i := 204) rfl), lw_t8 (List.mem_of_getElem? (i := 34) rfl), lw_t8 (List.mem_of_getElem? (i := 35) rfl)⟩
theorem lw_p57 : lw_okq (⟨"HotIronModel", "sortAt", "()I"⟩, 67) := ⟨⟨by decide +kernel, by decide +kernel⟩, lw_t6 (List.mem_of_getElem? (i := 204) rfl), lw_t8 (List.mem_of_getElem? (i := 38) rfl), lw_t8 (List.mem_of_getElem? (i := 39) rfl)⟩
theorem lw_p58 : lw_okq (⟨"HotIronModel", "isWord", "(J)Z"⟩, 67) := ⟨⟨by decide +kernel, by decide +kernel⟩, lw_t6 (List.mem_of_getElem? (i := 204) rfl), lw_t8 (List.mem_of_getElem? (i := 43) rfl), lw_t8 (List.mem_of_getElem? (i := 44) rfl)⟩
theorem lw_p59 : lw_okq (⟨"HotIronModel", "must", "(Z)V"⟩, 67) := ⟨⟨by decide +kernel, by decide +kernel⟩, lw_t6 (List.mem_of_getElem? (i := 204) rfl), lw_t8 (List.mem_of_getElem? (i := 52) rfl), lw_t8 (List.mem_of_getElem? (i := 53) rfl)⟩
theorem lw_p60 : lw_okq (⟨"HotIronModel", "wrong", "()V"⟩, 67) := ⟨⟨by decide +kernel, by decide +kernel⟩, lw_t6 (List.mem_of_getElem? (i := 204) rfl), lw_t8 (List.mem_of_getElem? (i := 56) rfl), lw_t8 (List.mem_of_getElem? (i := 57) rfl)⟩
theorem lw_p61 : lw_okq (⟨"HotIronModel", "number", "(J)I"⟩, 67) := ⟨⟨by decide +kernel, by decide +kernel⟩, lw_t6 (List.mem_of_getElem? (i := 204) rfl), lw_t8 (List.mem_of_getElem? (i := 61) rfl), lw_t8 (List.mem_of_getElem? (i := 62) rfl)⟩
theorem lw_p62 : lw_okq (⟨"HotIronModel", "readExpression", "(Z)V"⟩, 67) := ⟨⟨by decide +kernel, by decide +kernel⟩, lw_t6 (List.mem_of_getElem? (i := 204) rfl), lw_t8 (List.mem_of_getElem? (i := 65) rfl), lw_t8 (List.mem_of_getElem? (i := 66) rfl)⟩
theorem lw_p63 : lw_okq (⟨"HotIronModel", "readPlain", "()I"⟩, 67) := ⟨⟨by decide +kernel, by decide +kernel⟩, lw_t6 (List.mem_of_getElem? (i := 204) rfl), lw_t8 (List.mem_of_getElem? (i := 69) rfl), lw_t8 (List.mem_of_getElem? (i := 70) rfl)⟩
def lw_privs_4 : List (MethodName × Nat) := [(⟨"HotIron$Gate", "goes", "(II)V"⟩, 7), (⟨"HotIronModel", "tell", "(I)I"⟩, 67), (⟨"HotIronModel", "forget", "()V"⟩, 67), (⟨"HotIronModel", "put", "(III)I"⟩, 67), (⟨"HotIronModel", "isCell", "(J)Z"⟩, 67), (⟨"HotIronModel", "four", "(I)V"⟩, 67), (⟨"HotIronModel", "begin", "()V"⟩, 67), (⟨"HotIronModel", "next", "()V"⟩, 67), (⟨"HotIronModel", "readStep", "()V"⟩, 67), (⟨"HotIronModel", "sortAt", "()I"⟩, 67), (⟨"HotIronModel", "isWord", "(J)Z"⟩, 67), (⟨"HotIronModel", "must", "(Z)V"⟩, 67), (⟨"HotIronModel", "wrong", "()V"⟩, 67), (⟨"HotIronModel", "number", "(J)I"⟩, 67), (⟨"HotIronModel", "readExpression", "(Z)V"⟩, 67), (⟨"HotIronModel", "readPlain", "()I"⟩, 67)]
theorem lw_r4 : ∀ q ∈ lw_privs_4, lw_okq q := List.forall_mem_cons.mpr ⟨lw_p48, List.forall_mem_cons.mpr ⟨lw_p49, List.forall_mem_cons.mpr ⟨lw_p50, List.forall_mem_cons.mpr ⟨lw_p51, List.forall_mem_cons.mpr ⟨lw_p52, List.forall_mem_cons.mpr ⟨lw_p53, List.forall_mem_cons.mpr ⟨lw_p54, List.forall_mem_cons.mpr ⟨lw_p55, List.forall_mem_cons.mpr ⟨lw_p56, List.forall_mem_cons.mpr ⟨lw_p57, List.forall_mem_cons.mpr ⟨lw_p58, List.forall_mem_cons.mpr ⟨lw_p59, List.forall_mem_cons.mpr ⟨lw_p60, List.forall_mem_cons.mpr ⟨lw_p61, List.forall_mem_cons.mpr ⟨lw_p62, List.forall_mem_cons.mpr ⟨lw_p63, fun _ h => absurd h List.not_mem_nil⟩⟩⟩⟩⟩⟩⟩⟩⟩⟩⟩⟩⟩⟩⟩⟩
theorem lw_p64 : lw_okq (⟨"HotIronModel", "push", "(I)V"⟩, 67) := ⟨⟨by decide +kernel, by decide +kernel⟩, lw_t6 (List.mem_of_getElem? (i := 204) rfl), lw_t8 (List.mem_of_getElem? (i := 74) rfl), lw_t8 (List.mem_of_getElem? (i := 75) rfl)⟩
theorem lw_p65 : lw_okq (⟨"HotIronModel", "isSign", "(I)Z"⟩, 67) := ⟨⟨by decide +kernel, by decide +kernel⟩, lw_t6 (List.mem_of_getElem? (i := 204) rfl), lw_t8 (List.mem_of_getElem? (i := 78) rfl), lw_t8 (List.mem_of_getElem? (i := 79) rfl)⟩
theorem lw_p66 : lw_okq (⟨"HotIronModel", "open", "(ZI)V"⟩, 67) := ⟨⟨by decide +kernel, by decide +kernel⟩, lw_t6 (List.mem_of_getElem? (i := 204) rfl), lw_t8 (List.mem_of_getElem? (i := 82) rfl), lw_t8 (List.mem_of_getElem? (i := 83) rfl)⟩
theorem lw_p67 : lw_okq (⟨"HotIronModel", "readPart", "()I"⟩, 67) := ⟨⟨by decide +kernel, by decide +kernel⟩, lw_t6 (List.mem_of_getElem? (i := 204) rfl), lw_t8 (List.mem_of_getElem? (i := 86) rfl), lw_t8 (List.mem_of_getElem? (i := 87) rfl)⟩
theorem lw_p68 : lw_okq (⟨"HotIronModel", "wordAt", "()I"⟩, 67) := ⟨⟨by decide +kernel, by decide +kernel⟩, lw_t6 (List.mem_of_getElem? (i := 204) rfl), lw_t8 (List.mem_of_getElem? (i := 92) rfl), lw_t8 (List.mem_of_getElem? (i := 93) rfl)⟩
theorem lw_p69 : lw_okq (⟨"HotIronModel", "emit", "(II)V"⟩, 67) := ⟨⟨by decide +kernel, by decide +kernel⟩, lw_t6 (List.mem_of_getElem? (i := 204) rfl), lw_t8 (List.mem_of_getElem? (i := 100) rfl), lw_t8 (List.mem_of_getElem? (i := 101) rfl)⟩
theorem lw_p70 : lw_okq (⟨"HotIronModel", "behindSum", "(Z)I"⟩, 67) := ⟨⟨by decide +kernel, by decide +kernel⟩, lw_t6 (List.mem_of_getElem? (i := 204) rfl), lw_t8 (List.mem_of_getElem? (i := 105) rfl), lw_t8 (List.mem_of_getElem? (i := 106) rfl)⟩
theorem lw_p71 : lw_okq (⟨"HotIronModel", "settle", "(I)V"⟩, 67) := ⟨⟨by decide +kernel, by decide +kernel⟩, lw_t6 (List.mem_of_getElem? (i := 204) rfl), lw_t8 (List.mem_of_getElem? (i := 109) rfl), lw_t8 (List.mem_of_getElem? (i := 110) rfl)⟩
theorem lw_p72 : lw_okq (⟨"HotIronModel", "inner", "()I"⟩, 67) := ⟨⟨by decide +kernel, by decide +kernel⟩, lw_t6 (List.mem_of_getElem? (i := 204) rfl), lw_t8 (List.mem_of_getElem? (i := 116) rfl), lw_t8 (List.mem_of_getElem? (i := 117) rfl)⟩
theorem lw_p73 : lw_okq (⟨"HotIronModel", "isCompared", "()Z"⟩, 67) := ⟨⟨by decide +kernel, by decide +kernel⟩, lw_t6 (List.mem_of_getElem? (i := 204) rfl), lw_t8 (List.mem_of_getElem? (i := 120) rfl), lw_t8 (List.mem_of_getElem? (i := 121) rfl)⟩
theorem lw_p74 : lw_okq (⟨"HotIronModel", "behindTest", "()I"⟩, 67) := ⟨⟨by decide +kernel, by decide +kernel⟩, lw_t6 (List.mem_of_getElem? (i := 204) rfl), lw_t8 (List.mem_of_getElem? (i := 128) rfl), lw_t8 (List.mem_of_getElem? (i := 129) rfl)⟩
theorem lw_p75 : lw_okq (⟨"HotIronModel", "isRecipe", "(I)Z"⟩, 67) := ⟨⟨by decide +kernel, by decide +kernel⟩, lw_t6 (List.mem_of_getElem? (i := 204) rfl), lw_t8 (List.mem_of_getElem? (i := 140) rfl), lw_t8 (List.mem_of_getElem? (i := 141) rfl)⟩
theorem lw_p76 : lw_okq (⟨"HotIronModel", "goThrough", "(II)V"⟩, 67) := ⟨⟨by decide +kernel, by decide +kernel⟩, lw_t6 (List.mem_of_getElem? (i := 204) rfl), lw_t8 (List.mem_of_getElem? (i := 148) rfl), lw_t8 (List.mem_of_getElem? (i := 149) rfl)⟩
theorem lw_p77 : lw_okq (⟨"HotIronModel", "rest0", "()V"⟩, 67) := ⟨⟨by decide +kernel, by decide +kernel⟩, lw_t6 (List.mem_of_getElem? (i := 204) rfl), lw_t8 (List.mem_of_getElem? (i := 152) rfl), lw_t8 (List.mem_of_getElem? (i := 153) rfl)⟩
theorem lw_p78 : lw_okq (⟨"HotIronModel", "reckon", "(III)I"⟩, 67) := ⟨⟨by decide +kernel, by decide +kernel⟩, lw_t6 (List.mem_of_getElem? (i := 204) rfl), lw_t8 (List.mem_of_getElem? (i := 156) rfl), lw_t8 (List.mem_of_getElem? (i := 157) rfl)⟩
theorem lw_p79 : lw_okq (⟨"HotIronModel", "doStep", "(II)Z"⟩, 67) := ⟨⟨by decide +kernel, by decide +kernel⟩, lw_t6 (List.mem_of_getElem? (i := 204) rfl), lw_t8 (List.mem_of_getElem? (i := 163) rfl), lw_t8 (List.mem_of_getElem? (i := 164) rfl)⟩
def lw_privs_5 : List (MethodName × Nat) := [(⟨"HotIronModel", "push", "(I)V"⟩, 67), (⟨"HotIronModel", "isSign", "(I)Z"⟩, 67), (⟨"HotIronModel", "open", "(ZI)V"⟩, 67), (⟨"HotIronModel", "readPart", "()I"⟩, 67), (⟨"HotIronModel", "wordAt", "()I"⟩, 67), (⟨"HotIronModel", "emit", "(II)V"⟩, 67), (⟨"HotIronModel", "behindSum", "(Z)I"⟩, 67), (⟨"HotIronModel", "settle", "(I)V"⟩, 67), (⟨"HotIronModel", "inner", "()I"⟩, 67), (⟨"HotIronModel", "isCompared", "()Z"⟩, 67), (⟨"HotIronModel", "behindTest", "()I"⟩, 67), (⟨"HotIronModel", "isRecipe", "(I)Z"⟩, 67), (⟨"HotIronModel", "goThrough", "(II)V"⟩, 67), (⟨"HotIronModel", "rest0", "()V"⟩, 67), (⟨"HotIronModel", "reckon", "(III)I"⟩, 67), (⟨"HotIronModel", "doStep", "(II)Z"⟩, 67)]
theorem lw_r5 : ∀ q ∈ lw_privs_5, lw_okq q := List.forall_mem_cons.mpr ⟨lw_p64, List.forall_mem_cons.mpr ⟨lw_p65, List.forall_mem_cons.mpr ⟨lw_p66, List.forall_mem_cons.mpr ⟨lw_p67, List.forall_mem_cons.mpr ⟨lw_p68, List.forall_mem_cons.mpr ⟨lw_p69, List.forall_mem_cons.mpr ⟨lw_p70, List.forall_mem_cons.mpr ⟨lw_p71, List.forall_mem_cons.mpr ⟨lw_p72, List.forall_mem_cons.mpr ⟨lw_p73, List.forall_mem_cons.mpr ⟨lw_p74, List.forall_mem_cons.mpr ⟨lw_p75, List.forall_mem_cons.mpr ⟨lw_p76, List.forall_mem_cons.mpr ⟨lw_p77, List.forall_mem_cons.mpr ⟨lw_p78, List.forall_mem_cons.mpr ⟨lw_p79, fun _ h => absurd h List.not_mem_nil⟩⟩⟩⟩⟩⟩⟩⟩⟩⟩⟩⟩⟩⟩⟩⟩
theorem lw_p80 : lw_okq (⟨"HotIronModel", "fire", "(I)Z"⟩, 67) := ⟨⟨by decide +kernel, by decide +kernel⟩, lw_t6 (List.mem_of_getElem? (i := 204) rfl), lw_t8 (List.mem_of_getElem? (i := 167) rfl), lw_t8 (List.mem_of_getElem? (i := 168) rfl)⟩
theorem lw_p81 : lw_okq (⟨"HotIronModel", "lose", "(I)V"⟩, 67) := ⟨⟨by decide +kernel, by decide +kernel⟩, lw_t6 (List.mem_of_getElem? (i := 204) rfl), lw_t8 (List.mem_of_getElem? (i := 174) rfl), lw_t8 (List.mem_of_getElem? (i := 175) rfl)⟩
theorem lw_p82 : lw_okq (⟨"HotIronModel", "strike", "(II)V"⟩, 67) := ⟨⟨by decide +kernel, by decide +kernel⟩, lw_t6 (List.mem_of_getElem? (i := 204) rfl), lw_t8 (List.mem_of_getElem? (i := 178) rfl), lw_t8 (List.mem_of_getElem? (i := 179) rfl)⟩
theorem lw_p83 : lw_okq (⟨"HotIronModel", "isHot", "(I)Z"⟩, 67) := ⟨⟨by decide +kernel, by decide +kernel⟩, lw_t6 (List.mem_of_getElem? (i := 204) rfl), lw_t8 (List.mem_of_getElem? (i := 182) rfl), lw_t8 (List.mem_of_getElem? (i := 183) rfl)⟩
theorem lw_p84 : lw_okq (⟨"HotIronModel", "uses", "(ZI)Z"⟩, 67) := ⟨⟨by decide +kernel, by decide +kernel⟩, lw_t6 (List.mem_of_getElem? (i := 204) rfl), lw_t8 (List.mem_of_getElem? (i := 186) rfl), lw_t8 (List.mem_of_getElem? (i := 187) rfl)⟩
theorem lw_p85 : lw_okq (⟨"HotIronModel", "draw", "(I)I"⟩, 67) := ⟨⟨by decide +kernel, by decide +kernel⟩, lw_t6 (List.mem_of_getElem? (i := 204) rfl), lw_t8 (List.mem_of_getElem? (i := 190) rfl), lw_t8 (List.mem_of_getElem? (i := 191) rfl)⟩
theorem lw_p86 : lw_okq (⟨"HotIronModel", "punch", "(I)V"⟩, 67) := ⟨⟨by decide +kernel, by decide +kernel⟩, lw_t6 (List.mem_of_getElem? (i := 204) rfl), lw_t8 (List.mem_of_getElem? (i := 197) rfl), lw_t8 (List.mem_of_getElem? (i := 198) rfl)⟩
theorem lw_p87 : lw_okq (⟨"HotIronModel", "weld", "(I)V"⟩, 67) := ⟨⟨by decide +kernel, by decide +kernel⟩, lw_t6 (List.mem_of_getElem? (i := 204) rfl), lw_t8 (List.mem_of_getElem? (i := 201) rfl), lw_t8 (List.mem_of_getElem? (i := 202) rfl)⟩
theorem lw_p88 : lw_okq (⟨"HotIronModel", "keepIron", "()V"⟩, 67) := ⟨⟨by decide +kernel, by decide +kernel⟩, lw_t6 (List.mem_of_getElem? (i := 204) rfl), lw_t8 (List.mem_of_getElem? (i := 222) rfl), lw_t8 (List.mem_of_getElem? (i := 223) rfl)⟩
theorem lw_p89 : lw_okq (⟨"HotIronModel", "apart", "(I)I"⟩, 67) := ⟨⟨by decide +kernel, by decide +kernel⟩, lw_t6 (List.mem_of_getElem? (i := 204) rfl), lw_t8 (List.mem_of_getElem? (i := 226) rfl), lw_t8 (List.mem_of_getElem? (i := 227) rfl)⟩
theorem lw_p90 : lw_okq (⟨"HotIronModel", "findWeights", "()V"⟩, 67) := ⟨⟨by decide +kernel, by decide +kernel⟩, lw_t6 (List.mem_of_getElem? (i := 204) rfl), lw_t9 (List.mem_of_getElem? (i := 4) rfl), lw_t9 (List.mem_of_getElem? (i := 5) rfl)⟩
theorem lw_p91 : lw_okq (⟨"HotIronModel", "rowAt", "(I)I"⟩, 67) := ⟨⟨by decide +kernel, by decide +kernel⟩, lw_t6 (List.mem_of_getElem? (i := 204) rfl), lw_t9 (List.mem_of_getElem? (i := 8) rfl), lw_t9 (List.mem_of_getElem? (i := 9) rfl)⟩
theorem lw_p92 : lw_okq (⟨"HotIronModel", "findLevels", "(IIII)I"⟩, 67) := ⟨⟨by decide +kernel, by decide +kernel⟩, lw_t6 (List.mem_of_getElem? (i := 204) rfl), lw_t9 (List.mem_of_getElem? (i := 12) rfl), lw_t9 (List.mem_of_getElem? (i := 13) rfl)⟩
theorem lw_p93 : lw_okq (⟨"HotIronModel", "findSpread", "(III)V"⟩, 67) := ⟨⟨by decide +kernel, by decide +kernel⟩, lw_t6 (List.mem_of_getElem? (i := 204) rfl), lw_t9 (List.mem_of_getElem? (i := 16) rfl), lw_t9 (List.mem_of_getElem? (i := 17) rfl)⟩
theorem lw_p94 : lw_okq (⟨"HotIronModel", "ironOf", "(II)I"⟩, 67) := ⟨⟨by decide +kernel, by decide +kernel⟩, lw_t6 (List.mem_of_getElem? (i := 204) rfl), lw_t9 (List.mem_of_getElem? (i := 20) rfl), lw_t9 (List.mem_of_getElem? (i := 21) rfl)⟩
theorem lw_p95 : lw_okq (⟨"HotIronModel", "reach", "(I)V"⟩, 67) := ⟨⟨by decide +kernel, by decide +kernel⟩, lw_t6 (List.mem_of_getElem? (i := 204) rfl), lw_t9 (List.mem_of_getElem? (i := 24) rfl), lw_t9 (List.mem_of_getElem? (i := 25) rfl)⟩
def lw_privs_6 : List (MethodName × Nat) := [(⟨"HotIronModel", "fire", "(I)Z"⟩, 67), (⟨"HotIronModel", "lose", "(I)V"⟩, 67), (⟨"HotIronModel", "strike", "(II)V"⟩, 67), (⟨"HotIronModel", "isHot", "(I)Z"⟩, 67), (⟨"HotIronModel", "uses", "(ZI)Z"⟩, 67), (⟨"HotIronModel", "draw", "(I)I"⟩, 67), (⟨"HotIronModel", "punch", "(I)V"⟩, 67), (⟨"HotIronModel", "weld", "(I)V"⟩, 67), (⟨"HotIronModel", "keepIron", "()V"⟩, 67), (⟨"HotIronModel", "apart", "(I)I"⟩, 67), (⟨"HotIronModel", "findWeights", "()V"⟩, 67), (⟨"HotIronModel", "rowAt", "(I)I"⟩, 67), (⟨"HotIronModel", "findLevels", "(IIII)I"⟩, 67), (⟨"HotIronModel", "findSpread", "(III)V"⟩, 67), (⟨"HotIronModel", "ironOf", "(II)I"⟩, 67), (⟨"HotIronModel", "reach", "(I)V"⟩, 67)]
theorem lw_r6 : ∀ q ∈ lw_privs_6, lw_okq q := List.forall_mem_cons.mpr ⟨lw_p80, List.forall_mem_cons.mpr ⟨lw_p81, List.forall_mem_cons.mpr ⟨lw_p82, List.forall_mem_cons.mpr ⟨lw_p83, List.forall_mem_cons.mpr ⟨lw_p84, List.forall_mem_cons.mpr ⟨lw_p85, List.forall_mem_cons.mpr ⟨lw_p86, List.forall_mem_cons.mpr ⟨lw_p87, List.forall_mem_cons.mpr ⟨lw_p88, List.forall_mem_cons.mpr ⟨lw_p89, List.forall_mem_cons.mpr ⟨lw_p90, List.forall_mem_cons.mpr ⟨lw_p91, List.forall_mem_cons.mpr ⟨lw_p92, List.forall_mem_cons.mpr ⟨lw_p93, List.forall_mem_cons.mpr ⟨lw_p94, List.forall_mem_cons.mpr ⟨lw_p95, fun _ h => absurd h List.not_mem_nil⟩⟩⟩⟩⟩⟩⟩⟩⟩⟩⟩⟩⟩⟩⟩⟩
theorem lw_p96 : lw_okq (⟨"HotIronModel", "moveAll", "(II)V"⟩, 67) := ⟨⟨by decide +kernel, by decide +kernel⟩, lw_t6 (List.mem_of_getElem? (i := 204) rfl), lw_t9 (List.mem_of_getElem? (i := 28) rfl), lw_t9 (List.mem_of_getElem? (i := 29) rfl)⟩
theorem lw_p97 : lw_okq (⟨"HotIronModel", "findPlan", "()V"⟩, 67) := ⟨⟨by decide +kernel, by decide +kernel⟩, lw_t6 (List.mem_of_getElem? (i := 204) rfl), lw_t9 (List.mem_of_getElem? (i := 36) rfl), lw_t9 (List.mem_of_getElem? (i := 37) rfl)⟩
theorem lw_p98 : lw_okq (⟨"HotIronModel", "findToGo", "(I)V"⟩, 67) := ⟨⟨by decide +kernel, by decide +kernel⟩, lw_t6 (List.mem_of_getElem? (i := 204) rfl), lw_t9 (List.mem_of_getElem? (i := 40) rfl), lw_t9 (List.mem_of_getElem? (i := 41) rfl)⟩
theorem lw_p99 : lw_okq (⟨"HotIronModel", "leads", "(II[II)Z"⟩, 67) := ⟨⟨by decide +kernel, by decide +kernel⟩, lw_t6 (List.mem_of_getElem? (i := 204) rfl), lw_t9 (List.mem_of_getElem? (i := 44) rfl), lw_t9 (List.mem_of_getElem? (i := 45) rfl)⟩
theorem lw_p100 : lw_okq (⟨"HotIronModel", "chooseCell", "(I)V"⟩, 67) := ⟨⟨by decide +kernel, by decide +kernel⟩, lw_t6 (List.mem_of_getElem? (i := 204) rfl), lw_t9 (List.mem_of_getElem? (i := 48) rfl), lw_t9 (List.mem_of_getElem? (i := 49) rfl)⟩
theorem lw_p101 : lw_okq (⟨"HotIronModel", "doneBy", "(I)I"⟩, 67) := ⟨⟨by decide +kernel, by decide +kernel⟩, lw_t6 (List.mem_of_getElem? (i := 204) rfl), lw_t9 (List.mem_of_getElem? (i := 73) rfl), lw_t9 (List.mem_of_getElem? (i := 74) rfl)⟩
theorem lw_p102 : lw_okq (⟨"HotIronModel", "nextOrder", "()Z"⟩, 67) := ⟨⟨by decide +kernel, by decide +kernel⟩, lw_t6 (List.mem_of_getElem? (i := 204) rfl), lw_t9 (List.mem_of_getElem? (i := 77) rfl), lw_t9 (List.mem_of_getElem? (i := 78) rfl)⟩
theorem lw_p103 : lw_okq (⟨"HotIronModel", "exchange", "(II)V"⟩, 67) := ⟨⟨by decide +kernel, by decide +kernel⟩, lw_t6 (List.mem_of_getElem? (i := 204) rfl), lw_t9 (List.mem_of_getElem? (i := 81) rfl), lw_t9 (List.mem_of_getElem? (i := 82) rfl)⟩
def lw_privs_7 : List (MethodName × Nat) := [(⟨"HotIronModel", "moveAll", "(II)V"⟩, 67), (⟨"HotIronModel", "findPlan", "()V"⟩, 67), (⟨"HotIronModel", "findToGo", "(I)V"⟩, 67), (⟨"HotIronModel", "leads", "(II[II)Z"⟩, 67), (⟨"HotIronModel", "chooseCell", "(I)V"⟩, 67), (⟨"HotIronModel", "doneBy", "(I)I"⟩, 67), (⟨"HotIronModel", "nextOrder", "()Z"⟩, 67), (⟨"HotIronModel", "exchange", "(II)V"⟩, 67)]
theorem lw_r7 : ∀ q ∈ lw_privs_7, lw_okq q := List.forall_mem_cons.mpr ⟨lw_p96, List.forall_mem_cons.mpr ⟨lw_p97, List.forall_mem_cons.mpr ⟨lw_p98, List.forall_mem_cons.mpr ⟨lw_p99, List.forall_mem_cons.mpr ⟨lw_p100, List.forall_mem_cons.mpr ⟨lw_p101, List.forall_mem_cons.mpr ⟨lw_p102, List.forall_mem_cons.mpr ⟨lw_p103, fun _ h => absurd h List.not_mem_nil⟩⟩⟩⟩⟩⟩⟩⟩
def lw_privs : List (MethodName × Nat) := lw_privs_1 ++ (lw_privs_2 ++ (lw_privs_3 ++ (lw_privs_4 ++ (lw_privs_5 ++ (lw_privs_6 ++ (lw_privs_7))))))
def lw_tbl : List Cond := k2_sels lw_privs ++ tables_1
theorem lw_privs_ok : ∀ q ∈ lw_privs, lw_okq q := by
  show ∀ q ∈ lw_privs_1 ++ (lw_privs_2 ++ (lw_privs_3 ++ (lw_privs_4 ++ (lw_privs_5 ++ (lw_privs_6 ++ (lw_privs_7)))))), lw_okq q
  exact List.forall_mem_append.mpr ⟨lw_r1, List.forall_mem_append.mpr ⟨lw_r2, List.forall_mem_append.mpr ⟨lw_r3, List.forall_mem_append.mpr ⟨lw_r4, List.forall_mem_append.mpr ⟨lw_r5, List.forall_mem_append.mpr ⟨lw_r6, lw_r7⟩⟩⟩⟩⟩⟩
-- ===== ONE list of words for every method: the tables' words that hold all through a run =====
def lw_all : List Cond := lw_tbl.filter goodWord
/-- a word of the tables by its place: claim/WORDS.tsv -/
theorem lw_w {w : Cond} (i : Nat) (h : lw_tbl[i]? = some w) (g : goodWord w = true) : w ∈ lw_all := List.mem_filter.mpr ⟨List.mem_of_getElem? h, g⟩
theorem lw_all_tbl {w : Cond} (h : w ∈ lw_all) : w ∈ lw_tbl := (List.mem_filter.mp h).1
theorem lw_self : GoodIn lw_all lw_all := fun w h => ⟨h, good_of_word (List.mem_filter.mp h).2⟩
/-- a class's field words, by their places -/
theorem lw_in (ws : List Cond) (ps : List Nat) (hp : ws = ps.filterMap (fun i => lw_tbl[i]?)) (hg : ws.all goodWord = true) : ∀ w ∈ ws, w ∈ lw_all := by
  intro w h
  have h1 := List.all_eq_true.mp hg w h
  rw [hp] at h
  obtain ⟨i, -, hi⟩ := List.mem_filterMap.mp h
  exact lw_w i hi h1
/-- the words of a contract for the method y with code b, L locals, answer r -/
abbrev ws_ (y : MethodName) (b : ByteArray) (L : Nat) (r : Option FieldType) : List Cond := Cond.code y b L r :: lw_all
theorem lw_meth {y : MethodName} {b : ByteArray} {L : Nat} {r : Option FieldType} (h : Cond.code y b L r ∈ lw_all) : GoodIn lw_all (ws_ y b L r) := by
  intro w hw
  rcases List.mem_cons.mp hw with e | e
  · rw [e]
    exact lw_self _ h
  · exact lw_self _ e
theorem lw_app {a c : List Cond} (ha : ∀ w ∈ a, w ∈ lw_all) (hc : GoodIn lw_all c) : GoodIn lw_all (a ++ c) := by
  intro w hw
  rcases List.mem_append.mp hw with e | e
  · exact lw_self w (ha w e)
  · exact hc w e
/-- what a call through an object asks: cwV n hts (lw_V ..) -/
theorem lw_V {own : String} {idx : Nat} {C : String} {y : MethodName} {b : ByteArray} {L : Nat} {r : Option FieldType} (h1 : Cond.methodLink own idx y ∈ lw_all) (h2 : Cond.instanceMethod y ∈ lw_all) (h3 : Cond.selects C y y ∈ lw_all) (h4 : Cond.initialized C ∈ lw_all) (h5 : Cond.code y b L r ∈ lw_all) : GoodIn lw_all (wsV own idx C y (ws_ y b L r)) := by
  refine lw_app ?_ (lw_meth h5)
  intro w hw
  simp only [List.mem_cons, List.not_mem_nil, or_false] at hw
  rcases hw with e | e | e | e
  · rw [e]; exact h1
  · rw [e]; exact h2
  · rw [e]; exact h3
  · rw [e]; exact h4
/-- what a static call asks: va_cwS n hts (lw_S ..) -/
theorem lw_S {own : String} {idx : Nat} {y : MethodName} {b : ByteArray} {L : Nat} {r : Option FieldType} (h1 : Cond.methodLink own idx y ∈ lw_all) (h2 : Cond.static y ∈ lw_all) (h3 : Cond.initialized y.cls ∈ lw_all) (h4 : Cond.code y b L r ∈ lw_all) : GoodIn lw_all (va_wsS own idx y (ws_ y b L r)) := by
  refine lw_app ?_ (lw_meth h4)
  intro w hw
  simp only [List.mem_cons, List.not_mem_nil, or_false] at hw
  rcases hw with e | e | e
  · rw [e]; exact h1
  · rw [e]; exact h2
  · rw [e]; exact h3
/-- the words of a contract for a method WITH HANDLERS (hh: its table) -/
abbrev wsW_ (y : MethodName) (b : ByteArray) (L : Nat) (r : Option FieldType) (hh : List (Nat × Nat × Nat × Nat)) : List Cond := Cond.codeWith y b L r hh :: lw_all
theorem lw_methW {y : MethodName} {b : ByteArray} {L : Nat} {r : Option FieldType} {hh : List (Nat × Nat × Nat × Nat)} (h : Cond.codeWith y b L r hh ∈ lw_all) : GoodIn lw_all (wsW_ y b L r hh) := by
  intro w hw
  rcases List.mem_cons.mp hw with e | e
  · rw [e]
    exact lw_self _ h
  · exact lw_self _ e
/-- any list of words by their places (lw_in), good -/
theorem lw_good {ws : List Cond} (h : ∀ w ∈ ws, w ∈ lw_all) : GoodIn lw_all ws := fun w hw => lw_self w (h w hw)
/-- what a call of a method with handlers asks: vx_cwVW n hts (lw_VW ..), vx_cwSW n hts (lw_SW ..) -/
theorem lw_VW {own : String} {idx : Nat} {C : String} {y : MethodName} {b : ByteArray} {L : Nat} {r : Option FieldType} {hh : List (Nat × Nat × Nat × Nat)} (h1 : Cond.methodLink own idx y ∈ lw_all) (h2 : Cond.instanceMethod y ∈ lw_all) (h3 : Cond.selects C y y ∈ lw_all) (h4 : Cond.initialized C ∈ lw_all) (h5 : Cond.codeWith y b L r hh ∈ lw_all) : GoodIn lw_all (wsV own idx C y (wsW_ y b L r hh)) := by
  refine lw_app ?_ (lw_methW h5)
  intro w hw
  simp only [List.mem_cons, List.not_mem_nil, or_false] at hw
  rcases hw with e | e | e | e
  · rw [e]; exact h1
  · rw [e]; exact h2
  · rw [e]; exact h3
  · rw [e]; exact h4
theorem lw_SW {own : String} {idx : Nat} {y : MethodName} {b : ByteArray} {L : Nat} {r : Option FieldType} {hh : List (Nat × Nat × Nat × Nat)} (h1 : Cond.methodLink own idx y ∈ lw_all) (h2 : Cond.static y ∈ lw_all) (h3 : Cond.initialized y.cls ∈ lw_all) (h4 : Cond.codeWith y b L r hh ∈ lw_all) : GoodIn lw_all (va_wsS own idx y (wsW_ y b L r hh)) := by
  refine lw_app ?_ (lw_methW h4)
  intro w hw
  simp only [List.mem_cons, List.not_mem_nil, or_false] at hw
  rcases hw with e | e | e
  · rw [e]; exact h1
  · rw [e]; exact h2
  · rw [e]; exact h3
/-- a word by its place in its run of the tables -/
theorem lw_at {r : List Cond} (hr : ∀ w ∈ r, w ∈ lw_tbl) {w : Cond} (i : Nat) (h : r[i]? = some w) : w ∈ lw_tbl := hr w (List.mem_of_getElem? h)
theorem lw_g {w : Cond} (h : w ∈ lw_tbl) (g : goodWord w = true) : w ∈ lw_all := List.mem_filter.mpr ⟨h, g⟩
theorem lw_ms : ∀ w ∈ k2_sels lw_privs, w ∈ lw_tbl := fun w h => show w ∈ k2_sels lw_privs ++ tables_1 from List.mem_append_left _ h
theorem lw_m1 : ∀ w ∈ tables_1_1, w ∈ lw_tbl := fun w h => show w ∈ k2_sels lw_privs ++ tables_1 from List.mem_append_right (k2_sels lw_privs) (show w ∈ tables_1 from List.mem_append_left _ h)
theorem lw_m2 : ∀ w ∈ tables_1_2, w ∈ lw_tbl := fun w h => show w ∈ k2_sels lw_privs ++ tables_1 from List.mem_append_right (k2_sels lw_privs) (show w ∈ tables_1 from List.mem_append_right _ (List.mem_append_left _ h))
theorem lw_m3 : ∀ w ∈ tables_1_3, w ∈ lw_tbl := fun w h => show w ∈ k2_sels lw_privs ++ tables_1 from List.mem_append_right (k2_sels lw_privs) (show w ∈ tables_1 from List.mem_append_right _ (List.mem_append_right _ (List.mem_append_left _ h)))
theorem lw_m4 : ∀ w ∈ tables_1_4, w ∈ lw_tbl := fun w h => show w ∈ k2_sels lw_privs ++ tables_1 from List.mem_append_right (k2_sels lw_privs) (show w ∈ tables_1 from List.mem_append_right _ (List.mem_append_right _ (List.mem_append_right _ (List.mem_append_left _ h))))
theorem lw_m5 : ∀ w ∈ tables_1_5, w ∈ lw_tbl := fun w h => show w ∈ k2_sels lw_privs ++ tables_1 from List.mem_append_right (k2_sels lw_privs) (show w ∈ tables_1 from List.mem_append_right _ (List.mem_append_right _ (List.mem_append_right _ (List.mem_append_right _ (List.mem_append_left _ h)))))
theorem lw_m6 : ∀ w ∈ tables_1_6, w ∈ lw_tbl := fun w h => show w ∈ k2_sels lw_privs ++ tables_1 from List.mem_append_right (k2_sels lw_privs) (show w ∈ tables_1 from List.mem_append_right _ (List.mem_append_right _ (List.mem_append_right _ (List.mem_append_right _ (List.mem_append_right _ (List.mem_append_left _ h))))))
theorem lw_m7 : ∀ w ∈ tables_1_7, w ∈ lw_tbl := fun w h => show w ∈ k2_sels lw_privs ++ tables_1 from List.mem_append_right (k2_sels lw_privs) (show w ∈ tables_1 from List.mem_append_right _ (List.mem_append_right _ (List.mem_append_right _ (List.mem_append_right _ (List.mem_append_right _ (List.mem_append_right _ (List.mem_append_left _ h)))))))
theorem lw_m8 : ∀ w ∈ tables_1_8, w ∈ lw_tbl := fun w h => show w ∈ k2_sels lw_privs ++ tables_1 from List.mem_append_right (k2_sels lw_privs) (show w ∈ tables_1 from List.mem_append_right _ (List.mem_append_right _ (List.mem_append_right _ (List.mem_append_right _ (List.mem_append_right _ (List.mem_append_right _ (List.mem_append_right _ (List.mem_append_left _ h))))))))
theorem lw_m9 : ∀ w ∈ tables_1_9, w ∈ lw_tbl := fun w h => show w ∈ k2_sels lw_privs ++ tables_1 from List.mem_append_right (k2_sels lw_privs) (show w ∈ tables_1 from List.mem_append_right _ (List.mem_append_right _ (List.mem_append_right _ (List.mem_append_right _ (List.mem_append_right _ (List.mem_append_right _ (List.mem_append_right _ (List.mem_append_right _ h))))))))
theorem qs0 : (Cond.selects "HotIron" ⟨"HotIron", "refuse", "(I)I"⟩ ⟨"HotIron", "refuse", "(I)I"⟩) ∈ lw_all := lw_g (lw_at lw_ms 0 rfl) rfl
theorem qs1 : (Cond.selects "java/util/ArrayList" ⟨"java/util/ArrayList", "grow", "(I)[Ljava/lang/Object;"⟩ ⟨"java/util/ArrayList", "grow", "(I)[Ljava/lang/Object;"⟩) ∈ lw_all := lw_g (lw_at lw_ms 1 rfl) rfl
theorem qs2 : (Cond.selects "HotIron" ⟨"HotIron", "done", "(I)I"⟩ ⟨"HotIron", "done", "(I)I"⟩) ∈ lw_all := lw_g (lw_at lw_ms 2 rfl) rfl
theorem qs3 : (Cond.selects "HotIron" ⟨"HotIron", "told", "(I)I"⟩ ⟨"HotIron", "told", "(I)I"⟩) ∈ lw_all := lw_g (lw_at lw_ms 3 rfl) rfl
theorem qs4 : (Cond.selects "HotIron" ⟨"HotIron", "puts", "([III)I"⟩ ⟨"HotIron", "puts", "([III)I"⟩) ∈ lw_all := lw_g (lw_at lw_ms 4 rfl) rfl
theorem qs5 : (Cond.selects "HotIron" ⟨"HotIron", "isCell", "(I)Z"⟩ ⟨"HotIron", "isCell", "(I)Z"⟩) ∈ lw_all := lw_g (lw_at lw_ms 5 rfl) rfl
theorem qs6 : (Cond.selects "HotIron" ⟨"HotIron", "four", "(I)V"⟩ ⟨"HotIron", "four", "(I)V"⟩) ∈ lw_all := lw_g (lw_at lw_ms 6 rfl) rfl
theorem qs7 : (Cond.selects "java/lang/Throwable" ⟨"java/lang/Throwable", "fillInStackTrace", "(I)Ljava/lang/Throwable;"⟩ ⟨"java/lang/Throwable", "fillInStackTrace", "(I)Ljava/lang/Throwable;"⟩) ∈ lw_all := lw_g (lw_at lw_ms 7 rfl) rfl
theorem qs8 : (Cond.selects "HotIron$Reader" ⟨"HotIron$Reader", "next", "()V"⟩ ⟨"HotIron$Reader", "next", "()V"⟩) ∈ lw_all := lw_g (lw_at lw_ms 8 rfl) rfl
theorem qs9 : (Cond.selects "HotIron$Reader" ⟨"HotIron$Reader", "isIn", "(III)Z"⟩ ⟨"HotIron$Reader", "isIn", "(III)Z"⟩) ∈ lw_all := lw_g (lw_at lw_ms 9 rfl) rfl
theorem qs10 : (Cond.selects "HotIron$Reader" ⟨"HotIron$Reader", "step", "()V"⟩ ⟨"HotIron$Reader", "step", "()V"⟩) ∈ lw_all := lw_g (lw_at lw_ms 10 rfl) rfl
theorem qs11 : (Cond.selects "HotIron$Reader" ⟨"HotIron$Reader", "plainStep", "()LHotIron$Step;"⟩ ⟨"HotIron$Reader", "plainStep", "()LHotIron$Step;"⟩) ∈ lw_all := lw_g (lw_at lw_ms 11 rfl) rfl
theorem qs12 : (Cond.selects "HotIron$Reader" ⟨"HotIron$Reader", "takes", "(Ljava/lang/String;)Z"⟩ ⟨"HotIron$Reader", "takes", "(Ljava/lang/String;)Z"⟩) ∈ lw_all := lw_g (lw_at lw_ms 12 rfl) rfl
theorem qs13 : (Cond.selects "HotIron$Reader" ⟨"HotIron$Reader", "is", "(Ljava/lang/String;)Z"⟩ ⟨"HotIron$Reader", "is", "(Ljava/lang/String;)Z"⟩) ∈ lw_all := lw_g (lw_at lw_ms 13 rfl) rfl
theorem qs14 : (Cond.selects "HotIron$Reader" ⟨"HotIron$Reader", "sum", "()LHotIron$Sum;"⟩ ⟨"HotIron$Reader", "sum", "()LHotIron$Sum;"⟩) ∈ lw_all := lw_g (lw_at lw_ms 14 rfl) rfl
theorem qs15 : (Cond.selects "HotIron$Reader" ⟨"HotIron$Reader", "part", "()LHotIron$Sum;"⟩ ⟨"HotIron$Reader", "part", "()LHotIron$Sum;"⟩) ∈ lw_all := lw_g (lw_at lw_ms 15 rfl) rfl
theorem qs16 : (Cond.selects "HotIron$Reader" ⟨"HotIron$Reader", "told", "()I"⟩ ⟨"HotIron$Reader", "told", "()I"⟩) ∈ lw_all := lw_g (lw_at lw_ms 16 rfl) rfl
theorem qs17 : (Cond.selects "HotIron$Reader" ⟨"HotIron$Reader", "leaf", "()V"⟩ ⟨"HotIron$Reader", "leaf", "()V"⟩) ∈ lw_all := lw_g (lw_at lw_ms 17 rfl) rfl
theorem qs18 : (Cond.selects "HotIron$Reader" ⟨"HotIron$Reader", "number", "(II)I"⟩ ⟨"HotIron$Reader", "number", "(II)I"⟩) ∈ lw_all := lw_g (lw_at lw_ms 18 rfl) rfl
theorem qs19 : (Cond.selects "HotIron$Reader" ⟨"HotIron$Reader", "inside", "(Ljava/lang/String;Ljava/lang/String;)LHotIron$Sum;"⟩ ⟨"HotIron$Reader", "inside", "(Ljava/lang/String;Ljava/lang/String;)LHotIron$Sum;"⟩) ∈ lw_all := lw_g (lw_at lw_ms 19 rfl) rfl
theorem qs20 : (Cond.selects "HotIron$Reader" ⟨"HotIron$Reader", "opens", "(Ljava/lang/String;)V"⟩ ⟨"HotIron$Reader", "opens", "(Ljava/lang/String;)V"⟩) ∈ lw_all := lw_g (lw_at lw_ms 20 rfl) rfl
theorem qs21 : (Cond.selects "HotIron$Reader" ⟨"HotIron$Reader", "closes", "(Ljava/lang/String;)V"⟩ ⟨"HotIron$Reader", "closes", "(Ljava/lang/String;)V"⟩) ∈ lw_all := lw_g (lw_at lw_ms 21 rfl) rfl
theorem qs22 : (Cond.selects "HotIron$Reader" ⟨"HotIron$Reader", "need", "(Ljava/lang/String;)V"⟩ ⟨"HotIron$Reader", "need", "(Ljava/lang/String;)V"⟩) ∈ lw_all := lw_g (lw_at lw_ms 22 rfl) rfl
theorem qs23 : (Cond.selects "HotIron$Reader" ⟨"HotIron$Reader", "test", "()LHotIron$Test;"⟩ ⟨"HotIron$Reader", "test", "()LHotIron$Test;"⟩) ∈ lw_all := lw_g (lw_at lw_ms 23 rfl) rfl
theorem qs24 : (Cond.selects "HotIron$Reader" ⟨"HotIron$Reader", "both", "()LHotIron$Test;"⟩ ⟨"HotIron$Reader", "both", "()LHotIron$Test;"⟩) ∈ lw_all := lw_g (lw_at lw_ms 24 rfl) rfl
theorem qs25 : (Cond.selects "HotIron$Reader" ⟨"HotIron$Reader", "plain", "()LHotIron$Test;"⟩ ⟨"HotIron$Reader", "plain", "()LHotIron$Test;"⟩) ∈ lw_all := lw_g (lw_at lw_ms 25 rfl) rfl
theorem qs26 : (Cond.selects "HotIron$Reader" ⟨"HotIron$Reader", "positive", "()LHotIron$Test;"⟩ ⟨"HotIron$Reader", "positive", "()LHotIron$Test;"⟩) ∈ lw_all := lw_g (lw_at lw_ms 26 rfl) rfl
theorem qs27 : (Cond.selects "java/util/ArrayList" ⟨"java/util/ArrayList", "add", "(Ljava/lang/Object;[Ljava/lang/Object;I)V"⟩ ⟨"java/util/ArrayList", "add", "(Ljava/lang/Object;[Ljava/lang/Object;I)V"⟩) ∈ lw_all := lw_g (lw_at lw_ms 27 rfl) rfl
theorem qs28 : (Cond.selects "java/util/ArrayList" ⟨"java/util/ArrayList", "grow", "()[Ljava/lang/Object;"⟩ ⟨"java/util/ArrayList", "grow", "()[Ljava/lang/Object;"⟩) ∈ lw_all := lw_g (lw_at lw_ms 28 rfl) rfl
theorem qs29 : (Cond.selects "HotIron" ⟨"HotIron", "isRecipe", "(I)Z"⟩ ⟨"HotIron", "isRecipe", "(I)Z"⟩) ∈ lw_all := lw_g (lw_at lw_ms 29 rfl) rfl
theorem qs30 : (Cond.selects "HotIron" ⟨"HotIron", "goes", "(LHotIron$Work;IILHotIron$Hand;)I"⟩ ⟨"HotIron", "goes", "(LHotIron$Work;IILHotIron$Hand;)I"⟩) ∈ lw_all := lw_g (lw_at lw_ms 30 rfl) rfl
theorem qs31 : (Cond.selects "HotIron$Work" ⟨"HotIron$Work", "scales", "(I)V"⟩ ⟨"HotIron$Work", "scales", "(I)V"⟩) ∈ lw_all := lw_g (lw_at lw_ms 31 rfl) rfl
theorem qs32 : (Cond.selects "HotIron$Work" ⟨"HotIron$Work", "uses", "(IZ)Z"⟩ ⟨"HotIron$Work", "uses", "(IZ)Z"⟩) ∈ lw_all := lw_g (lw_at lw_ms 32 rfl) rfl
theorem qs33 : (Cond.selects "HotIron$Work" ⟨"HotIron$Work", "cools", "(I)V"⟩ ⟨"HotIron$Work", "cools", "(I)V"⟩) ∈ lw_all := lw_g (lw_at lw_ms 33 rfl) rfl
theorem qs34 : (Cond.selects "HotIron$Plans" ⟨"HotIron$Plans", "totalOf", "([I)I"⟩ ⟨"HotIron$Plans", "totalOf", "([I)I"⟩) ∈ lw_all := lw_g (lw_at lw_ms 34 rfl) rfl
theorem qs35 : (Cond.selects "HotIron$Plans" ⟨"HotIron$Plans", "lays", "(III)I"⟩ ⟨"HotIron$Plans", "lays", "(III)I"⟩) ∈ lw_all := lw_g (lw_at lw_ms 35 rfl) rfl
theorem qs36 : (Cond.selects "HotIron$Plans" ⟨"HotIron$Plans", "is", "([BII)Z"⟩ ⟨"HotIron$Plans", "is", "([BII)Z"⟩) ∈ lw_all := lw_g (lw_at lw_ms 36 rfl) rfl
theorem qs37 : (Cond.selects "HotIron$Plans" ⟨"HotIron$Plans", "leads", "(II)V"⟩ ⟨"HotIron$Plans", "leads", "(II)V"⟩) ∈ lw_all := lw_g (lw_at lw_ms 37 rfl) rfl
theorem qs38 : (Cond.selects "HotIron$Plans" ⟨"HotIron$Plans", "ironAt", "(II)I"⟩ ⟨"HotIron$Plans", "ironAt", "(II)I"⟩) ∈ lw_all := lw_g (lw_at lw_ms 38 rfl) rfl
theorem qs39 : (Cond.selects "HotIron$Plans" ⟨"HotIron$Plans", "adds", "(II)V"⟩ ⟨"HotIron$Plans", "adds", "(II)V"⟩) ∈ lw_all := lw_g (lw_at lw_ms 39 rfl) rfl
theorem qs40 : (Cond.selects "HotIron$Plans" ⟨"HotIron$Plans", "strikes", "(IIII)V"⟩ ⟨"HotIron$Plans", "strikes", "(IIII)V"⟩) ∈ lw_all := lw_g (lw_at lw_ms 40 rfl) rfl
theorem qs41 : (Cond.selects "HotIron$Plans" ⟨"HotIron$Plans", "enters", "(II)V"⟩ ⟨"HotIron$Plans", "enters", "(II)V"⟩) ∈ lw_all := lw_g (lw_at lw_ms 41 rfl) rfl
theorem qs42 : (Cond.selects "HotIron$Plans" ⟨"HotIron$Plans", "marks", "(I)V"⟩ ⟨"HotIron$Plans", "marks", "(I)V"⟩) ∈ lw_all := lw_g (lw_at lw_ms 42 rfl) rfl
theorem qs43 : (Cond.selects "HotIron$Plans" ⟨"HotIron$Plans", "leadsTo", "(II[BI)Z"⟩ ⟨"HotIron$Plans", "leadsTo", "(II[BI)Z"⟩) ∈ lw_all := lw_g (lw_at lw_ms 43 rfl) rfl
theorem qs44 : (Cond.selects "HotIron$Plans" ⟨"HotIron$Plans", "chooses", "(I)V"⟩ ⟨"HotIron$Plans", "chooses", "(I)V"⟩) ∈ lw_all := lw_g (lw_at lw_ms 44 rfl) rfl
theorem qs45 : (Cond.selects "HotIron$Plans" ⟨"HotIron$Plans", "leadsOn", "(II)Z"⟩ ⟨"HotIron$Plans", "leadsOn", "(II)Z"⟩) ∈ lw_all := lw_g (lw_at lw_ms 45 rfl) rfl
theorem qs46 : (Cond.selects "HotIron$Plans" ⟨"HotIron$Plans", "walks", "(II)V"⟩ ⟨"HotIron$Plans", "walks", "(II)V"⟩) ∈ lw_all := lw_g (lw_at lw_ms 46 rfl) rfl
theorem qs47 : (Cond.selects "HotIron" ⟨"HotIron", "apart", "(II)I"⟩ ⟨"HotIron", "apart", "(II)I"⟩) ∈ lw_all := lw_g (lw_at lw_ms 47 rfl) rfl
theorem qs48 : (Cond.selects "HotIron$Gate" ⟨"HotIron$Gate", "goes", "(II)V"⟩ ⟨"HotIron$Gate", "goes", "(II)V"⟩) ∈ lw_all := lw_g (lw_at lw_ms 48 rfl) rfl
theorem qs49 : (Cond.selects "HotIronModel" ⟨"HotIronModel", "tell", "(I)I"⟩ ⟨"HotIronModel", "tell", "(I)I"⟩) ∈ lw_all := lw_g (lw_at lw_ms 49 rfl) rfl
theorem qs50 : (Cond.selects "HotIronModel" ⟨"HotIronModel", "forget", "()V"⟩ ⟨"HotIronModel", "forget", "()V"⟩) ∈ lw_all := lw_g (lw_at lw_ms 50 rfl) rfl
theorem qs51 : (Cond.selects "HotIronModel" ⟨"HotIronModel", "put", "(III)I"⟩ ⟨"HotIronModel", "put", "(III)I"⟩) ∈ lw_all := lw_g (lw_at lw_ms 51 rfl) rfl
theorem qs52 : (Cond.selects "HotIronModel" ⟨"HotIronModel", "isCell", "(J)Z"⟩ ⟨"HotIronModel", "isCell", "(J)Z"⟩) ∈ lw_all := lw_g (lw_at lw_ms 52 rfl) rfl
theorem qs53 : (Cond.selects "HotIronModel" ⟨"HotIronModel", "four", "(I)V"⟩ ⟨"HotIronModel", "four", "(I)V"⟩) ∈ lw_all := lw_g (lw_at lw_ms 53 rfl) rfl
theorem qs54 : (Cond.selects "HotIronModel" ⟨"HotIronModel", "begin", "()V"⟩ ⟨"HotIronModel", "begin", "()V"⟩) ∈ lw_all := lw_g (lw_at lw_ms 54 rfl) rfl
theorem qs55 : (Cond.selects "HotIronModel" ⟨"HotIronModel", "next", "()V"⟩ ⟨"HotIronModel", "next", "()V"⟩) ∈ lw_all := lw_g (lw_at lw_ms 55 rfl) rfl
theorem qs56 : (Cond.selects "HotIronModel" ⟨"HotIronModel", "readStep", "()V"⟩ ⟨"HotIronModel", "readStep", "()V"⟩) ∈ lw_all := lw_g (lw_at lw_ms 56 rfl) rfl
theorem qs57 : (Cond.selects "HotIronModel" ⟨"HotIronModel", "sortAt", "()I"⟩ ⟨"HotIronModel", "sortAt", "()I"⟩) ∈ lw_all := lw_g (lw_at lw_ms 57 rfl) rfl
theorem qs58 : (Cond.selects "HotIronModel" ⟨"HotIronModel", "isWord", "(J)Z"⟩ ⟨"HotIronModel", "isWord", "(J)Z"⟩) ∈ lw_all := lw_g (lw_at lw_ms 58 rfl) rfl
theorem qs59 : (Cond.selects "HotIronModel" ⟨"HotIronModel", "must", "(Z)V"⟩ ⟨"HotIronModel", "must", "(Z)V"⟩) ∈ lw_all := lw_g (lw_at lw_ms 59 rfl) rfl
theorem qs60 : (Cond.selects "HotIronModel" ⟨"HotIronModel", "wrong", "()V"⟩ ⟨"HotIronModel", "wrong", "()V"⟩) ∈ lw_all := lw_g (lw_at lw_ms 60 rfl) rfl
theorem qs61 : (Cond.selects "HotIronModel" ⟨"HotIronModel", "number", "(J)I"⟩ ⟨"HotIronModel", "number", "(J)I"⟩) ∈ lw_all := lw_g (lw_at lw_ms 61 rfl) rfl
theorem qs62 : (Cond.selects "HotIronModel" ⟨"HotIronModel", "readExpression", "(Z)V"⟩ ⟨"HotIronModel", "readExpression", "(Z)V"⟩) ∈ lw_all := lw_g (lw_at lw_ms 62 rfl) rfl
theorem qs63 : (Cond.selects "HotIronModel" ⟨"HotIronModel", "readPlain", "()I"⟩ ⟨"HotIronModel", "readPlain", "()I"⟩) ∈ lw_all := lw_g (lw_at lw_ms 63 rfl) rfl
theorem qs64 : (Cond.selects "HotIronModel" ⟨"HotIronModel", "push", "(I)V"⟩ ⟨"HotIronModel", "push", "(I)V"⟩) ∈ lw_all := lw_g (lw_at lw_ms 64 rfl) rfl
theorem qs65 : (Cond.selects "HotIronModel" ⟨"HotIronModel", "isSign", "(I)Z"⟩ ⟨"HotIronModel", "isSign", "(I)Z"⟩) ∈ lw_all := lw_g (lw_at lw_ms 65 rfl) rfl
theorem qs66 : (Cond.selects "HotIronModel" ⟨"HotIronModel", "open", "(ZI)V"⟩ ⟨"HotIronModel", "open", "(ZI)V"⟩) ∈ lw_all := lw_g (lw_at lw_ms 66 rfl) rfl
theorem qs67 : (Cond.selects "HotIronModel" ⟨"HotIronModel", "readPart", "()I"⟩ ⟨"HotIronModel", "readPart", "()I"⟩) ∈ lw_all := lw_g (lw_at lw_ms 67 rfl) rfl
theorem qs68 : (Cond.selects "HotIronModel" ⟨"HotIronModel", "wordAt", "()I"⟩ ⟨"HotIronModel", "wordAt", "()I"⟩) ∈ lw_all := lw_g (lw_at lw_ms 68 rfl) rfl
theorem qs69 : (Cond.selects "HotIronModel" ⟨"HotIronModel", "emit", "(II)V"⟩ ⟨"HotIronModel", "emit", "(II)V"⟩) ∈ lw_all := lw_g (lw_at lw_ms 69 rfl) rfl
theorem qs70 : (Cond.selects "HotIronModel" ⟨"HotIronModel", "behindSum", "(Z)I"⟩ ⟨"HotIronModel", "behindSum", "(Z)I"⟩) ∈ lw_all := lw_g (lw_at lw_ms 70 rfl) rfl
theorem qs71 : (Cond.selects "HotIronModel" ⟨"HotIronModel", "settle", "(I)V"⟩ ⟨"HotIronModel", "settle", "(I)V"⟩) ∈ lw_all := lw_g (lw_at lw_ms 71 rfl) rfl
theorem qs72 : (Cond.selects "HotIronModel" ⟨"HotIronModel", "inner", "()I"⟩ ⟨"HotIronModel", "inner", "()I"⟩) ∈ lw_all := lw_g (lw_at lw_ms 72 rfl) rfl
theorem qs73 : (Cond.selects "HotIronModel" ⟨"HotIronModel", "isCompared", "()Z"⟩ ⟨"HotIronModel", "isCompared", "()Z"⟩) ∈ lw_all := lw_g (lw_at lw_ms 73 rfl) rfl
theorem qs74 : (Cond.selects "HotIronModel" ⟨"HotIronModel", "behindTest", "()I"⟩ ⟨"HotIronModel", "behindTest", "()I"⟩) ∈ lw_all := lw_g (lw_at lw_ms 74 rfl) rfl
theorem qs75 : (Cond.selects "HotIronModel" ⟨"HotIronModel", "isRecipe", "(I)Z"⟩ ⟨"HotIronModel", "isRecipe", "(I)Z"⟩) ∈ lw_all := lw_g (lw_at lw_ms 75 rfl) rfl
theorem qs76 : (Cond.selects "HotIronModel" ⟨"HotIronModel", "goThrough", "(II)V"⟩ ⟨"HotIronModel", "goThrough", "(II)V"⟩) ∈ lw_all := lw_g (lw_at lw_ms 76 rfl) rfl
theorem qs77 : (Cond.selects "HotIronModel" ⟨"HotIronModel", "rest0", "()V"⟩ ⟨"HotIronModel", "rest0", "()V"⟩) ∈ lw_all := lw_g (lw_at lw_ms 77 rfl) rfl
theorem qs78 : (Cond.selects "HotIronModel" ⟨"HotIronModel", "reckon", "(III)I"⟩ ⟨"HotIronModel", "reckon", "(III)I"⟩) ∈ lw_all := lw_g (lw_at lw_ms 78 rfl) rfl
theorem qs79 : (Cond.selects "HotIronModel" ⟨"HotIronModel", "doStep", "(II)Z"⟩ ⟨"HotIronModel", "doStep", "(II)Z"⟩) ∈ lw_all := lw_g (lw_at lw_ms 79 rfl) rfl
theorem qs80 : (Cond.selects "HotIronModel" ⟨"HotIronModel", "fire", "(I)Z"⟩ ⟨"HotIronModel", "fire", "(I)Z"⟩) ∈ lw_all := lw_g (lw_at lw_ms 80 rfl) rfl
theorem qs81 : (Cond.selects "HotIronModel" ⟨"HotIronModel", "lose", "(I)V"⟩ ⟨"HotIronModel", "lose", "(I)V"⟩) ∈ lw_all := lw_g (lw_at lw_ms 81 rfl) rfl
theorem qs82 : (Cond.selects "HotIronModel" ⟨"HotIronModel", "strike", "(II)V"⟩ ⟨"HotIronModel", "strike", "(II)V"⟩) ∈ lw_all := lw_g (lw_at lw_ms 82 rfl) rfl
theorem qs83 : (Cond.selects "HotIronModel" ⟨"HotIronModel", "isHot", "(I)Z"⟩ ⟨"HotIronModel", "isHot", "(I)Z"⟩) ∈ lw_all := lw_g (lw_at lw_ms 83 rfl) rfl
theorem qs84 : (Cond.selects "HotIronModel" ⟨"HotIronModel", "uses", "(ZI)Z"⟩ ⟨"HotIronModel", "uses", "(ZI)Z"⟩) ∈ lw_all := lw_g (lw_at lw_ms 84 rfl) rfl
theorem qs85 : (Cond.selects "HotIronModel" ⟨"HotIronModel", "draw", "(I)I"⟩ ⟨"HotIronModel", "draw", "(I)I"⟩) ∈ lw_all := lw_g (lw_at lw_ms 85 rfl) rfl
theorem qs86 : (Cond.selects "HotIronModel" ⟨"HotIronModel", "punch", "(I)V"⟩ ⟨"HotIronModel", "punch", "(I)V"⟩) ∈ lw_all := lw_g (lw_at lw_ms 86 rfl) rfl
theorem qs87 : (Cond.selects "HotIronModel" ⟨"HotIronModel", "weld", "(I)V"⟩ ⟨"HotIronModel", "weld", "(I)V"⟩) ∈ lw_all := lw_g (lw_at lw_ms 87 rfl) rfl
theorem qs88 : (Cond.selects "HotIronModel" ⟨"HotIronModel", "keepIron", "()V"⟩ ⟨"HotIronModel", "keepIron", "()V"⟩) ∈ lw_all := lw_g (lw_at lw_ms 88 rfl) rfl
theorem qs89 : (Cond.selects "HotIronModel" ⟨"HotIronModel", "apart", "(I)I"⟩ ⟨"HotIronModel", "apart", "(I)I"⟩) ∈ lw_all := lw_g (lw_at lw_ms 89 rfl) rfl
theorem qs90 : (Cond.selects "HotIronModel" ⟨"HotIronModel", "findWeights", "()V"⟩ ⟨"HotIronModel", "findWeights", "()V"⟩) ∈ lw_all := lw_g (lw_at lw_ms 90 rfl) rfl
theorem qs91 : (Cond.selects "HotIronModel" ⟨"HotIronModel", "rowAt", "(I)I"⟩ ⟨"HotIronModel", "rowAt", "(I)I"⟩) ∈ lw_all := lw_g (lw_at lw_ms 91 rfl) rfl
theorem qs92 : (Cond.selects "HotIronModel" ⟨"HotIronModel", "findLevels", "(IIII)I"⟩ ⟨"HotIronModel", "findLevels", "(IIII)I"⟩) ∈ lw_all := lw_g (lw_at lw_ms 92 rfl) rfl
theorem qs93 : (Cond.selects "HotIronModel" ⟨"HotIronModel", "findSpread", "(III)V"⟩ ⟨"HotIronModel", "findSpread", "(III)V"⟩) ∈ lw_all := lw_g (lw_at lw_ms 93 rfl) rfl
theorem qs94 : (Cond.selects "HotIronModel" ⟨"HotIronModel", "ironOf", "(II)I"⟩ ⟨"HotIronModel", "ironOf", "(II)I"⟩) ∈ lw_all := lw_g (lw_at lw_ms 94 rfl) rfl
theorem qs95 : (Cond.selects "HotIronModel" ⟨"HotIronModel", "reach", "(I)V"⟩ ⟨"HotIronModel", "reach", "(I)V"⟩) ∈ lw_all := lw_g (lw_at lw_ms 95 rfl) rfl
theorem qs96 : (Cond.selects "HotIronModel" ⟨"HotIronModel", "moveAll", "(II)V"⟩ ⟨"HotIronModel", "moveAll", "(II)V"⟩) ∈ lw_all := lw_g (lw_at lw_ms 96 rfl) rfl
theorem qs97 : (Cond.selects "HotIronModel" ⟨"HotIronModel", "findPlan", "()V"⟩ ⟨"HotIronModel", "findPlan", "()V"⟩) ∈ lw_all := lw_g (lw_at lw_ms 97 rfl) rfl
theorem qs98 : (Cond.selects "HotIronModel" ⟨"HotIronModel", "findToGo", "(I)V"⟩ ⟨"HotIronModel", "findToGo", "(I)V"⟩) ∈ lw_all := lw_g (lw_at lw_ms 98 rfl) rfl
theorem qs99 : (Cond.selects "HotIronModel" ⟨"HotIronModel", "leads", "(II[II)Z"⟩ ⟨"HotIronModel", "leads", "(II[II)Z"⟩) ∈ lw_all := lw_g (lw_at lw_ms 99 rfl) rfl
theorem qs100 : (Cond.selects "HotIronModel" ⟨"HotIronModel", "chooseCell", "(I)V"⟩ ⟨"HotIronModel", "chooseCell", "(I)V"⟩) ∈ lw_all := lw_g (lw_at lw_ms 100 rfl) rfl
theorem qs101 : (Cond.selects "HotIronModel" ⟨"HotIronModel", "doneBy", "(I)I"⟩ ⟨"HotIronModel", "doneBy", "(I)I"⟩) ∈ lw_all := lw_g (lw_at lw_ms 101 rfl) rfl
theorem qs102 : (Cond.selects "HotIronModel" ⟨"HotIronModel", "nextOrder", "()Z"⟩ ⟨"HotIronModel", "nextOrder", "()Z"⟩) ∈ lw_all := lw_g (lw_at lw_ms 102 rfl) rfl
theorem qs103 : (Cond.selects "HotIronModel" ⟨"HotIronModel", "exchange", "(II)V"⟩ ⟨"HotIronModel", "exchange", "(II)V"⟩) ∈ lw_all := lw_g (lw_at lw_ms 103 rfl) rfl
-- ===== end of PART A; then your names; then what follows =====
