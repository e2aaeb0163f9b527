-- ===== PART A: goes FIRST, ahead of the names: the tables' words, and 'selects' of the private methods out of them =====
/-- a private method of a class that the tables say can be made, by its rows of tables_1 -/
def lw_okq (q : MethodName × Nat) : Prop := (q.1.cls ≠ "java/lang/invoke/MethodHandle" ∧ q.1.cls ≠ "java/lang/invoke/VarHandle") ∧ Cond.instantiable q.1.cls q.2 ∈ tables_1 ∧ Cond.privateMethod q.1 ∈ tables_1 ∧ Cond.instanceMethod q.1 ∈ tables_1
set_option maxRecDepth 100000
theorem lw_t1 {w : Cond} (h : w ∈ tables_1_1) : w ∈ tables_1 := List.mem_append_left _ h
theorem lw_t2 {w : Cond} (h : w ∈ tables_1_2) : w ∈ tables_1 := List.mem_append_right _ (List.mem_append_left _ h)
theorem lw_t3 {w : Cond} (h : w ∈ tables_1_3) : w ∈ tables_1 := List.mem_append_right _ (List.mem_append_right _ (List.mem_append_left _ h))
theorem lw_t4 {w : Cond} (h : w ∈ tables_1_4) : w ∈ tables_1 := List.mem_append_right _ (List.mem_append_right _ (List.mem_append_right _ (List.mem_append_left _ h)))
theorem lw_t5 {w : Cond} (h : w ∈ tables_1_5) : w ∈ tables_1 := List.mem_append_right _ (List.mem_append_right _ (List.mem_append_right _ (List.mem_append_right _ (List.mem_append_left _ h))))
theorem lw_t6 {w : Cond} (h : w ∈ tables_1_6) : w ∈ tables_1 := List.mem_append_right _ (List.mem_append_right _ (List.mem_append_right _ (List.mem_append_right _ (List.mem_append_right _ (List.mem_append_left _ h)))))
theorem lw_t7 {w : Cond} (h : w ∈ tables_1_7) : w ∈ tables_1 := List.mem_append_right _ (List.mem_append_right _ (List.mem_append_right _ (List.mem_append_right _ (List.mem_append_right _ (List.mem_append_right _ (List.mem_append_left _ h))))))
theorem lw_t8 {w : Cond} (h : w ∈ tables_1_8) : w ∈ tables_1 := List.mem_append_right _ (List.mem_append_right _ (List.mem_append_right _ (List.mem_append_right _ (List.mem_append_right _ (List.mem_append_right _ (List.mem_append_right _ (List.mem_append_left _ h)))))))
theorem lw_t9 {w : Cond} (h : w ∈ tables_1_9) : w ∈ tables_1 := List.mem_append_right _ (List.mem_append_right _ (List.mem_append_right _ (List.mem_append_right _ (List.mem_append_right _ (List.mem_append_right _ (List.mem_append_right _ (List.mem_append_right _ (List.mem_append_left _ h))))))))
theorem lw_t10 {w : Cond} (h : w ∈ tables_1_10) : w ∈ tables_1 := List.mem_append_right _ (List.mem_append_right _ (List.mem_append_right _ (List.mem_append_right _ (List.mem_append_right _ (List.mem_append_right _ (List.mem_append_right _ (List.mem_append_right _ (List.mem_append_right _ h))))))))
theorem lw_p0 : lw_okq (⟨"ShutPasses", "put", "(I)V"⟩, 33) := ⟨⟨by decide +kernel, by decide +kernel⟩, lw_t1 (List.mem_of_getElem? (i := 41) rfl), lw_t3 (List.mem_of_getElem? (i := 14) rfl), lw_t3 (List.mem_of_getElem? (i := 15) rfl)⟩
theorem lw_p1 : lw_okq (⟨"ShutPasses$Reader", "next", "()V"⟩, 7) := ⟨⟨by decide +kernel, by decide +kernel⟩, lw_t1 (List.mem_of_getElem? (i := 49) rfl), lw_t3 (List.mem_of_getElem? (i := 32) rfl), lw_t3 (List.mem_of_getElem? (i := 33) rfl)⟩
theorem lw_p2 : lw_okq (⟨"ShutPasses$Reader", "here", "()I"⟩, 7) := ⟨⟨by decide +kernel, by decide +kernel⟩, lw_t1 (List.mem_of_getElem? (i := 49) rfl), lw_t3 (List.mem_of_getElem? (i := 36) rfl), lw_t3 (List.mem_of_getElem? (i := 37) rfl)⟩
theorem lw_p3 : lw_okq (⟨"ShutPasses$Reader", "word", "()I"⟩, 7) := ⟨⟨by decide +kernel, by decide +kernel⟩, lw_t1 (List.mem_of_getElem? (i := 49) rfl), lw_t3 (List.mem_of_getElem? (i := 41) rfl), lw_t3 (List.mem_of_getElem? (i := 42) rfl)⟩
theorem lw_p4 : lw_okq (⟨"ShutPasses$Reader", "name", "()V"⟩, 7) := ⟨⟨by decide +kernel, by decide +kernel⟩, lw_t1 (List.mem_of_getElem? (i := 49) rfl), lw_t3 (List.mem_of_getElem? (i := 95) rfl), lw_t3 (List.mem_of_getElem? (i := 96) rfl)⟩
theorem lw_p5 : lw_okq (⟨"ShutPasses$Reader", "line", "()V"⟩, 7) := ⟨⟨by decide +kernel, by decide +kernel⟩, lw_t1 (List.mem_of_getElem? (i := 49) rfl), lw_t3 (List.mem_of_getElem? (i := 99) rfl), lw_t3 (List.mem_of_getElem? (i := 100) rfl)⟩
theorem lw_p6 : lw_okq (⟨"ShutPasses$Reader", "wrong", "(I)LShutPasses$Fault;"⟩, 7) := ⟨⟨by decide +kernel, by decide +kernel⟩, lw_t1 (List.mem_of_getElem? (i := 49) rfl), lw_t3 (List.mem_of_getElem? (i := 103) rfl), lw_t3 (List.mem_of_getElem? (i := 104) rfl)⟩
theorem lw_p7 : lw_okq (⟨"java/lang/Throwable", "fillInStackTrace", "(I)Ljava/lang/Throwable;"⟩, 6) := ⟨⟨by decide +kernel, by decide +kernel⟩, lw_t3 (List.mem_of_getElem? (i := 144) rfl), lw_t3 (List.mem_of_getElem? (i := 142) rfl), lw_t3 (List.mem_of_getElem? (i := 143) rfl)⟩
theorem lw_p8 : lw_okq (⟨"ShutPasses$Reader", "places", "()V"⟩, 7) := ⟨⟨by decide +kernel, by decide +kernel⟩, lw_t1 (List.mem_of_getElem? (i := 49) rfl), lw_t3 (List.mem_of_getElem? (i := 181) rfl), lw_t3 (List.mem_of_getElem? (i := 182) rfl)⟩
theorem lw_p9 : lw_okq (⟨"ShutPasses$Reader", "cause", "()V"⟩, 7) := ⟨⟨by decide +kernel, by decide +kernel⟩, lw_t1 (List.mem_of_getElem? (i := 49) rfl), lw_t3 (List.mem_of_getElem? (i := 189) rfl), lw_t3 (List.mem_of_getElem? (i := 190) rfl)⟩
theorem lw_p10 : lw_okq (⟨"ShutPasses$Reader", "number", "(I)I"⟩, 7) := ⟨⟨by decide +kernel, by decide +kernel⟩, lw_t1 (List.mem_of_getElem? (i := 49) rfl), lw_t3 (List.mem_of_getElem? (i := 197) rfl), lw_t3 (List.mem_of_getElem? (i := 198) rfl)⟩
theorem lw_p11 : lw_okq (⟨"ShutPasses$Reader", "road", "()V"⟩, 7) := ⟨⟨by decide +kernel, by decide +kernel⟩, lw_t1 (List.mem_of_getElem? (i := 49) rfl), lw_t3 (List.mem_of_getElem? (i := 201) rfl), lw_t3 (List.mem_of_getElem? (i := 202) rfl)⟩
theorem lw_p12 : lw_okq (⟨"ShutPasses$Reader", "aPlace", "()I"⟩, 7) := ⟨⟨by decide +kernel, by decide +kernel⟩, lw_t1 (List.mem_of_getElem? (i := 49) rfl), lw_t3 (List.mem_of_getElem? (i := 205) rfl), lw_t3 (List.mem_of_getElem? (i := 206) rfl)⟩
theorem lw_p13 : lw_okq (⟨"ShutPasses$Reader", "doubtful", "(LShutPasses$Road;)V"⟩, 7) := ⟨⟨by decide +kernel, by decide +kernel⟩, lw_t1 (List.mem_of_getElem? (i := 49) rfl), lw_t4 (List.mem_of_getElem? (i := 20) rfl), lw_t4 (List.mem_of_getElem? (i := 21) rfl)⟩
theorem lw_p14 : lw_okq (⟨"java/util/ArrayList", "add", "(Ljava/lang/Object;[Ljava/lang/Object;I)V"⟩, 3) := ⟨⟨by decide +kernel, by decide +kernel⟩, lw_t1 (List.mem_of_getElem? (i := 84) rfl), lw_t4 (List.mem_of_getElem? (i := 32) rfl), lw_t4 (List.mem_of_getElem? (i := 33) rfl)⟩
theorem lw_p15 : lw_okq (⟨"java/util/ArrayList", "grow", "()[Ljava/lang/Object;"⟩, 3) := ⟨⟨by decide +kernel, by decide +kernel⟩, lw_t1 (List.mem_of_getElem? (i := 84) rfl), lw_t4 (List.mem_of_getElem? (i := 36) rfl), lw_t4 (List.mem_of_getElem? (i := 37) rfl)⟩
def lw_privs_1 : List (MethodName × Nat) := [(⟨"ShutPasses", "put", "(I)V"⟩, 33), (⟨"ShutPasses$Reader", "next", "()V"⟩, 7), (⟨"ShutPasses$Reader", "here", "()I"⟩, 7), (⟨"ShutPasses$Reader", "word", "()I"⟩, 7), (⟨"ShutPasses$Reader", "name", "()V"⟩, 7), (⟨"ShutPasses$Reader", "line", "()V"⟩, 7), (⟨"ShutPasses$Reader", "wrong", "(I)LShutPasses$Fault;"⟩, 7), (⟨"java/lang/Throwable", "fillInStackTrace", "(I)Ljava/lang/Throwable;"⟩, 6), (⟨"ShutPasses$Reader", "places", "()V"⟩, 7), (⟨"ShutPasses$Reader", "cause", "()V"⟩, 7), (⟨"ShutPasses$Reader", "number", "(I)I"⟩, 7), (⟨"ShutPasses$Reader", "road", "()V"⟩, 7), (⟨"ShutPasses$Reader", "aPlace", "()I"⟩, 7), (⟨"ShutPasses$Reader", "doubtful", "(LShutPasses$Road;)V"⟩, 7), (⟨"java/util/ArrayList", "add", "(Ljava/lang/Object;[Ljava/lang/Object;I)V"⟩, 3), (⟨"java/util/ArrayList", "grow", "()[Ljava/lang/Object;"⟩, 3)]
theorem lw_r1 : ∀ q ∈ lw_privs_1, lw_okq q := List.forall_mem_cons.mpr ⟨lw_p0, List.forall_mem_cons.mpr ⟨lw_p1, List.forall_mem_cons.mpr ⟨lw_p2, List.forall_mem_cons.mpr ⟨lw_p3, List.forall_mem_cons.mpr ⟨lw_p4, List.forall_mem_cons.mpr ⟨lw_p5, List.forall_mem_cons.mpr ⟨lw_p6, List.forall_mem_cons.mpr ⟨lw_p7, List.forall_mem_cons.mpr ⟨lw_p8, List.forall_mem_cons.mpr ⟨lw_p9, List.forall_mem_cons.mpr ⟨lw_p10, List.forall_mem_cons.mpr ⟨lw_p11, List.forall_mem_cons.mpr ⟨lw_p12, List.forall_mem_cons.mpr ⟨lw_p13, List.forall_mem_cons.mpr ⟨lw_p14, List.forall_mem_cons.mpr ⟨lw_p15, fun _ h => absurd h List.not_mem_nil⟩⟩⟩⟩⟩⟩⟩⟩⟩⟩⟩⟩⟩⟩⟩⟩
theorem lw_p16 : lw_okq (⟨"java/util/ArrayList", "grow", "(I)[Ljava/lang/Object;"⟩, 3) := ⟨⟨by decide +kernel, by decide +kernel⟩, lw_t1 (List.mem_of_getElem? (i := 84) rfl), lw_t4 (List.mem_of_getElem? (i := 40) rfl), lw_t4 (List.mem_of_getElem? (i := 41) rfl)⟩
theorem lw_p17 : lw_okq (⟨"ShutPasses$Reader", "sees", "()V"⟩, 7) := ⟨⟨by decide +kernel, by decide +kernel⟩, lw_t1 (List.mem_of_getElem? (i := 49) rfl), lw_t4 (List.mem_of_getElem? (i := 97) rfl), lw_t4 (List.mem_of_getElem? (i := 98) rfl)⟩
theorem lw_p18 : lw_okq (⟨"ShutPasses$Reader", "aRoad", "()I"⟩, 7) := ⟨⟨by decide +kernel, by decide +kernel⟩, lw_t1 (List.mem_of_getElem? (i := 49) rfl), lw_t4 (List.mem_of_getElem? (i := 101) rfl), lw_t4 (List.mem_of_getElem? (i := 102) rfl)⟩
theorem lw_p19 : lw_okq (⟨"ShutPasses$Reader", "inn", "()V"⟩, 7) := ⟨⟨by decide +kernel, by decide +kernel⟩, lw_t1 (List.mem_of_getElem? (i := 49) rfl), lw_t4 (List.mem_of_getElem? (i := 105) rfl), lw_t4 (List.mem_of_getElem? (i := 106) rfl)⟩
theorem lw_p20 : lw_okq (⟨"ShutPasses", "isWorld", "(I)Z"⟩, 33) := ⟨⟨by decide +kernel, by decide +kernel⟩, lw_t1 (List.mem_of_getElem? (i := 41) rfl), lw_t4 (List.mem_of_getElem? (i := 145) rfl), lw_t4 (List.mem_of_getElem? (i := 146) rfl)⟩
theorem lw_p21 : lw_okq (⟨"ShutPasses", "lay", "()V"⟩, 33) := ⟨⟨by decide +kernel, by decide +kernel⟩, lw_t1 (List.mem_of_getElem? (i := 41) rfl), lw_t4 (List.mem_of_getElem? (i := 155) rfl), lw_t4 (List.mem_of_getElem? (i := 156) rfl)⟩
theorem lw_p22 : lw_okq (⟨"ShutPasses$Weights", "join", "(LShutPasses$Land;)V"⟩, 3) := ⟨⟨by decide +kernel, by decide +kernel⟩, lw_t1 (List.mem_of_getElem? (i := 195) rfl), lw_t4 (List.mem_of_getElem? (i := 181) rfl), lw_t4 (List.mem_of_getElem? (i := 182) rfl)⟩
theorem lw_p23 : lw_okq (⟨"ShutPasses", "hoursOf", "(I)I"⟩, 33) := ⟨⟨by decide +kernel, by decide +kernel⟩, lw_t1 (List.mem_of_getElem? (i := 41) rfl), lw_t5 (List.mem_of_getElem? (i := 111) rfl), lw_t5 (List.mem_of_getElem? (i := 112) rfl)⟩
theorem lw_p24 : lw_okq (⟨"ShutPasses", "isKnown", "(I)Z"⟩, 33) := ⟨⟨by decide +kernel, by decide +kernel⟩, lw_t1 (List.mem_of_getElem? (i := 41) rfl), lw_t5 (List.mem_of_getElem? (i := 149) rfl), lw_t5 (List.mem_of_getElem? (i := 150) rfl)⟩
theorem lw_p25 : lw_okq (⟨"ShutPasses", "isDoubtful", "(I)Z"⟩, 33) := ⟨⟨by decide +kernel, by decide +kernel⟩, lw_t1 (List.mem_of_getElem? (i := 41) rfl), lw_t5 (List.mem_of_getElem? (i := 158) rfl), lw_t5 (List.mem_of_getElem? (i := 159) rfl)⟩
theorem lw_p26 : lw_okq (⟨"ShutPasses", "isPlan", "(I)Z"⟩, 33) := ⟨⟨by decide +kernel, by decide +kernel⟩, lw_t1 (List.mem_of_getElem? (i := 41) rfl), lw_t5 (List.mem_of_getElem? (i := 171) rfl), lw_t5 (List.mem_of_getElem? (i := 172) rfl)⟩
theorem lw_p27 : lw_okq (⟨"ShutPasses", "plan", "(I)LShutPasses$Plan;"⟩, 33) := ⟨⟨by decide +kernel, by decide +kernel⟩, lw_t1 (List.mem_of_getElem? (i := 41) rfl), lw_t5 (List.mem_of_getElem? (i := 175) rfl), lw_t5 (List.mem_of_getElem? (i := 176) rfl)⟩
theorem lw_p28 : lw_okq (⟨"ShutPasses", "seekFair", "()V"⟩, 33) := ⟨⟨by decide +kernel, by decide +kernel⟩, lw_t1 (List.mem_of_getElem? (i := 41) rfl), lw_t5 (List.mem_of_getElem? (i := 179) rfl), lw_t5 (List.mem_of_getElem? (i := 180) rfl)⟩
theorem lw_p29 : lw_okq (⟨"ShutPasses", "seeing", "(III)I"⟩, 33) := ⟨⟨by decide +kernel, by decide +kernel⟩, lw_t1 (List.mem_of_getElem? (i := 41) rfl), lw_t5 (List.mem_of_getElem? (i := 202) rfl), lw_t5 (List.mem_of_getElem? (i := 203) rfl)⟩
theorem lw_p30 : lw_okq (⟨"ShutPasses", "isAhead", "(I)Z"⟩, 33) := ⟨⟨by decide +kernel, by decide +kernel⟩, lw_t1 (List.mem_of_getElem? (i := 41) rfl), lw_t5 (List.mem_of_getElem? (i := 238) rfl), lw_t5 (List.mem_of_getElem? (i := 239) rfl)⟩
theorem lw_p31 : lw_okq (⟨"ShutPasses", "isPlace", "(I)Z"⟩, 33) := ⟨⟨by decide +kernel, by decide +kernel⟩, lw_t1 (List.mem_of_getElem? (i := 41) rfl), lw_t6 (List.mem_of_getElem? (i := 41) rfl), lw_t6 (List.mem_of_getElem? (i := 42) rfl)⟩
def lw_privs_2 : List (MethodName × Nat) := [(⟨"java/util/ArrayList", "grow", "(I)[Ljava/lang/Object;"⟩, 3), (⟨"ShutPasses$Reader", "sees", "()V"⟩, 7), (⟨"ShutPasses$Reader", "aRoad", "()I"⟩, 7), (⟨"ShutPasses$Reader", "inn", "()V"⟩, 7), (⟨"ShutPasses", "isWorld", "(I)Z"⟩, 33), (⟨"ShutPasses", "lay", "()V"⟩, 33), (⟨"ShutPasses$Weights", "join", "(LShutPasses$Land;)V"⟩, 3), (⟨"ShutPasses", "hoursOf", "(I)I"⟩, 33), (⟨"ShutPasses", "isKnown", "(I)Z"⟩, 33), (⟨"ShutPasses", "isDoubtful", "(I)Z"⟩, 33), (⟨"ShutPasses", "isPlan", "(I)Z"⟩, 33), (⟨"ShutPasses", "plan", "(I)LShutPasses$Plan;"⟩, 33), (⟨"ShutPasses", "seekFair", "()V"⟩, 33), (⟨"ShutPasses", "seeing", "(III)I"⟩, 33), (⟨"ShutPasses", "isAhead", "(I)Z"⟩, 33), (⟨"ShutPasses", "isPlace", "(I)Z"⟩, 33)]
theorem lw_r2 : ∀ q ∈ lw_privs_2, lw_okq q := List.forall_mem_cons.mpr ⟨lw_p16, List.forall_mem_cons.mpr ⟨lw_p17, List.forall_mem_cons.mpr ⟨lw_p18, List.forall_mem_cons.mpr ⟨lw_p19, List.forall_mem_cons.mpr ⟨lw_p20, List.forall_mem_cons.mpr ⟨lw_p21, List.forall_mem_cons.mpr ⟨lw_p22, List.forall_mem_cons.mpr ⟨lw_p23, List.forall_mem_cons.mpr ⟨lw_p24, List.forall_mem_cons.mpr ⟨lw_p25, List.forall_mem_cons.mpr ⟨lw_p26, List.forall_mem_cons.mpr ⟨lw_p27, List.forall_mem_cons.mpr ⟨lw_p28, List.forall_mem_cons.mpr ⟨lw_p29, List.forall_mem_cons.mpr ⟨lw_p30, List.forall_mem_cons.mpr ⟨lw_p31, fun _ h => absurd h List.not_mem_nil⟩⟩⟩⟩⟩⟩⟩⟩⟩⟩⟩⟩⟩⟩⟩⟩
theorem lw_p32 : lw_okq (⟨"ShutPasses", "weigh", "()V"⟩, 33) := ⟨⟨by decide +kernel, by decide +kernel⟩, lw_t1 (List.mem_of_getElem? (i := 41) rfl), lw_t6 (List.mem_of_getElem? (i := 51) rfl), lw_t6 (List.mem_of_getElem? (i := 52) rfl)⟩
theorem lw_p33 : lw_okq (⟨"ShutPasses", "told", "(JLShutPasses$Table;)J"⟩, 33) := ⟨⟨by decide +kernel, by decide +kernel⟩, lw_t1 (List.mem_of_getElem? (i := 41) rfl), lw_t6 (List.mem_of_getElem? (i := 59) rfl), lw_t6 (List.mem_of_getElem? (i := 60) rfl)⟩
theorem lw_p34 : lw_okq (⟨"ShutPasses", "rows", "(II)V"⟩, 33) := ⟨⟨by decide +kernel, by decide +kernel⟩, lw_t1 (List.mem_of_getElem? (i := 41) rfl), lw_t6 (List.mem_of_getElem? (i := 75) rfl), lw_t6 (List.mem_of_getElem? (i := 76) rfl)⟩
theorem lw_p35 : lw_okq (⟨"ShutPasses", "ring", "(II)I"⟩, 33) := ⟨⟨by decide +kernel, by decide +kernel⟩, lw_t1 (List.mem_of_getElem? (i := 41) rfl), lw_t6 (List.mem_of_getElem? (i := 115) rfl), lw_t6 (List.mem_of_getElem? (i := 116) rfl)⟩
theorem lw_p36 : lw_okq (⟨"ShutPasses", "ring", "()V"⟩, 33) := ⟨⟨by decide +kernel, by decide +kernel⟩, lw_t1 (List.mem_of_getElem? (i := 41) rfl), lw_t6 (List.mem_of_getElem? (i := 124) rfl), lw_t6 (List.mem_of_getElem? (i := 125) rfl)⟩
theorem lw_p37 : lw_okq (⟨"ShutPasses", "inTime", "(III)J"⟩, 33) := ⟨⟨by decide +kernel, by decide +kernel⟩, lw_t1 (List.mem_of_getElem? (i := 41) rfl), lw_t6 (List.mem_of_getElem? (i := 136) rfl), lw_t6 (List.mem_of_getElem? (i := 137) rfl)⟩
theorem lw_p38 : lw_okq (⟨"ShutPasses", "over", "(IIII)J"⟩, 33) := ⟨⟨by decide +kernel, by decide +kernel⟩, lw_t1 (List.mem_of_getElem? (i := 41) rfl), lw_t6 (List.mem_of_getElem? (i := 140) rfl), lw_t6 (List.mem_of_getElem? (i := 141) rfl)⟩
theorem lw_p39 : lw_okq (⟨"ShutPasses", "ahead", "(I)J"⟩, 33) := ⟨⟨by decide +kernel, by decide +kernel⟩, lw_t1 (List.mem_of_getElem? (i := 41) rfl), lw_t6 (List.mem_of_getElem? (i := 152) rfl), lw_t6 (List.mem_of_getElem? (i := 153) rfl)⟩
theorem lw_p40 : lw_okq (⟨"ShutPasses", "isOther", "()Z"⟩, 33) := ⟨⟨by decide +kernel, by decide +kernel⟩, lw_t1 (List.mem_of_getElem? (i := 41) rfl), lw_t6 (List.mem_of_getElem? (i := 184) rfl), lw_t6 (List.mem_of_getElem? (i := 185) rfl)⟩
theorem lw_p41 : lw_okq (⟨"ShutPasses", "isFirst", "(I)Z"⟩, 33) := ⟨⟨by decide +kernel, by decide +kernel⟩, lw_t1 (List.mem_of_getElem? (i := 41) rfl), lw_t6 (List.mem_of_getElem? (i := 188) rfl), lw_t6 (List.mem_of_getElem? (i := 189) rfl)⟩
theorem lw_p42 : lw_okq (⟨"ShutPasses", "mayStep", "()Z"⟩, 33) := ⟨⟨by decide +kernel, by decide +kernel⟩, lw_t1 (List.mem_of_getElem? (i := 41) rfl), lw_t6 (List.mem_of_getElem? (i := 207) rfl), lw_t6 (List.mem_of_getElem? (i := 208) rfl)⟩
theorem lw_p43 : lw_okq (⟨"ShutPasses", "step", "(III)V"⟩, 33) := ⟨⟨by decide +kernel, by decide +kernel⟩, lw_t1 (List.mem_of_getElem? (i := 41) rfl), lw_t6 (List.mem_of_getElem? (i := 211) rfl), lw_t6 (List.mem_of_getElem? (i := 212) rfl)⟩
theorem lw_p44 : lw_okq (⟨"ShutPassesModel", "plain", "()V"⟩, 60) := ⟨⟨by decide +kernel, by decide +kernel⟩, lw_t7 (List.mem_of_getElem? (i := 69) rfl), lw_t7 (List.mem_of_getElem? (i := 77) rfl), lw_t7 (List.mem_of_getElem? (i := 78) rfl)⟩
theorem lw_p45 : lw_okq (⟨"ShutPassesModel", "keep", "()V"⟩, 60) := ⟨⟨by decide +kernel, by decide +kernel⟩, lw_t7 (List.mem_of_getElem? (i := 69) rfl), lw_t7 (List.mem_of_getElem? (i := 81) rfl), lw_t7 (List.mem_of_getElem? (i := 82) rfl)⟩
theorem lw_p46 : lw_okq (⟨"ShutPassesModel", "doubts", "()I"⟩, 60) := ⟨⟨by decide +kernel, by decide +kernel⟩, lw_t7 (List.mem_of_getElem? (i := 69) rfl), lw_t7 (List.mem_of_getElem? (i := 85) rfl), lw_t7 (List.mem_of_getElem? (i := 86) rfl)⟩
theorem lw_p47 : lw_okq (⟨"ShutPassesModel", "openIn", "(I)I"⟩, 60) := ⟨⟨by decide +kernel, by decide +kernel⟩, lw_t7 (List.mem_of_getElem? (i := 69) rfl), lw_t7 (List.mem_of_getElem? (i := 89) rfl), lw_t7 (List.mem_of_getElem? (i := 90) rfl)⟩
def lw_privs_3 : List (MethodName × Nat) := [(⟨"ShutPasses", "weigh", "()V"⟩, 33), (⟨"ShutPasses", "told", "(JLShutPasses$Table;)J"⟩, 33), (⟨"ShutPasses", "rows", "(II)V"⟩, 33), (⟨"ShutPasses", "ring", "(II)I"⟩, 33), (⟨"ShutPasses", "ring", "()V"⟩, 33), (⟨"ShutPasses", "inTime", "(III)J"⟩, 33), (⟨"ShutPasses", "over", "(IIII)J"⟩, 33), (⟨"ShutPasses", "ahead", "(I)J"⟩, 33), (⟨"ShutPasses", "isOther", "()Z"⟩, 33), (⟨"ShutPasses", "isFirst", "(I)Z"⟩, 33), (⟨"ShutPasses", "mayStep", "()Z"⟩, 33), (⟨"ShutPasses", "step", "(III)V"⟩, 33), (⟨"ShutPassesModel", "plain", "()V"⟩, 60), (⟨"ShutPassesModel", "keep", "()V"⟩, 60), (⟨"ShutPassesModel", "doubts", "()I"⟩, 60), (⟨"ShutPassesModel", "openIn", "(I)I"⟩, 60)]
theorem lw_r3 : ∀ q ∈ lw_privs_3, lw_okq q := List.forall_mem_cons.mpr ⟨lw_p32, List.forall_mem_cons.mpr ⟨lw_p33, List.forall_mem_cons.mpr ⟨lw_p34, List.forall_mem_cons.mpr ⟨lw_p35, List.forall_mem_cons.mpr ⟨lw_p36, List.forall_mem_cons.mpr ⟨lw_p37, List.forall_mem_cons.mpr ⟨lw_p38, List.forall_mem_cons.mpr ⟨lw_p39, List.forall_mem_cons.mpr ⟨lw_p40, List.forall_mem_cons.mpr ⟨lw_p41, List.forall_mem_cons.mpr ⟨lw_p42, List.forall_mem_cons.mpr ⟨lw_p43, List.forall_mem_cons.mpr ⟨lw_p44, List.forall_mem_cons.mpr ⟨lw_p45, List.forall_mem_cons.mpr ⟨lw_p46, List.forall_mem_cons.mpr ⟨lw_p47, fun _ h => absurd h List.not_mem_nil⟩⟩⟩⟩⟩⟩⟩⟩⟩⟩⟩⟩⟩⟩⟩⟩
theorem lw_p48 : lw_okq (⟨"ShutPassesModel", "digit", "(II)I"⟩, 60) := ⟨⟨by decide +kernel, by decide +kernel⟩, lw_t7 (List.mem_of_getElem? (i := 69) rfl), lw_t7 (List.mem_of_getElem? (i := 93) rfl), lw_t7 (List.mem_of_getElem? (i := 94) rfl)⟩
theorem lw_p49 : lw_okq (⟨"ShutPassesModel", "layWeights", "()V"⟩, 60) := ⟨⟨by decide +kernel, by decide +kernel⟩, lw_t7 (List.mem_of_getElem? (i := 69) rfl), lw_t7 (List.mem_of_getElem? (i := 97) rfl), lw_t7 (List.mem_of_getElem? (i := 98) rfl)⟩
theorem lw_p50 : lw_okq (⟨"ShutPassesModel", "layUse", "(II)V"⟩, 60) := ⟨⟨by decide +kernel, by decide +kernel⟩, lw_t7 (List.mem_of_getElem? (i := 69) rfl), lw_t7 (List.mem_of_getElem? (i := 101) rfl), lw_t7 (List.mem_of_getElem? (i := 102) rfl)⟩
theorem lw_p51 : lw_okq (⟨"ShutPassesModel", "layLikely", "()V"⟩, 60) := ⟨⟨by decide +kernel, by decide +kernel⟩, lw_t7 (List.mem_of_getElem? (i := 69) rfl), lw_t7 (List.mem_of_getElem? (i := 106) rfl), lw_t7 (List.mem_of_getElem? (i := 107) rfl)⟩
theorem lw_p52 : lw_okq (⟨"ShutPassesModel", "worldOf", "(I)I"⟩, 60) := ⟨⟨by decide +kernel, by decide +kernel⟩, lw_t7 (List.mem_of_getElem? (i := 69) rfl), lw_t7 (List.mem_of_getElem? (i := 110) rfl), lw_t7 (List.mem_of_getElem? (i := 111) rfl)⟩
theorem lw_p53 : lw_okq (⟨"ShutPassesModel", "unknownIn", "(I)I"⟩, 60) := ⟨⟨by decide +kernel, by decide +kernel⟩, lw_t7 (List.mem_of_getElem? (i := 69) rfl), lw_t7 (List.mem_of_getElem? (i := 114) rfl), lw_t7 (List.mem_of_getElem? (i := 115) rfl)⟩
theorem lw_p54 : lw_okq (⟨"ShutPassesModel", "take", "()V"⟩, 60) := ⟨⟨by decide +kernel, by decide +kernel⟩, lw_t7 (List.mem_of_getElem? (i := 69) rfl), lw_t8 (List.mem_of_getElem? (i := 72) rfl), lw_t8 (List.mem_of_getElem? (i := 73) rfl)⟩
theorem lw_p55 : lw_okq (⟨"ShutPassesModel", "isSmall", "(I)Z"⟩, 60) := ⟨⟨by decide +kernel, by decide +kernel⟩, lw_t7 (List.mem_of_getElem? (i := 69) rfl), lw_t8 (List.mem_of_getElem? (i := 76) rfl), lw_t8 (List.mem_of_getElem? (i := 77) rfl)⟩
theorem lw_p56 : lw_okq (⟨"ShutPassesModel", "wordAt", "(II)I"⟩, 60) := ⟨⟨by decide +kernel, by decide +kernel⟩, lw_t7 (List.mem_of_getElem? (i := 69) rfl), lw_t8 (List.mem_of_getElem? (i := 80) rfl), lw_t8 (List.mem_of_getElem? (i := 81) rfl)⟩
theorem lw_p57 : lw_okq (⟨"ShutPassesModel", "packed", "(II)I"⟩, 60) := ⟨⟨by decide +kernel, by decide +kernel⟩, lw_t7 (List.mem_of_getElem? (i := 69) rfl), lw_t8 (List.mem_of_getElem? (i := 84) rfl), lw_t8 (List.mem_of_getElem? (i := 85) rfl)⟩
theorem lw_p58 : lw_okq (⟨"ShutPassesModel", "isDigit", "(I)Z"⟩, 60) := ⟨⟨by decide +kernel, by decide +kernel⟩, lw_t7 (List.mem_of_getElem? (i := 69) rfl), lw_t8 (List.mem_of_getElem? (i := 88) rfl), lw_t8 (List.mem_of_getElem? (i := 89) rfl)⟩
theorem lw_p59 : lw_okq (⟨"ShutPassesModel", "lineRead", "()Z"⟩, 60) := ⟨⟨by decide +kernel, by decide +kernel⟩, lw_t7 (List.mem_of_getElem? (i := 69) rfl), lw_t8 (List.mem_of_getElem? (i := 92) rfl), lw_t8 (List.mem_of_getElem? (i := 93) rfl)⟩
theorem lw_p60 : lw_okq (⟨"ShutPassesModel", "wrong", "(I)Z"⟩, 60) := ⟨⟨by decide +kernel, by decide +kernel⟩, lw_t7 (List.mem_of_getElem? (i := 69) rfl), lw_t8 (List.mem_of_getElem? (i := 96) rfl), lw_t8 (List.mem_of_getElem? (i := 97) rfl)⟩
theorem lw_p61 : lw_okq (⟨"ShutPassesModel", "placesRead", "()Z"⟩, 60) := ⟨⟨by decide +kernel, by decide +kernel⟩, lw_t7 (List.mem_of_getElem? (i := 69) rfl), lw_t8 (List.mem_of_getElem? (i := 100) rfl), lw_t8 (List.mem_of_getElem? (i := 101) rfl)⟩
theorem lw_p62 : lw_okq (⟨"ShutPassesModel", "placeOf", "(I)I"⟩, 60) := ⟨⟨by decide +kernel, by decide +kernel⟩, lw_t7 (List.mem_of_getElem? (i := 69) rfl), lw_t8 (List.mem_of_getElem? (i := 104) rfl), lw_t8 (List.mem_of_getElem? (i := 105) rfl)⟩
theorem lw_p63 : lw_okq (⟨"ShutPassesModel", "causeRead", "()Z"⟩, 60) := ⟨⟨by decide +kernel, by decide +kernel⟩, lw_t7 (List.mem_of_getElem? (i := 69) rfl), lw_t8 (List.mem_of_getElem? (i := 108) rfl), lw_t8 (List.mem_of_getElem? (i := 109) rfl)⟩
def lw_privs_4 : List (MethodName × Nat) := [(⟨"ShutPassesModel", "digit", "(II)I"⟩, 60), (⟨"ShutPassesModel", "layWeights", "()V"⟩, 60), (⟨"ShutPassesModel", "layUse", "(II)V"⟩, 60), (⟨"ShutPassesModel", "layLikely", "()V"⟩, 60), (⟨"ShutPassesModel", "worldOf", "(I)I"⟩, 60), (⟨"ShutPassesModel", "unknownIn", "(I)I"⟩, 60), (⟨"ShutPassesModel", "take", "()V"⟩, 60), (⟨"ShutPassesModel", "isSmall", "(I)Z"⟩, 60), (⟨"ShutPassesModel", "wordAt", "(II)I"⟩, 60), (⟨"ShutPassesModel", "packed", "(II)I"⟩, 60), (⟨"ShutPassesModel", "isDigit", "(I)Z"⟩, 60), (⟨"ShutPassesModel", "lineRead", "()Z"⟩, 60), (⟨"ShutPassesModel", "wrong", "(I)Z"⟩, 60), (⟨"ShutPassesModel", "placesRead", "()Z"⟩, 60), (⟨"ShutPassesModel", "placeOf", "(I)I"⟩, 60), (⟨"ShutPassesModel", "causeRead", "()Z"⟩, 60)]
theorem lw_r4 : ∀ q ∈ lw_privs_4, lw_okq q := List.forall_mem_cons.mpr ⟨lw_p48, List.forall_mem_cons.mpr ⟨lw_p49, List.forall_mem_cons.mpr ⟨lw_p50, List.forall_mem_cons.mpr ⟨lw_p51, List.forall_mem_cons.mpr ⟨lw_p52, List.forall_mem_cons.mpr ⟨lw_p53, List.forall_mem_cons.mpr ⟨lw_p54, List.forall_mem_cons.mpr ⟨lw_p55, List.forall_mem_cons.mpr ⟨lw_p56, List.forall_mem_cons.mpr ⟨lw_p57, List.forall_mem_cons.mpr ⟨lw_p58, List.forall_mem_cons.mpr ⟨lw_p59, List.forall_mem_cons.mpr ⟨lw_p60, List.forall_mem_cons.mpr ⟨lw_p61, List.forall_mem_cons.mpr ⟨lw_p62, List.forall_mem_cons.mpr ⟨lw_p63, fun _ h => absurd h List.not_mem_nil⟩⟩⟩⟩⟩⟩⟩⟩⟩⟩⟩⟩⟩⟩⟩⟩
theorem lw_p64 : lw_okq (⟨"ShutPassesModel", "causeBy", "(I)I"⟩, 60) := ⟨⟨by decide +kernel, by decide +kernel⟩, lw_t7 (List.mem_of_getElem? (i := 69) rfl), lw_t8 (List.mem_of_getElem? (i := 112) rfl), lw_t8 (List.mem_of_getElem? (i := 113) rfl)⟩
theorem lw_p65 : lw_okq (⟨"ShutPassesModel", "numberRead", "(II)Z"⟩, 60) := ⟨⟨by decide +kernel, by decide +kernel⟩, lw_t7 (List.mem_of_getElem? (i := 69) rfl), lw_t8 (List.mem_of_getElem? (i := 116) rfl), lw_t8 (List.mem_of_getElem? (i := 117) rfl)⟩
theorem lw_p66 : lw_okq (⟨"ShutPassesModel", "roadRead", "()Z"⟩, 60) := ⟨⟨by decide +kernel, by decide +kernel⟩, lw_t7 (List.mem_of_getElem? (i := 69) rfl), lw_t8 (List.mem_of_getElem? (i := 120) rfl), lw_t8 (List.mem_of_getElem? (i := 121) rfl)⟩
theorem lw_p67 : lw_okq (⟨"ShutPassesModel", "spotRead", "()Z"⟩, 60) := ⟨⟨by decide +kernel, by decide +kernel⟩, lw_t7 (List.mem_of_getElem? (i := 69) rfl), lw_t8 (List.mem_of_getElem? (i := 124) rfl), lw_t8 (List.mem_of_getElem? (i := 125) rfl)⟩
theorem lw_p68 : lw_okq (⟨"ShutPassesModel", "roadBetween", "(II)I"⟩, 60) := ⟨⟨by decide +kernel, by decide +kernel⟩, lw_t7 (List.mem_of_getElem? (i := 69) rfl), lw_t8 (List.mem_of_getElem? (i := 128) rfl), lw_t8 (List.mem_of_getElem? (i := 129) rfl)⟩
theorem lw_p69 : lw_okq (⟨"ShutPassesModel", "isKey", "(I)Z"⟩, 60) := ⟨⟨by decide +kernel, by decide +kernel⟩, lw_t7 (List.mem_of_getElem? (i := 69) rfl), lw_t8 (List.mem_of_getElem? (i := 132) rfl), lw_t8 (List.mem_of_getElem? (i := 133) rfl)⟩
theorem lw_p70 : lw_okq (⟨"ShutPassesModel", "isDoubtRoom", "()Z"⟩, 60) := ⟨⟨by decide +kernel, by decide +kernel⟩, lw_t7 (List.mem_of_getElem? (i := 69) rfl), lw_t8 (List.mem_of_getElem? (i := 136) rfl), lw_t8 (List.mem_of_getElem? (i := 137) rfl)⟩
theorem lw_p71 : lw_okq (⟨"ShutPassesModel", "seesRead", "()Z"⟩, 60) := ⟨⟨by decide +kernel, by decide +kernel⟩, lw_t7 (List.mem_of_getElem? (i := 69) rfl), lw_t8 (List.mem_of_getElem? (i := 140) rfl), lw_t8 (List.mem_of_getElem? (i := 141) rfl)⟩
theorem lw_p72 : lw_okq (⟨"ShutPassesModel", "seenRead", "()I"⟩, 60) := ⟨⟨by decide +kernel, by decide +kernel⟩, lw_t7 (List.mem_of_getElem? (i := 69) rfl), lw_t8 (List.mem_of_getElem? (i := 144) rfl), lw_t8 (List.mem_of_getElem? (i := 145) rfl)⟩
theorem lw_p73 : lw_okq (⟨"ShutPassesModel", "innRead", "()Z"⟩, 60) := ⟨⟨by decide +kernel, by decide +kernel⟩, lw_t7 (List.mem_of_getElem? (i := 69) rfl), lw_t8 (List.mem_of_getElem? (i := 148) rfl), lw_t8 (List.mem_of_getElem? (i := 149) rfl)⟩
theorem lw_p74 : lw_okq (⟨"ShutPassesModel", "endRead", "(I)Z"⟩, 60) := ⟨⟨by decide +kernel, by decide +kernel⟩, lw_t7 (List.mem_of_getElem? (i := 69) rfl), lw_t8 (List.mem_of_getElem? (i := 152) rfl), lw_t8 (List.mem_of_getElem? (i := 153) rfl)⟩
theorem lw_p75 : lw_okq (⟨"ShutPassesModel", "isWorld", "(I)Z"⟩, 60) := ⟨⟨by decide +kernel, by decide +kernel⟩, lw_t7 (List.mem_of_getElem? (i := 69) rfl), lw_t8 (List.mem_of_getElem? (i := 164) rfl), lw_t8 (List.mem_of_getElem? (i := 165) rfl)⟩
theorem lw_p76 : lw_okq (⟨"ShutPassesModel", "isKnowing", "(I)Z"⟩, 60) := ⟨⟨by decide +kernel, by decide +kernel⟩, lw_t7 (List.mem_of_getElem? (i := 69) rfl), lw_t8 (List.mem_of_getElem? (i := 173) rfl), lw_t8 (List.mem_of_getElem? (i := 174) rfl)⟩
theorem lw_p77 : lw_okq (⟨"ShutPassesModel", "isDoubtful", "(I)Z"⟩, 60) := ⟨⟨by decide +kernel, by decide +kernel⟩, lw_t7 (List.mem_of_getElem? (i := 69) rfl), lw_t8 (List.mem_of_getElem? (i := 181) rfl), lw_t8 (List.mem_of_getElem? (i := 182) rfl)⟩
theorem lw_p78 : lw_okq (⟨"ShutPassesModel", "fails", "(I)I"⟩, 60) := ⟨⟨by decide +kernel, by decide +kernel⟩, lw_t7 (List.mem_of_getElem? (i := 69) rfl), lw_t8 (List.mem_of_getElem? (i := 189) rfl), lw_t8 (List.mem_of_getElem? (i := 190) rfl)⟩
theorem lw_p79 : lw_okq (⟨"ShutPassesModel", "hasEnds", "()Z"⟩, 60) := ⟨⟨by decide +kernel, by decide +kernel⟩, lw_t7 (List.mem_of_getElem? (i := 69) rfl), lw_t8 (List.mem_of_getElem? (i := 200) rfl), lw_t8 (List.mem_of_getElem? (i := 201) rfl)⟩
def lw_privs_5 : List (MethodName × Nat) := [(⟨"ShutPassesModel", "causeBy", "(I)I"⟩, 60), (⟨"ShutPassesModel", "numberRead", "(II)Z"⟩, 60), (⟨"ShutPassesModel", "roadRead", "()Z"⟩, 60), (⟨"ShutPassesModel", "spotRead", "()Z"⟩, 60), (⟨"ShutPassesModel", "roadBetween", "(II)I"⟩, 60), (⟨"ShutPassesModel", "isKey", "(I)Z"⟩, 60), (⟨"ShutPassesModel", "isDoubtRoom", "()Z"⟩, 60), (⟨"ShutPassesModel", "seesRead", "()Z"⟩, 60), (⟨"ShutPassesModel", "seenRead", "()I"⟩, 60), (⟨"ShutPassesModel", "innRead", "()Z"⟩, 60), (⟨"ShutPassesModel", "endRead", "(I)Z"⟩, 60), (⟨"ShutPassesModel", "isWorld", "(I)Z"⟩, 60), (⟨"ShutPassesModel", "isKnowing", "(I)Z"⟩, 60), (⟨"ShutPassesModel", "isDoubtful", "(I)Z"⟩, 60), (⟨"ShutPassesModel", "fails", "(I)I"⟩, 60), (⟨"ShutPassesModel", "hasEnds", "()Z"⟩, 60)]
theorem lw_r5 : ∀ q ∈ lw_privs_5, lw_okq q := List.forall_mem_cons.mpr ⟨lw_p64, List.forall_mem_cons.mpr ⟨lw_p65, List.forall_mem_cons.mpr ⟨lw_p66, List.forall_mem_cons.mpr ⟨lw_p67, List.forall_mem_cons.mpr ⟨lw_p68, List.forall_mem_cons.mpr ⟨lw_p69, List.forall_mem_cons.mpr ⟨lw_p70, List.forall_mem_cons.mpr ⟨lw_p71, List.forall_mem_cons.mpr ⟨lw_p72, List.forall_mem_cons.mpr ⟨lw_p73, List.forall_mem_cons.mpr ⟨lw_p74, List.forall_mem_cons.mpr ⟨lw_p75, List.forall_mem_cons.mpr ⟨lw_p76, List.forall_mem_cons.mpr ⟨lw_p77, List.forall_mem_cons.mpr ⟨lw_p78, List.forall_mem_cons.mpr ⟨lw_p79, fun _ h => absurd h List.not_mem_nil⟩⟩⟩⟩⟩⟩⟩⟩⟩⟩⟩⟩⟩⟩⟩⟩
theorem lw_p80 : lw_okq (⟨"ShutPassesModel", "knowingOf", "(I)I"⟩, 60) := ⟨⟨by decide +kernel, by decide +kernel⟩, lw_t7 (List.mem_of_getElem? (i := 69) rfl), lw_t8 (List.mem_of_getElem? (i := 204) rfl), lw_t8 (List.mem_of_getElem? (i := 205) rfl)⟩
theorem lw_p81 : lw_okq (⟨"ShutPassesModel", "fullOf", "(I)I"⟩, 60) := ⟨⟨by decide +kernel, by decide +kernel⟩, lw_t7 (List.mem_of_getElem? (i := 69) rfl), lw_t8 (List.mem_of_getElem? (i := 208) rfl), lw_t8 (List.mem_of_getElem? (i := 209) rfl)⟩
theorem lw_p82 : lw_okq (⟨"ShutPassesModel", "layFar", "(II)V"⟩, 60) := ⟨⟨by decide +kernel, by decide +kernel⟩, lw_t7 (List.mem_of_getElem? (i := 69) rfl), lw_t8 (List.mem_of_getElem? (i := 212) rfl), lw_t8 (List.mem_of_getElem? (i := 213) rfl)⟩
theorem lw_p83 : lw_okq (⟨"ShutPassesModel", "places", "()I"⟩, 60) := ⟨⟨by decide +kernel, by decide +kernel⟩, lw_t7 (List.mem_of_getElem? (i := 69) rfl), lw_t8 (List.mem_of_getElem? (i := 216) rfl), lw_t8 (List.mem_of_getElem? (i := 217) rfl)⟩
theorem lw_p84 : lw_okq (⟨"ShutPassesModel", "hoursAs", "(III)I"⟩, 60) := ⟨⟨by decide +kernel, by decide +kernel⟩, lw_t7 (List.mem_of_getElem? (i := 69) rfl), lw_t8 (List.mem_of_getElem? (i := 221) rfl), lw_t8 (List.mem_of_getElem? (i := 222) rfl)⟩
theorem lw_p85 : lw_okq (⟨"ShutPassesModel", "hoursOf", "(II)I"⟩, 60) := ⟨⟨by decide +kernel, by decide +kernel⟩, lw_t7 (List.mem_of_getElem? (i := 69) rfl), lw_t8 (List.mem_of_getElem? (i := 225) rfl), lw_t8 (List.mem_of_getElem? (i := 226) rfl)⟩
theorem lw_p86 : lw_okq (⟨"ShutPassesModel", "layPlan", "(I)V"⟩, 60) := ⟨⟨by decide +kernel, by decide +kernel⟩, lw_t7 (List.mem_of_getElem? (i := 69) rfl), lw_t8 (List.mem_of_getElem? (i := 236) rfl), lw_t8 (List.mem_of_getElem? (i := 237) rfl)⟩
theorem lw_p87 : lw_okq (⟨"ShutPassesModel", "layBest", "()V"⟩, 60) := ⟨⟨by decide +kernel, by decide +kernel⟩, lw_t7 (List.mem_of_getElem? (i := 69) rfl), lw_t9 (List.mem_of_getElem? (i := 0) rfl), lw_t9 (List.mem_of_getElem? (i := 1) rfl)⟩
theorem lw_p88 : lw_okq (⟨"ShutPassesModel", "layValues", "(IZ)V"⟩, 60) := ⟨⟨by decide +kernel, by decide +kernel⟩, lw_t7 (List.mem_of_getElem? (i := 69) rfl), lw_t9 (List.mem_of_getElem? (i := 4) rfl), lw_t9 (List.mem_of_getElem? (i := 5) rfl)⟩
theorem lw_p89 : lw_okq (⟨"ShutPassesModel", "layOne", "(IZI)V"⟩, 60) := ⟨⟨by decide +kernel, by decide +kernel⟩, lw_t7 (List.mem_of_getElem? (i := 69) rfl), lw_t9 (List.mem_of_getElem? (i := 9) rfl), lw_t9 (List.mem_of_getElem? (i := 10) rfl)⟩
theorem lw_p90 : lw_okq (⟨"ShutPassesModel", "isSeen", "(II)Z"⟩, 60) := ⟨⟨by decide +kernel, by decide +kernel⟩, lw_t7 (List.mem_of_getElem? (i := 69) rfl), lw_t9 (List.mem_of_getElem? (i := 13) rfl), lw_t9 (List.mem_of_getElem? (i := 14) rfl)⟩
theorem lw_p91 : lw_okq (⟨"ShutPassesModel", "arrives", "(IZII)J"⟩, 60) := ⟨⟨by decide +kernel, by decide +kernel⟩, lw_t7 (List.mem_of_getElem? (i := 69) rfl), lw_t9 (List.mem_of_getElem? (i := 17) rfl), lw_t9 (List.mem_of_getElem? (i := 18) rfl)⟩
theorem lw_p92 : lw_okq (⟨"ShutPassesModel", "isSold", "(III)Z"⟩, 60) := ⟨⟨by decide +kernel, by decide +kernel⟩, lw_t7 (List.mem_of_getElem? (i := 69) rfl), lw_t9 (List.mem_of_getElem? (i := 22) rfl), lw_t9 (List.mem_of_getElem? (i := 23) rfl)⟩
theorem lw_p93 : lw_okq (⟨"ShutPassesModel", "buys", "(IZII)J"⟩, 60) := ⟨⟨by decide +kernel, by decide +kernel⟩, lw_t7 (List.mem_of_getElem? (i := 69) rfl), lw_t9 (List.mem_of_getElem? (i := 26) rfl), lw_t9 (List.mem_of_getElem? (i := 27) rfl)⟩
theorem lw_p94 : lw_okq (⟨"ShutPassesModel", "least", "(IJII)J"⟩, 60) := ⟨⟨by decide +kernel, by decide +kernel⟩, lw_t7 (List.mem_of_getElem? (i := 69) rfl), lw_t9 (List.mem_of_getElem? (i := 30) rfl), lw_t9 (List.mem_of_getElem? (i := 31) rfl)⟩
theorem lw_p95 : lw_okq (⟨"ShutPassesModel", "goes", "(IJIII)J"⟩, 60) := ⟨⟨by decide +kernel, by decide +kernel⟩, lw_t7 (List.mem_of_getElem? (i := 69) rfl), lw_t9 (List.mem_of_getElem? (i := 34) rfl), lw_t9 (List.mem_of_getElem? (i := 35) rfl)⟩
def lw_privs_6 : List (MethodName × Nat) := [(⟨"ShutPassesModel", "knowingOf", "(I)I"⟩, 60), (⟨"ShutPassesModel", "fullOf", "(I)I"⟩, 60), (⟨"ShutPassesModel", "layFar", "(II)V"⟩, 60), (⟨"ShutPassesModel", "places", "()I"⟩, 60), (⟨"ShutPassesModel", "hoursAs", "(III)I"⟩, 60), (⟨"ShutPassesModel", "hoursOf", "(II)I"⟩, 60), (⟨"ShutPassesModel", "layPlan", "(I)V"⟩, 60), (⟨"ShutPassesModel", "layBest", "()V"⟩, 60), (⟨"ShutPassesModel", "layValues", "(IZ)V"⟩, 60), (⟨"ShutPassesModel", "layOne", "(IZI)V"⟩, 60), (⟨"ShutPassesModel", "isSeen", "(II)Z"⟩, 60), (⟨"ShutPassesModel", "arrives", "(IZII)J"⟩, 60), (⟨"ShutPassesModel", "isSold", "(III)Z"⟩, 60), (⟨"ShutPassesModel", "buys", "(IZII)J"⟩, 60), (⟨"ShutPassesModel", "least", "(IJII)J"⟩, 60), (⟨"ShutPassesModel", "goes", "(IJIII)J"⟩, 60)]
theorem lw_r6 : ∀ q ∈ lw_privs_6, lw_okq q := List.forall_mem_cons.mpr ⟨lw_p80, List.forall_mem_cons.mpr ⟨lw_p81, List.forall_mem_cons.mpr ⟨lw_p82, List.forall_mem_cons.mpr ⟨lw_p83, List.forall_mem_cons.mpr ⟨lw_p84, List.forall_mem_cons.mpr ⟨lw_p85, List.forall_mem_cons.mpr ⟨lw_p86, List.forall_mem_cons.mpr ⟨lw_p87, List.forall_mem_cons.mpr ⟨lw_p88, List.forall_mem_cons.mpr ⟨lw_p89, List.forall_mem_cons.mpr ⟨lw_p90, List.forall_mem_cons.mpr ⟨lw_p91, List.forall_mem_cons.mpr ⟨lw_p92, List.forall_mem_cons.mpr ⟨lw_p93, List.forall_mem_cons.mpr ⟨lw_p94, List.forall_mem_cons.mpr ⟨lw_p95, fun _ h => absurd h List.not_mem_nil⟩⟩⟩⟩⟩⟩⟩⟩⟩⟩⟩⟩⟩⟩⟩⟩
theorem lw_p96 : lw_okq (⟨"ShutPassesModel", "after", "(JIJ)J"⟩, 60) := ⟨⟨by decide +kernel, by decide +kernel⟩, lw_t7 (List.mem_of_getElem? (i := 69) rfl), lw_t9 (List.mem_of_getElem? (i := 38) rfl), lw_t9 (List.mem_of_getElem? (i := 39) rfl)⟩
theorem lw_p97 : lw_okq (⟨"ShutPassesModel", "firstOf", "(IJII)I"⟩, 60) := ⟨⟨by decide +kernel, by decide +kernel⟩, lw_t7 (List.mem_of_getElem? (i := 69) rfl), lw_t9 (List.mem_of_getElem? (i := 42) rfl), lw_t9 (List.mem_of_getElem? (i := 43) rfl)⟩
theorem lw_p98 : lw_okq (⟨"ShutPassesModel", "laySure", "()V"⟩, 60) := ⟨⟨by decide +kernel, by decide +kernel⟩, lw_t7 (List.mem_of_getElem? (i := 69) rfl), lw_t9 (List.mem_of_getElem? (i := 46) rfl), lw_t9 (List.mem_of_getElem? (i := 47) rfl)⟩
theorem lw_p99 : lw_okq (⟨"ShutPassesModel", "layTerm", "()V"⟩, 60) := ⟨⟨by decide +kernel, by decide +kernel⟩, lw_t7 (List.mem_of_getElem? (i := 69) rfl), lw_t9 (List.mem_of_getElem? (i := 50) rfl), lw_t9 (List.mem_of_getElem? (i := 51) rfl)⟩
theorem lw_p100 : lw_okq (⟨"ShutPassesModel", "layFair", "()V"⟩, 60) := ⟨⟨by decide +kernel, by decide +kernel⟩, lw_t7 (List.mem_of_getElem? (i := 69) rfl), lw_t9 (List.mem_of_getElem? (i := 54) rfl), lw_t9 (List.mem_of_getElem? (i := 55) rfl)⟩
theorem lw_p101 : lw_okq (⟨"ShutPassesModel", "layTimes", "(I)Z"⟩, 60) := ⟨⟨by decide +kernel, by decide +kernel⟩, lw_t7 (List.mem_of_getElem? (i := 69) rfl), lw_t9 (List.mem_of_getElem? (i := 58) rfl), lw_t9 (List.mem_of_getElem? (i := 59) rfl)⟩
theorem lw_p102 : lw_okq (⟨"ShutPassesModel", "hoursIn", "(II)J"⟩, 60) := ⟨⟨by decide +kernel, by decide +kernel⟩, lw_t7 (List.mem_of_getElem? (i := 69) rfl), lw_t9 (List.mem_of_getElem? (i := 62) rfl), lw_t9 (List.mem_of_getElem? (i := 63) rfl)⟩
theorem lw_p103 : lw_okq (⟨"ShutPassesModel", "setsOut", "(I)V"⟩, 60) := ⟨⟨by decide +kernel, by decide +kernel⟩, lw_t7 (List.mem_of_getElem? (i := 69) rfl), lw_t9 (List.mem_of_getElem? (i := 66) rfl), lw_t9 (List.mem_of_getElem? (i := 67) rfl)⟩
theorem lw_p104 : lw_okq (⟨"ShutPassesModel", "learns", "(III)I"⟩, 60) := ⟨⟨by decide +kernel, by decide +kernel⟩, lw_t7 (List.mem_of_getElem? (i := 69) rfl), lw_t9 (List.mem_of_getElem? (i := 70) rfl), lw_t9 (List.mem_of_getElem? (i := 71) rfl)⟩
theorem lw_p105 : lw_okq (⟨"ShutPassesModel", "moves", "(II)Z"⟩, 60) := ⟨⟨by decide +kernel, by decide +kernel⟩, lw_t7 (List.mem_of_getElem? (i := 69) rfl), lw_t9 (List.mem_of_getElem? (i := 74) rfl), lw_t9 (List.mem_of_getElem? (i := 75) rfl)⟩
theorem lw_p106 : lw_okq (⟨"ShutPassesModel", "actOf", "(III)I"⟩, 60) := ⟨⟨by decide +kernel, by decide +kernel⟩, lw_t7 (List.mem_of_getElem? (i := 69) rfl), lw_t9 (List.mem_of_getElem? (i := 78) rfl), lw_t9 (List.mem_of_getElem? (i := 79) rfl)⟩
theorem lw_p107 : lw_okq (⟨"ShutPassesModel", "byHand", "(II)I"⟩, 60) := ⟨⟨by decide +kernel, by decide +kernel⟩, lw_t7 (List.mem_of_getElem? (i := 69) rfl), lw_t9 (List.mem_of_getElem? (i := 82) rfl), lw_t9 (List.mem_of_getElem? (i := 83) rfl)⟩
theorem lw_p108 : lw_okq (⟨"ShutPassesModel", "firstUnknown", "(I)I"⟩, 60) := ⟨⟨by decide +kernel, by decide +kernel⟩, lw_t7 (List.mem_of_getElem? (i := 69) rfl), lw_t9 (List.mem_of_getElem? (i := 86) rfl), lw_t9 (List.mem_of_getElem? (i := 87) rfl)⟩
theorem lw_p109 : lw_okq (⟨"ShutPassesModel", "hopAt", "(III)I"⟩, 60) := ⟨⟨by decide +kernel, by decide +kernel⟩, lw_t7 (List.mem_of_getElem? (i := 69) rfl), lw_t9 (List.mem_of_getElem? (i := 90) rfl), lw_t9 (List.mem_of_getElem? (i := 91) rfl)⟩
theorem lw_p110 : lw_okq (⟨"ShutPassesModel", "layLimits", "(JJZ)V"⟩, 60) := ⟨⟨by decide +kernel, by decide +kernel⟩, lw_t7 (List.mem_of_getElem? (i := 69) rfl), lw_t9 (List.mem_of_getElem? (i := 95) rfl), lw_t9 (List.mem_of_getElem? (i := 96) rfl)⟩
theorem lw_p111 : lw_okq (⟨"ShutPassesModel", "meanOf", "(I)J"⟩, 60) := ⟨⟨by decide +kernel, by decide +kernel⟩, lw_t7 (List.mem_of_getElem? (i := 69) rfl), lw_t9 (List.mem_of_getElem? (i := 99) rfl), lw_t9 (List.mem_of_getElem? (i := 100) rfl)⟩
def lw_privs_7 : List (MethodName × Nat) := [(⟨"ShutPassesModel", "after", "(JIJ)J"⟩, 60), (⟨"ShutPassesModel", "firstOf", "(IJII)I"⟩, 60), (⟨"ShutPassesModel", "laySure", "()V"⟩, 60), (⟨"ShutPassesModel", "layTerm", "()V"⟩, 60), (⟨"ShutPassesModel", "layFair", "()V"⟩, 60), (⟨"ShutPassesModel", "layTimes", "(I)Z"⟩, 60), (⟨"ShutPassesModel", "hoursIn", "(II)J"⟩, 60), (⟨"ShutPassesModel", "setsOut", "(I)V"⟩, 60), (⟨"ShutPassesModel", "learns", "(III)I"⟩, 60), (⟨"ShutPassesModel", "moves", "(II)Z"⟩, 60), (⟨"ShutPassesModel", "actOf", "(III)I"⟩, 60), (⟨"ShutPassesModel", "byHand", "(II)I"⟩, 60), (⟨"ShutPassesModel", "firstUnknown", "(I)I"⟩, 60), (⟨"ShutPassesModel", "hopAt", "(III)I"⟩, 60), (⟨"ShutPassesModel", "layLimits", "(JJZ)V"⟩, 60), (⟨"ShutPassesModel", "meanOf", "(I)J"⟩, 60)]
theorem lw_r7 : ∀ q ∈ lw_privs_7, lw_okq q := List.forall_mem_cons.mpr ⟨lw_p96, List.forall_mem_cons.mpr ⟨lw_p97, List.forall_mem_cons.mpr ⟨lw_p98, List.forall_mem_cons.mpr ⟨lw_p99, List.forall_mem_cons.mpr ⟨lw_p100, List.forall_mem_cons.mpr ⟨lw_p101, List.forall_mem_cons.mpr ⟨lw_p102, List.forall_mem_cons.mpr ⟨lw_p103, List.forall_mem_cons.mpr ⟨lw_p104, List.forall_mem_cons.mpr ⟨lw_p105, List.forall_mem_cons.mpr ⟨lw_p106, List.forall_mem_cons.mpr ⟨lw_p107, List.forall_mem_cons.mpr ⟨lw_p108, List.forall_mem_cons.mpr ⟨lw_p109, List.forall_mem_cons.mpr ⟨lw_p110, List.forall_mem_cons.mpr ⟨lw_p111, fun _ h => absurd h List.not_mem_nil⟩⟩⟩⟩⟩⟩⟩⟩⟩⟩⟩⟩⟩⟩⟩⟩
theorem lw_p112 : lw_okq (⟨"ShutPassesModel", "isPlace", "(I)Z"⟩, 60) := ⟨⟨by decide +kernel, by decide +kernel⟩, lw_t7 (List.mem_of_getElem? (i := 69) rfl), lw_t9 (List.mem_of_getElem? (i := 119) rfl), lw_t9 (List.mem_of_getElem? (i := 120) rfl)⟩
theorem lw_p113 : lw_okq (⟨"ShutPassesModel", "told", "(J)J"⟩, 60) := ⟨⟨by decide +kernel, by decide +kernel⟩, lw_t7 (List.mem_of_getElem? (i := 69) rfl), lw_t9 (List.mem_of_getElem? (i := 127) rfl), lw_t9 (List.mem_of_getElem? (i := 128) rfl)⟩
theorem lw_p114 : lw_okq (⟨"ShutPassesModel", "nextRow", "()Z"⟩, 60) := ⟨⟨by decide +kernel, by decide +kernel⟩, lw_t7 (List.mem_of_getElem? (i := 69) rfl), lw_t9 (List.mem_of_getElem? (i := 143) rfl), lw_t9 (List.mem_of_getElem? (i := 144) rfl)⟩
theorem lw_p115 : lw_okq (⟨"ShutPassesModel", "swap", "(II)V"⟩, 60) := ⟨⟨by decide +kernel, by decide +kernel⟩, lw_t7 (List.mem_of_getElem? (i := 69) rfl), lw_t9 (List.mem_of_getElem? (i := 147) rfl), lw_t9 (List.mem_of_getElem? (i := 148) rfl)⟩
theorem lw_p116 : lw_okq (⟨"ShutPassesModel", "ringIn", "(II)I"⟩, 60) := ⟨⟨by decide +kernel, by decide +kernel⟩, lw_t7 (List.mem_of_getElem? (i := 69) rfl), lw_t9 (List.mem_of_getElem? (i := 159) rfl), lw_t9 (List.mem_of_getElem? (i := 160) rfl)⟩
theorem lw_p117 : lw_okq (⟨"ShutPassesModel", "layBell", "(II)V"⟩, 60) := ⟨⟨by decide +kernel, by decide +kernel⟩, lw_t7 (List.mem_of_getElem? (i := 69) rfl), lw_t9 (List.mem_of_getElem? (i := 167) rfl), lw_t9 (List.mem_of_getElem? (i := 168) rfl)⟩
theorem lw_p118 : lw_okq (⟨"ShutPassesModel", "bestInTime", "(III)I"⟩, 60) := ⟨⟨by decide +kernel, by decide +kernel⟩, lw_t7 (List.mem_of_getElem? (i := 69) rfl), lw_t9 (List.mem_of_getElem? (i := 171) rfl), lw_t9 (List.mem_of_getElem? (i := 172) rfl)⟩
theorem lw_p119 : lw_okq (⟨"ShutPassesModel", "comesInTime", "(III)I"⟩, 60) := ⟨⟨by decide +kernel, by decide +kernel⟩, lw_t7 (List.mem_of_getElem? (i := 69) rfl), lw_t9 (List.mem_of_getElem? (i := 175) rfl), lw_t9 (List.mem_of_getElem? (i := 176) rfl)⟩
theorem lw_p120 : lw_okq (⟨"ShutPassesModel", "knowingSome", "(I)J"⟩, 60) := ⟨⟨by decide +kernel, by decide +kernel⟩, lw_t7 (List.mem_of_getElem? (i := 69) rfl), lw_t9 (List.mem_of_getElem? (i := 183) rfl), lw_t9 (List.mem_of_getElem? (i := 184) rfl)⟩
theorem lw_p121 : lw_okq (⟨"ShutPassesModel", "useAsTold", "()V"⟩, 60) := ⟨⟨by decide +kernel, by decide +kernel⟩, lw_t7 (List.mem_of_getElem? (i := 69) rfl), lw_t9 (List.mem_of_getElem? (i := 195) rfl), lw_t9 (List.mem_of_getElem? (i := 196) rfl)⟩
theorem lw_p122 : lw_okq (⟨"ShutPassesModel", "canWalk", "()Z"⟩, 60) := ⟨⟨by decide +kernel, by decide +kernel⟩, lw_t7 (List.mem_of_getElem? (i := 69) rfl), lw_t9 (List.mem_of_getElem? (i := 215) rfl), lw_t9 (List.mem_of_getElem? (i := 216) rfl)⟩
def lw_privs_8 : List (MethodName × Nat) := [(⟨"ShutPassesModel", "isPlace", "(I)Z"⟩, 60), (⟨"ShutPassesModel", "told", "(J)J"⟩, 60), (⟨"ShutPassesModel", "nextRow", "()Z"⟩, 60), (⟨"ShutPassesModel", "swap", "(II)V"⟩, 60), (⟨"ShutPassesModel", "ringIn", "(II)I"⟩, 60), (⟨"ShutPassesModel", "layBell", "(II)V"⟩, 60), (⟨"ShutPassesModel", "bestInTime", "(III)I"⟩, 60), (⟨"ShutPassesModel", "comesInTime", "(III)I"⟩, 60), (⟨"ShutPassesModel", "knowingSome", "(I)J"⟩, 60), (⟨"ShutPassesModel", "useAsTold", "()V"⟩, 60), (⟨"ShutPassesModel", "canWalk", "()Z"⟩, 60)]
theorem lw_r8 : ∀ q ∈ lw_privs_8, lw_okq q := List.forall_mem_cons.mpr ⟨lw_p112, List.forall_mem_cons.mpr ⟨lw_p113, List.forall_mem_cons.mpr ⟨lw_p114, List.forall_mem_cons.mpr ⟨lw_p115, List.forall_mem_cons.mpr ⟨lw_p116, List.forall_mem_cons.mpr ⟨lw_p117, List.forall_mem_cons.mpr ⟨lw_p118, List.forall_mem_cons.mpr ⟨lw_p119, List.forall_mem_cons.mpr ⟨lw_p120, List.forall_mem_cons.mpr ⟨lw_p121, List.forall_mem_cons.mpr ⟨lw_p122, fun _ h => absurd h List.not_mem_nil⟩⟩⟩⟩⟩⟩⟩⟩⟩⟩⟩
def lw_privs : List (MethodName × Nat) := lw_privs_1 ++ (lw_privs_2 ++ (lw_privs_3 ++ (lw_privs_4 ++ (lw_privs_5 ++ (lw_privs_6 ++ (lw_privs_7 ++ (lw_privs_8)))))))
def lw_tbl : List Cond := k2_sels lw_privs ++ tables_1
theorem lw_privs_ok : ∀ q ∈ lw_privs, lw_okq q := by
  show ∀ q ∈ lw_privs_1 ++ (lw_privs_2 ++ (lw_privs_3 ++ (lw_privs_4 ++ (lw_privs_5 ++ (lw_privs_6 ++ (lw_privs_7 ++ (lw_privs_8))))))), lw_okq q
  exact List.forall_mem_append.mpr ⟨lw_r1, List.forall_mem_append.mpr ⟨lw_r2, List.forall_mem_append.mpr ⟨lw_r3, List.forall_mem_append.mpr ⟨lw_r4, List.forall_mem_append.mpr ⟨lw_r5, List.forall_mem_append.mpr ⟨lw_r6, List.forall_mem_append.mpr ⟨lw_r7, lw_r8⟩⟩⟩⟩⟩⟩⟩
-- ===== ONE list of words for every method: the tables' words that hold all through a run =====
def lw_all : List Cond := lw_tbl.filter goodWord
/-- a word of the tables by its place: claim/WORDS.tsv -/
theorem lw_w {w : Cond} (i : Nat) (h : lw_tbl[i]? = some w) (g : goodWord w = true) : w ∈ lw_all := List.mem_filter.mpr ⟨List.mem_of_getElem? h, g⟩
theorem lw_all_tbl {w : Cond} (h : w ∈ lw_all) : w ∈ lw_tbl := (List.mem_filter.mp h).1
theorem lw_self : GoodIn lw_all lw_all := fun w h => ⟨h, good_of_word (List.mem_filter.mp h).2⟩
/-- a class's field words, by their places -/
theorem lw_in (ws : List Cond) (ps : List Nat) (hp : ws = ps.filterMap (fun i => lw_tbl[i]?)) (hg : ws.all goodWord = true) : ∀ w ∈ ws, w ∈ lw_all := by
  intro w h
  have h1 := List.all_eq_true.mp hg w h
  rw [hp] at h
  obtain ⟨i, -, hi⟩ := List.mem_filterMap.mp h
  exact lw_w i hi h1
/-- the words of a contract for the method y with code b, L locals, answer r -/
abbrev ws_ (y : MethodName) (b : ByteArray) (L : Nat) (r : Option FieldType) : List Cond := Cond.code y b L r :: lw_all
theorem lw_meth {y : MethodName} {b : ByteArray} {L : Nat} {r : Option FieldType} (h : Cond.code y b L r ∈ lw_all) : GoodIn lw_all (ws_ y b L r) := by
  intro w hw
  rcases List.mem_cons.mp hw with e | e
  · rw [e]
    exact lw_self _ h
  · exact lw_self _ e
theorem lw_app {a c : List Cond} (ha : ∀ w ∈ a, w ∈ lw_all) (hc : GoodIn lw_all c) : GoodIn lw_all (a ++ c) := by
  intro w hw
  rcases List.mem_append.mp hw with e | e
  · exact lw_self w (ha w e)
  · exact hc w e
/-- what a call through an object asks: cwV n hts (lw_V ..) -/
theorem lw_V {own : String} {idx : Nat} {C : String} {y : MethodName} {b : ByteArray} {L : Nat} {r : Option FieldType} (h1 : Cond.methodLink own idx y ∈ lw_all) (h2 : Cond.instanceMethod y ∈ lw_all) (h3 : Cond.selects C y y ∈ lw_all) (h4 : Cond.initialized C ∈ lw_all) (h5 : Cond.code y b L r ∈ lw_all) : GoodIn lw_all (wsV own idx C y (ws_ y b L r)) := by
  refine lw_app ?_ (lw_meth h5)
  intro w hw
  simp only [List.mem_cons, List.not_mem_nil, or_false] at hw
  rcases hw with e | e | e | e
  · rw [e]; exact h1
  · rw [e]; exact h2
  · rw [e]; exact h3
  · rw [e]; exact h4
/-- what a static call asks: va_cwS n hts (lw_S ..) -/
theorem lw_S {own : String} {idx : Nat} {y : MethodName} {b : ByteArray} {L : Nat} {r : Option FieldType} (h1 : Cond.methodLink own idx y ∈ lw_all) (h2 : Cond.static y ∈ lw_all) (h3 : Cond.initialized y.cls ∈ lw_all) (h4 : Cond.code y b L r ∈ lw_all) : GoodIn lw_all (va_wsS own idx y (ws_ y b L r)) := by
  refine lw_app ?_ (lw_meth h4)
  intro w hw
  simp only [List.mem_cons, List.not_mem_nil, or_false] at hw
  rcases hw with e | e | e
  · rw [e]; exact h1
  · rw [e]; exact h2
  · rw [e]; exact h3
/-- the words of a contract for a method WITH HANDLERS (hh: its table) -/
abbrev wsW_ (y : MethodName) (b : ByteArray) (L : Nat) (r : Option FieldType) (hh : List (Nat × Nat × Nat × Nat)) : List Cond := Cond.codeWith y b L r hh :: lw_all
theorem lw_methW {y : MethodName} {b : ByteArray} {L : Nat} {r : Option FieldType} {hh : List (Nat × Nat × Nat × Nat)} (h : Cond.codeWith y b L r hh ∈ lw_all) : GoodIn lw_all (wsW_ y b L r hh) := by
  intro w hw
  rcases List.mem_cons.mp hw with e | e
  · rw [e]
    exact lw_self _ h
  · exact lw_self _ e
/-- any list of words by their places (lw_in), good -/
theorem lw_good {ws : List Cond} (h : ∀ w ∈ ws, w ∈ lw_all) : GoodIn lw_all ws := fun w hw => lw_self w (h w hw)
/-- what a call of a method with handlers asks: vx_cwVW n hts (lw_VW ..), vx_cwSW n hts (lw_SW ..) -/
theorem lw_VW {own : String} {idx : Nat} {C : String} {y : MethodName} {b : ByteArray} {L : Nat} {r : Option FieldType} {hh : List (Nat × Nat × Nat × Nat)} (h1 : Cond.methodLink own idx y ∈ lw_all) (h2 : Cond.instanceMethod y ∈ lw_all) (h3 : Cond.selects C y y ∈ lw_all) (h4 : Cond.initialized C ∈ lw_all) (h5 : Cond.codeWith y b L r hh ∈ lw_all) : GoodIn lw_all (wsV own idx C y (wsW_ y b L r hh)) := by
  refine lw_app ?_ (lw_methW h5)
  intro w hw
  simp only [List.mem_cons, List.not_mem_nil, or_false] at hw
  rcases hw with e | e | e | e
  · rw [e]; exact h1
  · rw [e]; exact h2
  · rw [e]; exact h3
  · rw [e]; exact h4
theorem lw_SW {own : String} {idx : Nat} {y : MethodName} {b : ByteArray} {L : Nat} {r : Option FieldType} {hh : List (Nat × Nat × Nat × Nat)} (h1 : Cond.methodLink own idx y ∈ lw_all) (h2 : Cond.static y ∈ lw_all) (h3 : Cond.initialized y.cls ∈ lw_all) (h4 : Cond.codeWith y b L r hh ∈ lw_all) : GoodIn lw_all (va_wsS own idx y (wsW_ y b L r hh)) := by
  refine lw_app ?_ (lw_methW h4)
  intro w hw
  simp only [List.mem_cons, List.not_mem_nil, or_false] at hw
  rcases hw with e | e | e
  · rw [e]; exact h1
  · rw [e]; exact h2
  · rw [e]; exact h3
/-- a word by its place in its run of the tables -/
theorem lw_at {r : List Cond} (hr : ∀ w ∈ r, w ∈ lw_tbl) {w : Cond} (i : Nat) (h : r[i]? = some w) : w ∈ lw_tbl := hr w (List.mem_of_getElem? h)
theorem lw_g {w : Cond} (h : w ∈ lw_tbl) (g : goodWord w = true) : w ∈ lw_all := List.mem_filter.mpr ⟨h, g⟩
theorem lw_ms : ∀ w ∈ k2_sels lw_privs, w ∈ lw_tbl := fun w h => show w ∈ k2_sels lw_privs ++ tables_1 from List.mem_append_left _ h
theorem lw_m1 : ∀ w ∈ tables_1_1, w ∈ lw_tbl := fun w h => show w ∈ k2_sels lw_privs ++ tables_1 from List.mem_append_right (k2_sels lw_privs) (show w ∈ tables_1 from List.mem_append_left _ h)
theorem lw_m2 : ∀ w ∈ tables_1_2, w ∈ lw_tbl := fun w h => show w ∈ k2_sels lw_privs ++ tables_1 from List.mem_append_right (k2_sels lw_privs) (show w ∈ tables_1 from List.mem_append_right _ (List.mem_append_left _ h))
theorem lw_m3 : ∀ w ∈ tables_1_3, w ∈ lw_tbl := fun w h => show w ∈ k2_sels lw_privs ++ tables_1 from List.mem_append_right (k2_sels lw_privs) (show w ∈ tables_1 from List.mem_append_right _ (List.mem_append_right _ (List.mem_append_left _ h)))
theorem lw_m4 : ∀ w ∈ tables_1_4, w ∈ lw_tbl := fun w h => show w ∈ k2_sels lw_privs ++ tables_1 from List.mem_append_right (k2_sels lw_privs) (show w ∈ tables_1 from List.mem_append_right _ (List.mem_append_right _ (List.mem_append_right _ (List.mem_append_left _ h))))
theorem lw_m5 : ∀ w ∈ tables_1_5, w ∈ lw_tbl := fun w h => show w ∈ k2_sels lw_privs ++ tables_1 from List.mem_append_right (k2_sels lw_privs) (show w ∈ tables_1 from List.mem_append_right _ (List.mem_append_right _ (List.mem_append_right _ (List.mem_append_right _ (List.mem_append_left _ h)))))
theorem lw_m6 : ∀ w ∈ tables_1_6, w ∈ lw_tbl := fun w h => show w ∈ k2_sels lw_privs ++ tables_1 from List.mem_append_right (k2_sels lw_privs) (show w ∈ tables_1 from List.mem_append_right _ (List.mem_append_right _ (List.mem_append_right _ (List.mem_append_right _ (List.mem_append_right _ (List.mem_append_left _ h))))))
theorem lw_m7 : ∀ w ∈ tables_1_7, w ∈ lw_tbl := fun w h => show w ∈ k2_sels lw_privs ++ tables_1 from List.mem_append_right (k2_sels lw_privs) (show w ∈ tables_1 from List.mem_append_right _ (List.mem_append_right _ (List.mem_append_right _ (List.mem_append_right _ (List.mem_append_right _ (List.mem_append_right _ (List.mem_append_left _ h)))))))
theorem lw_m8 : ∀ w ∈ tables_1_8, w ∈ lw_tbl := fun w h => show w ∈ k2_sels lw_privs ++ tables_1 from List.mem_append_right (k2_sels lw_privs) (show w ∈ tables_1 from List.mem_append_right _ (List.mem_append_right _ (List.mem_append_right _ (List.mem_append_right _ (List.mem_append_right _ (List.mem_append_right _ (List.mem_append_right _ (List.mem_append_left _ h))))))))
theorem lw_m9 : ∀ w ∈ tables_1_9, w ∈ lw_tbl := fun w h => show w ∈ k2_sels lw_privs ++ tables_1 from List.mem_append_right (k2_sels lw_privs) (show w ∈ tables_1 from List.mem_append_right _ (List.mem_append_right _ (List.mem_append_right _ (List.mem_append_right _ (List.mem_append_right _ (List.mem_append_right _ (List.mem_append_right _ (List.mem_append_right _ (List.mem_append_left _ h)))))))))
theorem lw_m10 : ∀ w ∈ tables_1_10, w ∈ lw_tbl := fun w h => show w ∈ k2_sels lw_privs ++ tables_1 from List.mem_append_right (k2_sels lw_privs) (show w ∈ tables_1 from List.mem_append_right _ (List.mem_append_right _ (List.mem_append_right _ (List.mem_append_right _ (List.mem_append_right _ (List.mem_append_right _ (List.mem_append_right _ (List.mem_append_right _ (List.mem_append_right _ h)))))))))
theorem qs0 : (Cond.selects "ShutPasses" ⟨"ShutPasses", "put", "(I)V"⟩ ⟨"ShutPasses", "put", "(I)V"⟩) ∈ lw_all := lw_g (lw_at lw_ms 0 rfl) rfl
theorem qs1 : (Cond.selects "ShutPasses$Reader" ⟨"ShutPasses$Reader", "next", "()V"⟩ ⟨"ShutPasses$Reader", "next", "()V"⟩) ∈ lw_all := lw_g (lw_at lw_ms 1 rfl) rfl
theorem qs2 : (Cond.selects "ShutPasses$Reader" ⟨"ShutPasses$Reader", "here", "()I"⟩ ⟨"ShutPasses$Reader", "here", "()I"⟩) ∈ lw_all := lw_g (lw_at lw_ms 2 rfl) rfl
theorem qs3 : (Cond.selects "ShutPasses$Reader" ⟨"ShutPasses$Reader", "word", "()I"⟩ ⟨"ShutPasses$Reader", "word", "()I"⟩) ∈ lw_all := lw_g (lw_at lw_ms 3 rfl) rfl
theorem qs4 : (Cond.selects "ShutPasses$Reader" ⟨"ShutPasses$Reader", "name", "()V"⟩ ⟨"ShutPasses$Reader", "name", "()V"⟩) ∈ lw_all := lw_g (lw_at lw_ms 4 rfl) rfl
theorem qs5 : (Cond.selects "ShutPasses$Reader" ⟨"ShutPasses$Reader", "line", "()V"⟩ ⟨"ShutPasses$Reader", "line", "()V"⟩) ∈ lw_all := lw_g (lw_at lw_ms 5 rfl) rfl
theorem qs6 : (Cond.selects "ShutPasses$Reader" ⟨"ShutPasses$Reader", "wrong", "(I)LShutPasses$Fault;"⟩ ⟨"ShutPasses$Reader", "wrong", "(I)LShutPasses$Fault;"⟩) ∈ lw_all := lw_g (lw_at lw_ms 6 rfl) rfl
theorem qs7 : (Cond.selects "java/lang/Throwable" ⟨"java/lang/Throwable", "fillInStackTrace", "(I)Ljava/lang/Throwable;"⟩ ⟨"java/lang/Throwable", "fillInStackTrace", "(I)Ljava/lang/Throwable;"⟩) ∈ lw_all := lw_g (lw_at lw_ms 7 rfl) rfl
theorem qs8 : (Cond.selects "ShutPasses$Reader" ⟨"ShutPasses$Reader", "places", "()V"⟩ ⟨"ShutPasses$Reader", "places", "()V"⟩) ∈ lw_all := lw_g (lw_at lw_ms 8 rfl) rfl
theorem qs9 : (Cond.selects "ShutPasses$Reader" ⟨"ShutPasses$Reader", "cause", "()V"⟩ ⟨"ShutPasses$Reader", "cause", "()V"⟩) ∈ lw_all := lw_g (lw_at lw_ms 9 rfl) rfl
theorem qs10 : (Cond.selects "ShutPasses$Reader" ⟨"ShutPasses$Reader", "number", "(I)I"⟩ ⟨"ShutPasses$Reader", "number", "(I)I"⟩) ∈ lw_all := lw_g (lw_at lw_ms 10 rfl) rfl
theorem qs11 : (Cond.selects "ShutPasses$Reader" ⟨"ShutPasses$Reader", "road", "()V"⟩ ⟨"ShutPasses$Reader", "road", "()V"⟩) ∈ lw_all := lw_g (lw_at lw_ms 11 rfl) rfl
theorem qs12 : (Cond.selects "ShutPasses$Reader" ⟨"ShutPasses$Reader", "aPlace", "()I"⟩ ⟨"ShutPasses$Reader", "aPlace", "()I"⟩) ∈ lw_all := lw_g (lw_at lw_ms 12 rfl) rfl
theorem qs13 : (Cond.selects "ShutPasses$Reader" ⟨"ShutPasses$Reader", "doubtful", "(LShutPasses$Road;)V"⟩ ⟨"ShutPasses$Reader", "doubtful", "(LShutPasses$Road;)V"⟩) ∈ lw_all := lw_g (lw_at lw_ms 13 rfl) rfl
theorem qs14 : (Cond.selects "java/util/ArrayList" ⟨"java/util/ArrayList", "add", "(Ljava/lang/Object;[Ljava/lang/Object;I)V"⟩ ⟨"java/util/ArrayList", "add", "(Ljava/lang/Object;[Ljava/lang/Object;I)V"⟩) ∈ lw_all := lw_g (lw_at lw_ms 14 rfl) rfl
theorem qs15 : (Cond.selects "java/util/ArrayList" ⟨"java/util/ArrayList", "grow", "()[Ljava/lang/Object;"⟩ ⟨"java/util/ArrayList", "grow", "()[Ljava/lang/Object;"⟩) ∈ lw_all := lw_g (lw_at lw_ms 15 rfl) rfl
theorem qs16 : (Cond.selects "java/util/ArrayList" ⟨"java/util/ArrayList", "grow", "(I)[Ljava/lang/Object;"⟩ ⟨"java/util/ArrayList", "grow", "(I)[Ljava/lang/Object;"⟩) ∈ lw_all := lw_g (lw_at lw_ms 16 rfl) rfl
theorem qs17 : (Cond.selects "ShutPasses$Reader" ⟨"ShutPasses$Reader", "sees", "()V"⟩ ⟨"ShutPasses$Reader", "sees", "()V"⟩) ∈ lw_all := lw_g (lw_at lw_ms 17 rfl) rfl
theorem qs18 : (Cond.selects "ShutPasses$Reader" ⟨"ShutPasses$Reader", "aRoad", "()I"⟩ ⟨"ShutPasses$Reader", "aRoad", "()I"⟩) ∈ lw_all := lw_g (lw_at lw_ms 18 rfl) rfl
theorem qs19 : (Cond.selects "ShutPasses$Reader" ⟨"ShutPasses$Reader", "inn", "()V"⟩ ⟨"ShutPasses$Reader", "inn", "()V"⟩) ∈ lw_all := lw_g (lw_at lw_ms 19 rfl) rfl
theorem qs20 : (Cond.selects "ShutPasses" ⟨"ShutPasses", "isWorld", "(I)Z"⟩ ⟨"ShutPasses", "isWorld", "(I)Z"⟩) ∈ lw_all := lw_g (lw_at lw_ms 20 rfl) rfl
theorem qs21 : (Cond.selects "ShutPasses" ⟨"ShutPasses", "lay", "()V"⟩ ⟨"ShutPasses", "lay", "()V"⟩) ∈ lw_all := lw_g (lw_at lw_ms 21 rfl) rfl
theorem qs22 : (Cond.selects "ShutPasses$Weights" ⟨"ShutPasses$Weights", "join", "(LShutPasses$Land;)V"⟩ ⟨"ShutPasses$Weights", "join", "(LShutPasses$Land;)V"⟩) ∈ lw_all := lw_g (lw_at lw_ms 22 rfl) rfl
theorem qs23 : (Cond.selects "ShutPasses" ⟨"ShutPasses", "hoursOf", "(I)I"⟩ ⟨"ShutPasses", "hoursOf", "(I)I"⟩) ∈ lw_all := lw_g (lw_at lw_ms 23 rfl) rfl
theorem qs24 : (Cond.selects "ShutPasses" ⟨"ShutPasses", "isKnown", "(I)Z"⟩ ⟨"ShutPasses", "isKnown", "(I)Z"⟩) ∈ lw_all := lw_g (lw_at lw_ms 24 rfl) rfl
theorem qs25 : (Cond.selects "ShutPasses" ⟨"ShutPasses", "isDoubtful", "(I)Z"⟩ ⟨"ShutPasses", "isDoubtful", "(I)Z"⟩) ∈ lw_all := lw_g (lw_at lw_ms 25 rfl) rfl
theorem qs26 : (Cond.selects "ShutPasses" ⟨"ShutPasses", "isPlan", "(I)Z"⟩ ⟨"ShutPasses", "isPlan", "(I)Z"⟩) ∈ lw_all := lw_g (lw_at lw_ms 26 rfl) rfl
theorem qs27 : (Cond.selects "ShutPasses" ⟨"ShutPasses", "plan", "(I)LShutPasses$Plan;"⟩ ⟨"ShutPasses", "plan", "(I)LShutPasses$Plan;"⟩) ∈ lw_all := lw_g (lw_at lw_ms 27 rfl) rfl
theorem qs28 : (Cond.selects "ShutPasses" ⟨"ShutPasses", "seekFair", "()V"⟩ ⟨"ShutPasses", "seekFair", "()V"⟩) ∈ lw_all := lw_g (lw_at lw_ms 28 rfl) rfl
theorem qs29 : (Cond.selects "ShutPasses" ⟨"ShutPasses", "seeing", "(III)I"⟩ ⟨"ShutPasses", "seeing", "(III)I"⟩) ∈ lw_all := lw_g (lw_at lw_ms 29 rfl) rfl
theorem qs30 : (Cond.selects "ShutPasses" ⟨"ShutPasses", "isAhead", "(I)Z"⟩ ⟨"ShutPasses", "isAhead", "(I)Z"⟩) ∈ lw_all := lw_g (lw_at lw_ms 30 rfl) rfl
theorem qs31 : (Cond.selects "ShutPasses" ⟨"ShutPasses", "isPlace", "(I)Z"⟩ ⟨"ShutPasses", "isPlace", "(I)Z"⟩) ∈ lw_all := lw_g (lw_at lw_ms 31 rfl) rfl
theorem qs32 : (Cond.selects "ShutPasses" ⟨"ShutPasses", "weigh", "()V"⟩ ⟨"ShutPasses", "weigh", "()V"⟩) ∈ lw_all := lw_g (lw_at lw_ms 32 rfl) rfl
theorem qs33 : (Cond.selects "ShutPasses" ⟨"ShutPasses", "told", "(JLShutPasses$Table;)J"⟩ ⟨"ShutPasses", "told", "(JLShutPasses$Table;)J"⟩) ∈ lw_all := lw_g (lw_at lw_ms 33 rfl) rfl
theorem qs34 : (Cond.selects "ShutPasses" ⟨"ShutPasses", "rows", "(II)V"⟩ ⟨"ShutPasses", "rows", "(II)V"⟩) ∈ lw_all := lw_g (lw_at lw_ms 34 rfl) rfl
theorem qs35 : (Cond.selects "ShutPasses" ⟨"ShutPasses", "ring", "(II)I"⟩ ⟨"ShutPasses", "ring", "(II)I"⟩) ∈ lw_all := lw_g (lw_at lw_ms 35 rfl) rfl
theorem qs36 : (Cond.selects "ShutPasses" ⟨"ShutPasses", "ring", "()V"⟩ ⟨"ShutPasses", "ring", "()V"⟩) ∈ lw_all := lw_g (lw_at lw_ms 36 rfl) rfl
theorem qs37 : (Cond.selects "ShutPasses" ⟨"ShutPasses", "inTime", "(III)J"⟩ ⟨"ShutPasses", "inTime", "(III)J"⟩) ∈ lw_all := lw_g (lw_at lw_ms 37 rfl) rfl
theorem qs38 : (Cond.selects "ShutPasses" ⟨"ShutPasses", "over", "(IIII)J"⟩ ⟨"ShutPasses", "over", "(IIII)J"⟩) ∈ lw_all := lw_g (lw_at lw_ms 38 rfl) rfl
theorem qs39 : (Cond.selects "ShutPasses" ⟨"ShutPasses", "ahead", "(I)J"⟩ ⟨"ShutPasses", "ahead", "(I)J"⟩) ∈ lw_all := lw_g (lw_at lw_ms 39 rfl) rfl
theorem qs40 : (Cond.selects "ShutPasses" ⟨"ShutPasses", "isOther", "()Z"⟩ ⟨"ShutPasses", "isOther", "()Z"⟩) ∈ lw_all := lw_g (lw_at lw_ms 40 rfl) rfl
theorem qs41 : (Cond.selects "ShutPasses" ⟨"ShutPasses", "isFirst", "(I)Z"⟩ ⟨"ShutPasses", "isFirst", "(I)Z"⟩) ∈ lw_all := lw_g (lw_at lw_ms 41 rfl) rfl
theorem qs42 : (Cond.selects "ShutPasses" ⟨"ShutPasses", "mayStep", "()Z"⟩ ⟨"ShutPasses", "mayStep", "()Z"⟩) ∈ lw_all := lw_g (lw_at lw_ms 42 rfl) rfl
theorem qs43 : (Cond.selects "ShutPasses" ⟨"ShutPasses", "step", "(III)V"⟩ ⟨"ShutPasses", "step", "(III)V"⟩) ∈ lw_all := lw_g (lw_at lw_ms 43 rfl) rfl
theorem qs44 : (Cond.selects "ShutPassesModel" ⟨"ShutPassesModel", "plain", "()V"⟩ ⟨"ShutPassesModel", "plain", "()V"⟩) ∈ lw_all := lw_g (lw_at lw_ms 44 rfl) rfl
theorem qs45 : (Cond.selects "ShutPassesModel" ⟨"ShutPassesModel", "keep", "()V"⟩ ⟨"ShutPassesModel", "keep", "()V"⟩) ∈ lw_all := lw_g (lw_at lw_ms 45 rfl) rfl
theorem qs46 : (Cond.selects "ShutPassesModel" ⟨"ShutPassesModel", "doubts", "()I"⟩ ⟨"ShutPassesModel", "doubts", "()I"⟩) ∈ lw_all := lw_g (lw_at lw_ms 46 rfl) rfl
theorem qs47 : (Cond.selects "ShutPassesModel" ⟨"ShutPassesModel", "openIn", "(I)I"⟩ ⟨"ShutPassesModel", "openIn", "(I)I"⟩) ∈ lw_all := lw_g (lw_at lw_ms 47 rfl) rfl
theorem qs48 : (Cond.selects "ShutPassesModel" ⟨"ShutPassesModel", "digit", "(II)I"⟩ ⟨"ShutPassesModel", "digit", "(II)I"⟩) ∈ lw_all := lw_g (lw_at lw_ms 48 rfl) rfl
theorem qs49 : (Cond.selects "ShutPassesModel" ⟨"ShutPassesModel", "layWeights", "()V"⟩ ⟨"ShutPassesModel", "layWeights", "()V"⟩) ∈ lw_all := lw_g (lw_at lw_ms 49 rfl) rfl
theorem qs50 : (Cond.selects "ShutPassesModel" ⟨"ShutPassesModel", "layUse", "(II)V"⟩ ⟨"ShutPassesModel", "layUse", "(II)V"⟩) ∈ lw_all := lw_g (lw_at lw_ms 50 rfl) rfl
theorem qs51 : (Cond.selects "ShutPassesModel" ⟨"ShutPassesModel", "layLikely", "()V"⟩ ⟨"ShutPassesModel", "layLikely", "()V"⟩) ∈ lw_all := lw_g (lw_at lw_ms 51 rfl) rfl
theorem qs52 : (Cond.selects "ShutPassesModel" ⟨"ShutPassesModel", "worldOf", "(I)I"⟩ ⟨"ShutPassesModel", "worldOf", "(I)I"⟩) ∈ lw_all := lw_g (lw_at lw_ms 52 rfl) rfl
theorem qs53 : (Cond.selects "ShutPassesModel" ⟨"ShutPassesModel", "unknownIn", "(I)I"⟩ ⟨"ShutPassesModel", "unknownIn", "(I)I"⟩) ∈ lw_all := lw_g (lw_at lw_ms 53 rfl) rfl
theorem qs54 : (Cond.selects "ShutPassesModel" ⟨"ShutPassesModel", "take", "()V"⟩ ⟨"ShutPassesModel", "take", "()V"⟩) ∈ lw_all := lw_g (lw_at lw_ms 54 rfl) rfl
theorem qs55 : (Cond.selects "ShutPassesModel" ⟨"ShutPassesModel", "isSmall", "(I)Z"⟩ ⟨"ShutPassesModel", "isSmall", "(I)Z"⟩) ∈ lw_all := lw_g (lw_at lw_ms 55 rfl) rfl
theorem qs56 : (Cond.selects "ShutPassesModel" ⟨"ShutPassesModel", "wordAt", "(II)I"⟩ ⟨"ShutPassesModel", "wordAt", "(II)I"⟩) ∈ lw_all := lw_g (lw_at lw_ms 56 rfl) rfl
theorem qs57 : (Cond.selects "ShutPassesModel" ⟨"ShutPassesModel", "packed", "(II)I"⟩ ⟨"ShutPassesModel", "packed", "(II)I"⟩) ∈ lw_all := lw_g (lw_at lw_ms 57 rfl) rfl
theorem qs58 : (Cond.selects "ShutPassesModel" ⟨"ShutPassesModel", "isDigit", "(I)Z"⟩ ⟨"ShutPassesModel", "isDigit", "(I)Z"⟩) ∈ lw_all := lw_g (lw_at lw_ms 58 rfl) rfl
theorem qs59 : (Cond.selects "ShutPassesModel" ⟨"ShutPassesModel", "lineRead", "()Z"⟩ ⟨"ShutPassesModel", "lineRead", "()Z"⟩) ∈ lw_all := lw_g (lw_at lw_ms 59 rfl) rfl
theorem qs60 : (Cond.selects "ShutPassesModel" ⟨"ShutPassesModel", "wrong", "(I)Z"⟩ ⟨"ShutPassesModel", "wrong", "(I)Z"⟩) ∈ lw_all := lw_g (lw_at lw_ms 60 rfl) rfl
theorem qs61 : (Cond.selects "ShutPassesModel" ⟨"ShutPassesModel", "placesRead", "()Z"⟩ ⟨"ShutPassesModel", "placesRead", "()Z"⟩) ∈ lw_all := lw_g (lw_at lw_ms 61 rfl) rfl
theorem qs62 : (Cond.selects "ShutPassesModel" ⟨"ShutPassesModel", "placeOf", "(I)I"⟩ ⟨"ShutPassesModel", "placeOf", "(I)I"⟩) ∈ lw_all := lw_g (lw_at lw_ms 62 rfl) rfl
theorem qs63 : (Cond.selects "ShutPassesModel" ⟨"ShutPassesModel", "causeRead", "()Z"⟩ ⟨"ShutPassesModel", "causeRead", "()Z"⟩) ∈ lw_all := lw_g (lw_at lw_ms 63 rfl) rfl
theorem qs64 : (Cond.selects "ShutPassesModel" ⟨"ShutPassesModel", "causeBy", "(I)I"⟩ ⟨"ShutPassesModel", "causeBy", "(I)I"⟩) ∈ lw_all := lw_g (lw_at lw_ms 64 rfl) rfl
theorem qs65 : (Cond.selects "ShutPassesModel" ⟨"ShutPassesModel", "numberRead", "(II)Z"⟩ ⟨"ShutPassesModel", "numberRead", "(II)Z"⟩) ∈ lw_all := lw_g (lw_at lw_ms 65 rfl) rfl
theorem qs66 : (Cond.selects "ShutPassesModel" ⟨"ShutPassesModel", "roadRead", "()Z"⟩ ⟨"ShutPassesModel", "roadRead", "()Z"⟩) ∈ lw_all := lw_g (lw_at lw_ms 66 rfl) rfl
theorem qs67 : (Cond.selects "ShutPassesModel" ⟨"ShutPassesModel", "spotRead", "()Z"⟩ ⟨"ShutPassesModel", "spotRead", "()Z"⟩) ∈ lw_all := lw_g (lw_at lw_ms 67 rfl) rfl
theorem qs68 : (Cond.selects "ShutPassesModel" ⟨"ShutPassesModel", "roadBetween", "(II)I"⟩ ⟨"ShutPassesModel", "roadBetween", "(II)I"⟩) ∈ lw_all := lw_g (lw_at lw_ms 68 rfl) rfl
theorem qs69 : (Cond.selects "ShutPassesModel" ⟨"ShutPassesModel", "isKey", "(I)Z"⟩ ⟨"ShutPassesModel", "isKey", "(I)Z"⟩) ∈ lw_all := lw_g (lw_at lw_ms 69 rfl) rfl
theorem qs70 : (Cond.selects "ShutPassesModel" ⟨"ShutPassesModel", "isDoubtRoom", "()Z"⟩ ⟨"ShutPassesModel", "isDoubtRoom", "()Z"⟩) ∈ lw_all := lw_g (lw_at lw_ms 70 rfl) rfl
theorem qs71 : (Cond.selects "ShutPassesModel" ⟨"ShutPassesModel", "seesRead", "()Z"⟩ ⟨"ShutPassesModel", "seesRead", "()Z"⟩) ∈ lw_all := lw_g (lw_at lw_ms 71 rfl) rfl
theorem qs72 : (Cond.selects "ShutPassesModel" ⟨"ShutPassesModel", "seenRead", "()I"⟩ ⟨"ShutPassesModel", "seenRead", "()I"⟩) ∈ lw_all := lw_g (lw_at lw_ms 72 rfl) rfl
theorem qs73 : (Cond.selects "ShutPassesModel" ⟨"ShutPassesModel", "innRead", "()Z"⟩ ⟨"ShutPassesModel", "innRead", "()Z"⟩) ∈ lw_all := lw_g (lw_at lw_ms 73 rfl) rfl
theorem qs74 : (Cond.selects "ShutPassesModel" ⟨"ShutPassesModel", "endRead", "(I)Z"⟩ ⟨"ShutPassesModel", "endRead", "(I)Z"⟩) ∈ lw_all := lw_g (lw_at lw_ms 74 rfl) rfl
theorem qs75 : (Cond.selects "ShutPassesModel" ⟨"ShutPassesModel", "isWorld", "(I)Z"⟩ ⟨"ShutPassesModel", "isWorld", "(I)Z"⟩) ∈ lw_all := lw_g (lw_at lw_ms 75 rfl) rfl
theorem qs76 : (Cond.selects "ShutPassesModel" ⟨"ShutPassesModel", "isKnowing", "(I)Z"⟩ ⟨"ShutPassesModel", "isKnowing", "(I)Z"⟩) ∈ lw_all := lw_g (lw_at lw_ms 76 rfl) rfl
theorem qs77 : (Cond.selects "ShutPassesModel" ⟨"ShutPassesModel", "isDoubtful", "(I)Z"⟩ ⟨"ShutPassesModel", "isDoubtful", "(I)Z"⟩) ∈ lw_all := lw_g (lw_at lw_ms 77 rfl) rfl
theorem qs78 : (Cond.selects "ShutPassesModel" ⟨"ShutPassesModel", "fails", "(I)I"⟩ ⟨"ShutPassesModel", "fails", "(I)I"⟩) ∈ lw_all := lw_g (lw_at lw_ms 78 rfl) rfl
theorem qs79 : (Cond.selects "ShutPassesModel" ⟨"ShutPassesModel", "hasEnds", "()Z"⟩ ⟨"ShutPassesModel", "hasEnds", "()Z"⟩) ∈ lw_all := lw_g (lw_at lw_ms 79 rfl) rfl
theorem qs80 : (Cond.selects "ShutPassesModel" ⟨"ShutPassesModel", "knowingOf", "(I)I"⟩ ⟨"ShutPassesModel", "knowingOf", "(I)I"⟩) ∈ lw_all := lw_g (lw_at lw_ms 80 rfl) rfl
theorem qs81 : (Cond.selects "ShutPassesModel" ⟨"ShutPassesModel", "fullOf", "(I)I"⟩ ⟨"ShutPassesModel", "fullOf", "(I)I"⟩) ∈ lw_all := lw_g (lw_at lw_ms 81 rfl) rfl
theorem qs82 : (Cond.selects "ShutPassesModel" ⟨"ShutPassesModel", "layFar", "(II)V"⟩ ⟨"ShutPassesModel", "layFar", "(II)V"⟩) ∈ lw_all := lw_g (lw_at lw_ms 82 rfl) rfl
theorem qs83 : (Cond.selects "ShutPassesModel" ⟨"ShutPassesModel", "places", "()I"⟩ ⟨"ShutPassesModel", "places", "()I"⟩) ∈ lw_all := lw_g (lw_at lw_ms 83 rfl) rfl
theorem qs84 : (Cond.selects "ShutPassesModel" ⟨"ShutPassesModel", "hoursAs", "(III)I"⟩ ⟨"ShutPassesModel", "hoursAs", "(III)I"⟩) ∈ lw_all := lw_g (lw_at lw_ms 84 rfl) rfl
theorem qs85 : (Cond.selects "ShutPassesModel" ⟨"ShutPassesModel", "hoursOf", "(II)I"⟩ ⟨"ShutPassesModel", "hoursOf", "(II)I"⟩) ∈ lw_all := lw_g (lw_at lw_ms 85 rfl) rfl
theorem qs86 : (Cond.selects "ShutPassesModel" ⟨"ShutPassesModel", "layPlan", "(I)V"⟩ ⟨"ShutPassesModel", "layPlan", "(I)V"⟩) ∈ lw_all := lw_g (lw_at lw_ms 86 rfl) rfl
theorem qs87 : (Cond.selects "ShutPassesModel" ⟨"ShutPassesModel", "layBest", "()V"⟩ ⟨"ShutPassesModel", "layBest", "()V"⟩) ∈ lw_all := lw_g (lw_at lw_ms 87 rfl) rfl
theorem qs88 : (Cond.selects "ShutPassesModel" ⟨"ShutPassesModel", "layValues", "(IZ)V"⟩ ⟨"ShutPassesModel", "layValues", "(IZ)V"⟩) ∈ lw_all := lw_g (lw_at lw_ms 88 rfl) rfl
theorem qs89 : (Cond.selects "ShutPassesModel" ⟨"ShutPassesModel", "layOne", "(IZI)V"⟩ ⟨"ShutPassesModel", "layOne", "(IZI)V"⟩) ∈ lw_all := lw_g (lw_at lw_ms 89 rfl) rfl
theorem qs90 : (Cond.selects "ShutPassesModel" ⟨"ShutPassesModel", "isSeen", "(II)Z"⟩ ⟨"ShutPassesModel", "isSeen", "(II)Z"⟩) ∈ lw_all := lw_g (lw_at lw_ms 90 rfl) rfl
theorem qs91 : (Cond.selects "ShutPassesModel" ⟨"ShutPassesModel", "arrives", "(IZII)J"⟩ ⟨"ShutPassesModel", "arrives", "(IZII)J"⟩) ∈ lw_all := lw_g (lw_at lw_ms 91 rfl) rfl
theorem qs92 : (Cond.selects "ShutPassesModel" ⟨"ShutPassesModel", "isSold", "(III)Z"⟩ ⟨"ShutPassesModel", "isSold", "(III)Z"⟩) ∈ lw_all := lw_g (lw_at lw_ms 92 rfl) rfl
theorem qs93 : (Cond.selects "ShutPassesModel" ⟨"ShutPassesModel", "buys", "(IZII)J"⟩ ⟨"ShutPassesModel", "buys", "(IZII)J"⟩) ∈ lw_all := lw_g (lw_at lw_ms 93 rfl) rfl
theorem qs94 : (Cond.selects "ShutPassesModel" ⟨"ShutPassesModel", "least", "(IJII)J"⟩ ⟨"ShutPassesModel", "least", "(IJII)J"⟩) ∈ lw_all := lw_g (lw_at lw_ms 94 rfl) rfl
theorem qs95 : (Cond.selects "ShutPassesModel" ⟨"ShutPassesModel", "goes", "(IJIII)J"⟩ ⟨"ShutPassesModel", "goes", "(IJIII)J"⟩) ∈ lw_all := lw_g (lw_at lw_ms 95 rfl) rfl
theorem qs96 : (Cond.selects "ShutPassesModel" ⟨"ShutPassesModel", "after", "(JIJ)J"⟩ ⟨"ShutPassesModel", "after", "(JIJ)J"⟩) ∈ lw_all := lw_g (lw_at lw_ms 96 rfl) rfl
theorem qs97 : (Cond.selects "ShutPassesModel" ⟨"ShutPassesModel", "firstOf", "(IJII)I"⟩ ⟨"ShutPassesModel", "firstOf", "(IJII)I"⟩) ∈ lw_all := lw_g (lw_at lw_ms 97 rfl) rfl
theorem qs98 : (Cond.selects "ShutPassesModel" ⟨"ShutPassesModel", "laySure", "()V"⟩ ⟨"ShutPassesModel", "laySure", "()V"⟩) ∈ lw_all := lw_g (lw_at lw_ms 98 rfl) rfl
theorem qs99 : (Cond.selects "ShutPassesModel" ⟨"ShutPassesModel", "layTerm", "()V"⟩ ⟨"ShutPassesModel", "layTerm", "()V"⟩) ∈ lw_all := lw_g (lw_at lw_ms 99 rfl) rfl
theorem qs100 : (Cond.selects "ShutPassesModel" ⟨"ShutPassesModel", "layFair", "()V"⟩ ⟨"ShutPassesModel", "layFair", "()V"⟩) ∈ lw_all := lw_g (lw_at lw_ms 100 rfl) rfl
theorem qs101 : (Cond.selects "ShutPassesModel" ⟨"ShutPassesModel", "layTimes", "(I)Z"⟩ ⟨"ShutPassesModel", "layTimes", "(I)Z"⟩) ∈ lw_all := lw_g (lw_at lw_ms 101 rfl) rfl
theorem qs102 : (Cond.selects "ShutPassesModel" ⟨"ShutPassesModel", "hoursIn", "(II)J"⟩ ⟨"ShutPassesModel", "hoursIn", "(II)J"⟩) ∈ lw_all := lw_g (lw_at lw_ms 102 rfl) rfl
theorem qs103 : (Cond.selects "ShutPassesModel" ⟨"ShutPassesModel", "setsOut", "(I)V"⟩ ⟨"ShutPassesModel", "setsOut", "(I)V"⟩) ∈ lw_all := lw_g (lw_at lw_ms 103 rfl) rfl
theorem qs104 : (Cond.selects "ShutPassesModel" ⟨"ShutPassesModel", "learns", "(III)I"⟩ ⟨"ShutPassesModel", "learns", "(III)I"⟩) ∈ lw_all := lw_g (lw_at lw_ms 104 rfl) rfl
theorem qs105 : (Cond.selects "ShutPassesModel" ⟨"ShutPassesModel", "moves", "(II)Z"⟩ ⟨"ShutPassesModel", "moves", "(II)Z"⟩) ∈ lw_all := lw_g (lw_at lw_ms 105 rfl) rfl
theorem qs106 : (Cond.selects "ShutPassesModel" ⟨"ShutPassesModel", "actOf", "(III)I"⟩ ⟨"ShutPassesModel", "actOf", "(III)I"⟩) ∈ lw_all := lw_g (lw_at lw_ms 106 rfl) rfl
theorem qs107 : (Cond.selects "ShutPassesModel" ⟨"ShutPassesModel", "byHand", "(II)I"⟩ ⟨"ShutPassesModel", "byHand", "(II)I"⟩) ∈ lw_all := lw_g (lw_at lw_ms 107 rfl) rfl
theorem qs108 : (Cond.selects "ShutPassesModel" ⟨"ShutPassesModel", "firstUnknown", "(I)I"⟩ ⟨"ShutPassesModel", "firstUnknown", "(I)I"⟩) ∈ lw_all := lw_g (lw_at lw_ms 108 rfl) rfl
theorem qs109 : (Cond.selects "ShutPassesModel" ⟨"ShutPassesModel", "hopAt", "(III)I"⟩ ⟨"ShutPassesModel", "hopAt", "(III)I"⟩) ∈ lw_all := lw_g (lw_at lw_ms 109 rfl) rfl
theorem qs110 : (Cond.selects "ShutPassesModel" ⟨"ShutPassesModel", "layLimits", "(JJZ)V"⟩ ⟨"ShutPassesModel", "layLimits", "(JJZ)V"⟩) ∈ lw_all := lw_g (lw_at lw_ms 110 rfl) rfl
theorem qs111 : (Cond.selects "ShutPassesModel" ⟨"ShutPassesModel", "meanOf", "(I)J"⟩ ⟨"ShutPassesModel", "meanOf", "(I)J"⟩) ∈ lw_all := lw_g (lw_at lw_ms 111 rfl) rfl
theorem qs112 : (Cond.selects "ShutPassesModel" ⟨"ShutPassesModel", "isPlace", "(I)Z"⟩ ⟨"ShutPassesModel", "isPlace", "(I)Z"⟩) ∈ lw_all := lw_g (lw_at lw_ms 112 rfl) rfl
theorem qs113 : (Cond.selects "ShutPassesModel" ⟨"ShutPassesModel", "told", "(J)J"⟩ ⟨"ShutPassesModel", "told", "(J)J"⟩) ∈ lw_all := lw_g (lw_at lw_ms 113 rfl) rfl
theorem qs114 : (Cond.selects "ShutPassesModel" ⟨"ShutPassesModel", "nextRow", "()Z"⟩ ⟨"ShutPassesModel", "nextRow", "()Z"⟩) ∈ lw_all := lw_g (lw_at lw_ms 114 rfl) rfl
theorem qs115 : (Cond.selects "ShutPassesModel" ⟨"ShutPassesModel", "swap", "(II)V"⟩ ⟨"ShutPassesModel", "swap", "(II)V"⟩) ∈ lw_all := lw_g (lw_at lw_ms 115 rfl) rfl
theorem qs116 : (Cond.selects "ShutPassesModel" ⟨"ShutPassesModel", "ringIn", "(II)I"⟩ ⟨"ShutPassesModel", "ringIn", "(II)I"⟩) ∈ lw_all := lw_g (lw_at lw_ms 116 rfl) rfl
theorem qs117 : (Cond.selects "ShutPassesModel" ⟨"ShutPassesModel", "layBell", "(II)V"⟩ ⟨"ShutPassesModel", "layBell", "(II)V"⟩) ∈ lw_all := lw_g (lw_at lw_ms 117 rfl) rfl
theorem qs118 : (Cond.selects "ShutPassesModel" ⟨"ShutPassesModel", "bestInTime", "(III)I"⟩ ⟨"ShutPassesModel", "bestInTime", "(III)I"⟩) ∈ lw_all := lw_g (lw_at lw_ms 118 rfl) rfl
theorem qs119 : (Cond.selects "ShutPassesModel" ⟨"ShutPassesModel", "comesInTime", "(III)I"⟩ ⟨"ShutPassesModel", "comesInTime", "(III)I"⟩) ∈ lw_all := lw_g (lw_at lw_ms 119 rfl) rfl
theorem qs120 : (Cond.selects "ShutPassesModel" ⟨"ShutPassesModel", "knowingSome", "(I)J"⟩ ⟨"ShutPassesModel", "knowingSome", "(I)J"⟩) ∈ lw_all := lw_g (lw_at lw_ms 120 rfl) rfl
theorem qs121 : (Cond.selects "ShutPassesModel" ⟨"ShutPassesModel", "useAsTold", "()V"⟩ ⟨"ShutPassesModel", "useAsTold", "()V"⟩) ∈ lw_all := lw_g (lw_at lw_ms 121 rfl) rfl
theorem qs122 : (Cond.selects "ShutPassesModel" ⟨"ShutPassesModel", "canWalk", "()Z"⟩ ⟨"ShutPassesModel", "canWalk", "()Z"⟩) ∈ lw_all := lw_g (lw_at lw_ms 122 rfl) rfl
-- ===== end of PART A; then your names; then what follows =====
