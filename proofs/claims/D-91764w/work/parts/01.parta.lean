-- ===== PART A: goes FIRST, ahead of the names: the tables' words, and 'selects' of the private methods out of them =====
/-- a private method of a class that the tables say can be made, by its rows of tables_1 -/
def lw_okq (q : MethodName × Nat) : Prop := (q.1.cls ≠ "java/lang/invoke/MethodHandle" ∧ q.1.cls ≠ "java/lang/invoke/VarHandle") ∧ Cond.instantiable q.1.cls q.2 ∈ tables_1 ∧ Cond.privateMethod q.1 ∈ tables_1 ∧ Cond.instanceMethod q.1 ∈ tables_1
set_option maxRecDepth 100000
theorem lw_t1 {w : Cond} (h : w ∈ tables_1_1) : w ∈ tables_1 := List.mem_append_left _ h
theorem lw_t2 {w : Cond} (h : w ∈ tables_1_2) : w ∈ tables_1 := List.mem_append_right _ (List.mem_append_left _ h)
theorem lw_t3 {w : Cond} (h : w ∈ tables_1_3) : w ∈ tables_1 := List.mem_append_right _ (List.mem_append_right _ (List.mem_append_left _ h))
theorem lw_t4 {w : Cond} (h : w ∈ tables_1_4) : w ∈ tables_1 := List.mem_append_right _ (List.mem_append_right _ (List.mem_append_right _ (List.mem_append_left _ h)))
theorem lw_t5 {w : Cond} (h : w ∈ tables_1_5) : w ∈ tables_1 := List.mem_append_right _ (List.mem_append_right _ (List.mem_append_right _ (List.mem_append_right _ (List.mem_append_left _ h))))
theorem lw_t6 {w : Cond} (h : w ∈ tables_1_6) : w ∈ tables_1 := List.mem_append_right _ (List.mem_append_right _ (List.mem_append_right _ (List.mem_append_right _ (List.mem_append_right _ (List.mem_append_left _ h)))))
theorem lw_t7 {w : Cond} (h : w ∈ tables_1_7) : w ∈ tables_1 := List.mem_append_right _ (List.mem_append_right _ (List.mem_append_right _ (List.mem_append_right _ (List.mem_append_right _ (List.mem_append_right _ (List.mem_append_left _ h))))))
theorem lw_t8 {w : Cond} (h : w ∈ tables_1_8) : w ∈ tables_1 := List.mem_append_right _ (List.mem_append_right _ (List.mem_append_right _ (List.mem_append_right _ (List.mem_append_right _ (List.mem_append_right _ (List.mem_append_right _ h))))))
theorem lw_p0 : lw_okq (⟨"java/lang/NullPointerException", "getExtendedNPEMessage", "()Ljava/lang/String;"⟩, 8) := ⟨⟨by decide +kernel, by decide +kernel⟩, lw_t1 (List.mem_of_getElem? (i := 78) rfl), lw_t1 (List.mem_of_getElem? (i := 76) rfl), lw_t1 (List.mem_of_getElem? (i := 77) rfl)⟩
theorem lw_p1 : lw_okq (⟨"java/lang/Throwable", "fillInStackTrace", "(I)Ljava/lang/Throwable;"⟩, 6) := ⟨⟨by decide +kernel, by decide +kernel⟩, lw_t1 (List.mem_of_getElem? (i := 90) rfl), lw_t1 (List.mem_of_getElem? (i := 88) rfl), lw_t1 (List.mem_of_getElem? (i := 89) rfl)⟩
theorem lw_p2 : lw_okq (⟨"TwoSeek", "is", "(I)Z"⟩, 48) := ⟨⟨by decide +kernel, by decide +kernel⟩, lw_t1 (List.mem_of_getElem? (i := 28) rfl), lw_t2 (List.mem_of_getElem? (i := 213) rfl), lw_t2 (List.mem_of_getElem? (i := 214) rfl)⟩
theorem lw_p3 : lw_okq (⟨"TwoSeek", "none", "(I)I"⟩, 48) := ⟨⟨by decide +kernel, by decide +kernel⟩, lw_t1 (List.mem_of_getElem? (i := 28) rfl), lw_t3 (List.mem_of_getElem? (i := 42) rfl), lw_t3 (List.mem_of_getElem? (i := 43) rfl)⟩
theorem lw_p4 : lw_okq (⟨"TwoSeek", "four", "(I)V"⟩, 48) := ⟨⟨by decide +kernel, by decide +kernel⟩, lw_t1 (List.mem_of_getElem? (i := 28) rfl), lw_t3 (List.mem_of_getElem? (i := 63) rfl), lw_t3 (List.mem_of_getElem? (i := 64) rfl)⟩
theorem lw_p5 : lw_okq (⟨"TwoSeek$Reader", "next", "()V"⟩, 10) := ⟨⟨by decide +kernel, by decide +kernel⟩, lw_t1 (List.mem_of_getElem? (i := 126) rfl), lw_t3 (List.mem_of_getElem? (i := 77) rfl), lw_t3 (List.mem_of_getElem? (i := 78) rfl)⟩
theorem lw_p6 : lw_okq (⟨"TwoSeek$Reader", "at", "(I)I"⟩, 10) := ⟨⟨by decide +kernel, by decide +kernel⟩, lw_t1 (List.mem_of_getElem? (i := 126) rfl), lw_t3 (List.mem_of_getElem? (i := 81) rfl), lw_t3 (List.mem_of_getElem? (i := 82) rfl)⟩
theorem lw_p7 : lw_okq (⟨"TwoSeek$Reader", "part", "()V"⟩, 10) := ⟨⟨by decide +kernel, by decide +kernel⟩, lw_t1 (List.mem_of_getElem? (i := 126) rfl), lw_t3 (List.mem_of_getElem? (i := 94) rfl), lw_t3 (List.mem_of_getElem? (i := 95) rfl)⟩
theorem lw_p8 : lw_okq (⟨"TwoSeek$Reader", "key", "()I"⟩, 10) := ⟨⟨by decide +kernel, by decide +kernel⟩, lw_t1 (List.mem_of_getElem? (i := 126) rfl), lw_t3 (List.mem_of_getElem? (i := 98) rfl), lw_t3 (List.mem_of_getElem? (i := 99) rfl)⟩
theorem lw_p9 : lw_okq (⟨"TwoSeek$Reader", "isWord", "(II)Z"⟩, 10) := ⟨⟨by decide +kernel, by decide +kernel⟩, lw_t1 (List.mem_of_getElem? (i := 126) rfl), lw_t3 (List.mem_of_getElem? (i := 151) rfl), lw_t3 (List.mem_of_getElem? (i := 152) rfl)⟩
theorem lw_p10 : lw_okq (⟨"TwoSeek$Reader", "need", "(Z)V"⟩, 10) := ⟨⟨by decide +kernel, by decide +kernel⟩, lw_t1 (List.mem_of_getElem? (i := 126) rfl), lw_t3 (List.mem_of_getElem? (i := 155) rfl), lw_t3 (List.mem_of_getElem? (i := 156) rfl)⟩
theorem lw_p11 : lw_okq (⟨"TwoSeek$Reader", "fail", "(I)LTwoSeek$Wrong;"⟩, 10) := ⟨⟨by decide +kernel, by decide +kernel⟩, lw_t1 (List.mem_of_getElem? (i := 126) rfl), lw_t3 (List.mem_of_getElem? (i := 159) rfl), lw_t3 (List.mem_of_getElem? (i := 160) rfl)⟩
theorem lw_p12 : lw_okq (⟨"TwoSeek$Reader", "aPlace", "()V"⟩, 10) := ⟨⟨by decide +kernel, by decide +kernel⟩, lw_t1 (List.mem_of_getElem? (i := 126) rfl), lw_t3 (List.mem_of_getElem? (i := 167) rfl), lw_t3 (List.mem_of_getElem? (i := 168) rfl)⟩
theorem lw_p13 : lw_okq (⟨"TwoSeek$Reader", "name", "()J"⟩, 10) := ⟨⟨by decide +kernel, by decide +kernel⟩, lw_t1 (List.mem_of_getElem? (i := 126) rfl), lw_t3 (List.mem_of_getElem? (i := 171) rfl), lw_t3 (List.mem_of_getElem? (i := 172) rfl)⟩
theorem lw_p14 : lw_okq (⟨"TwoSeek$Reader", "passed", "(II)I"⟩, 10) := ⟨⟨by decide +kernel, by decide +kernel⟩, lw_t1 (List.mem_of_getElem? (i := 126) rfl), lw_t3 (List.mem_of_getElem? (i := 221) rfl), lw_t3 (List.mem_of_getElem? (i := 222) rfl)⟩
theorem lw_p15 : lw_okq (⟨"TwoSeek$Reader", "aLane", "()V"⟩, 10) := ⟨⟨by decide +kernel, by decide +kernel⟩, lw_t1 (List.mem_of_getElem? (i := 126) rfl), lw_t3 (List.mem_of_getElem? (i := 225) rfl), lw_t3 (List.mem_of_getElem? (i := 226) rfl)⟩
def lw_privs_1 : List (MethodName × Nat) := [(⟨"java/lang/NullPointerException", "getExtendedNPEMessage", "()Ljava/lang/String;"⟩, 8), (⟨"java/lang/Throwable", "fillInStackTrace", "(I)Ljava/lang/Throwable;"⟩, 6), (⟨"TwoSeek", "is", "(I)Z"⟩, 48), (⟨"TwoSeek", "none", "(I)I"⟩, 48), (⟨"TwoSeek", "four", "(I)V"⟩, 48), (⟨"TwoSeek$Reader", "next", "()V"⟩, 10), (⟨"TwoSeek$Reader", "at", "(I)I"⟩, 10), (⟨"TwoSeek$Reader", "part", "()V"⟩, 10), (⟨"TwoSeek$Reader", "key", "()I"⟩, 10), (⟨"TwoSeek$Reader", "isWord", "(II)Z"⟩, 10), (⟨"TwoSeek$Reader", "need", "(Z)V"⟩, 10), (⟨"TwoSeek$Reader", "fail", "(I)LTwoSeek$Wrong;"⟩, 10), (⟨"TwoSeek$Reader", "aPlace", "()V"⟩, 10), (⟨"TwoSeek$Reader", "name", "()J"⟩, 10), (⟨"TwoSeek$Reader", "passed", "(II)I"⟩, 10), (⟨"TwoSeek$Reader", "aLane", "()V"⟩, 10)]
theorem lw_r1 : ∀ q ∈ lw_privs_1, lw_okq q := List.forall_mem_cons.mpr ⟨lw_p0, List.forall_mem_cons.mpr ⟨lw_p1, List.forall_mem_cons.mpr ⟨lw_p2, List.forall_mem_cons.mpr ⟨lw_p3, List.forall_mem_cons.mpr ⟨lw_p4, List.forall_mem_cons.mpr ⟨lw_p5, List.forall_mem_cons.mpr ⟨lw_p6, List.forall_mem_cons.mpr ⟨lw_p7, List.forall_mem_cons.mpr ⟨lw_p8, List.forall_mem_cons.mpr ⟨lw_p9, List.forall_mem_cons.mpr ⟨lw_p10, List.forall_mem_cons.mpr ⟨lw_p11, List.forall_mem_cons.mpr ⟨lw_p12, List.forall_mem_cons.mpr ⟨lw_p13, List.forall_mem_cons.mpr ⟨lw_p14, List.forall_mem_cons.mpr ⟨lw_p15, fun _ h => absurd h List.not_mem_nil⟩⟩⟩⟩⟩⟩⟩⟩⟩⟩⟩⟩⟩⟩⟩⟩
theorem lw_p16 : lw_okq (⟨"TwoSeek$Reader", "free", "(LTwoSeek$Place;)LTwoSeek$Place;"⟩, 10) := ⟨⟨by decide +kernel, by decide +kernel⟩, lw_t1 (List.mem_of_getElem? (i := 126) rfl), lw_t3 (List.mem_of_getElem? (i := 229) rfl), lw_t3 (List.mem_of_getElem? (i := 230) rfl)⟩
theorem lw_p17 : lw_okq (⟨"TwoSeek", "gives", "(I)I"⟩, 48) := ⟨⟨by decide +kernel, by decide +kernel⟩, lw_t1 (List.mem_of_getElem? (i := 28) rfl), lw_t4 (List.mem_of_getElem? (i := 22) rfl), lw_t4 (List.mem_of_getElem? (i := 23) rfl)⟩
theorem lw_p18 : lw_okq (⟨"TwoSeek", "isPlace", "(I)Z"⟩, 48) := ⟨⟨by decide +kernel, by decide +kernel⟩, lw_t1 (List.mem_of_getElem? (i := 28) rfl), lw_t4 (List.mem_of_getElem? (i := 38) rfl), lw_t4 (List.mem_of_getElem? (i := 39) rfl)⟩
theorem lw_p19 : lw_okq (⟨"TwoSeek", "isLane", "(I)Z"⟩, 48) := ⟨⟨by decide +kernel, by decide +kernel⟩, lw_t1 (List.mem_of_getElem? (i := 28) rfl), lw_t4 (List.mem_of_getElem? (i := 47) rfl), lw_t4 (List.mem_of_getElem? (i := 48) rfl)⟩
theorem lw_p20 : lw_okq (⟨"TwoSeek", "areFrom", "(IIJJ)Z"⟩, 48) := ⟨⟨by decide +kernel, by decide +kernel⟩, lw_t1 (List.mem_of_getElem? (i := 28) rfl), lw_t4 (List.mem_of_getElem? (i := 76) rfl), lw_t4 (List.mem_of_getElem? (i := 77) rfl)⟩
theorem lw_p21 : lw_okq (⟨"TwoSeek", "rowOf", "(II)[I"⟩, 48) := ⟨⟨by decide +kernel, by decide +kernel⟩, lw_t1 (List.mem_of_getElem? (i := 28) rfl), lw_t4 (List.mem_of_getElem? (i := 83) rfl), lw_t4 (List.mem_of_getElem? (i := 84) rfl)⟩
theorem lw_p22 : lw_okq (⟨"TwoSeek", "adds", "(LTwoSeek$Way;)I"⟩, 48) := ⟨⟨by decide +kernel, by decide +kernel⟩, lw_t1 (List.mem_of_getElem? (i := 28) rfl), lw_t4 (List.mem_of_getElem? (i := 114) rfl), lw_t4 (List.mem_of_getElem? (i := 115) rfl)⟩
theorem lw_p23 : lw_okq (⟨"TwoSeek", "isWay", "(J)Z"⟩, 48) := ⟨⟨by decide +kernel, by decide +kernel⟩, lw_t1 (List.mem_of_getElem? (i := 28) rfl), lw_t4 (List.mem_of_getElem? (i := 135) rfl), lw_t4 (List.mem_of_getElem? (i := 136) rfl)⟩
theorem lw_p24 : lw_okq (⟨"TwoSeek", "meet", "(IIII)I"⟩, 48) := ⟨⟨by decide +kernel, by decide +kernel⟩, lw_t1 (List.mem_of_getElem? (i := 28) rfl), lw_t4 (List.mem_of_getElem? (i := 139) rfl), lw_t4 (List.mem_of_getElem? (i := 140) rfl)⟩
theorem lw_p25 : lw_okq (⟨"TwoSeek", "nearer", "(LTwoSeek$Place;)LTwoSeek$Place;"⟩, 48) := ⟨⟨by decide +kernel, by decide +kernel⟩, lw_t1 (List.mem_of_getElem? (i := 28) rfl), lw_t4 (List.mem_of_getElem? (i := 147) rfl), lw_t4 (List.mem_of_getElem? (i := 148) rfl)⟩
theorem lw_p26 : lw_okq (⟨"TwoSeek$Sight", "told", "(LTwoSeek$Walker;)I"⟩, 1) := ⟨⟨by decide +kernel, by decide +kernel⟩, lw_t4 (List.mem_of_getElem? (i := 123) rfl), lw_t4 (List.mem_of_getElem? (i := 161) rfl), lw_t4 (List.mem_of_getElem? (i := 162) rfl)⟩
theorem lw_p27 : lw_okq (⟨"TwoSeek", "meets", "(LTwoSeek$Place;LTwoSeek$Place;)Z"⟩, 48) := ⟨⟨by decide +kernel, by decide +kernel⟩, lw_t1 (List.mem_of_getElem? (i := 28) rfl), lw_t4 (List.mem_of_getElem? (i := 185) rfl), lw_t4 (List.mem_of_getElem? (i := 186) rfl)⟩
theorem lw_p28 : lw_okq (⟨"TwoSeek", "times", "(II)J"⟩, 48) := ⟨⟨by decide +kernel, by decide +kernel⟩, lw_t1 (List.mem_of_getElem? (i := 28) rfl), lw_t4 (List.mem_of_getElem? (i := 197) rfl), lw_t4 (List.mem_of_getElem? (i := 198) rfl)⟩
theorem lw_p29 : lw_okq (⟨"TwoSeek", "likely", "(II)J"⟩, 48) := ⟨⟨by decide +kernel, by decide +kernel⟩, lw_t1 (List.mem_of_getElem? (i := 28) rfl), lw_t4 (List.mem_of_getElem? (i := 201) rfl), lw_t4 (List.mem_of_getElem? (i := 202) rfl)⟩
theorem lw_p30 : lw_okq (⟨"TwoSeek", "allLikely", "()J"⟩, 48) := ⟨⟨by decide +kernel, by decide +kernel⟩, lw_t1 (List.mem_of_getElem? (i := 28) rfl), lw_t4 (List.mem_of_getElem? (i := 208) rfl), lw_t4 (List.mem_of_getElem? (i := 209) rfl)⟩
theorem lw_p31 : lw_okq (⟨"TwoSeek", "tell", "(JJ)Z"⟩, 48) := ⟨⟨by decide +kernel, by decide +kernel⟩, lw_t1 (List.mem_of_getElem? (i := 28) rfl), lw_t4 (List.mem_of_getElem? (i := 212) rfl), lw_t4 (List.mem_of_getElem? (i := 213) rfl)⟩
def lw_privs_2 : List (MethodName × Nat) := [(⟨"TwoSeek$Reader", "free", "(LTwoSeek$Place;)LTwoSeek$Place;"⟩, 10), (⟨"TwoSeek", "gives", "(I)I"⟩, 48), (⟨"TwoSeek", "isPlace", "(I)Z"⟩, 48), (⟨"TwoSeek", "isLane", "(I)Z"⟩, 48), (⟨"TwoSeek", "areFrom", "(IIJJ)Z"⟩, 48), (⟨"TwoSeek", "rowOf", "(II)[I"⟩, 48), (⟨"TwoSeek", "adds", "(LTwoSeek$Way;)I"⟩, 48), (⟨"TwoSeek", "isWay", "(J)Z"⟩, 48), (⟨"TwoSeek", "meet", "(IIII)I"⟩, 48), (⟨"TwoSeek", "nearer", "(LTwoSeek$Place;)LTwoSeek$Place;"⟩, 48), (⟨"TwoSeek$Sight", "told", "(LTwoSeek$Walker;)I"⟩, 1), (⟨"TwoSeek", "meets", "(LTwoSeek$Place;LTwoSeek$Place;)Z"⟩, 48), (⟨"TwoSeek", "times", "(II)J"⟩, 48), (⟨"TwoSeek", "likely", "(II)J"⟩, 48), (⟨"TwoSeek", "allLikely", "()J"⟩, 48), (⟨"TwoSeek", "tell", "(JJ)Z"⟩, 48)]
theorem lw_r2 : ∀ q ∈ lw_privs_2, lw_okq q := List.forall_mem_cons.mpr ⟨lw_p16, List.forall_mem_cons.mpr ⟨lw_p17, List.forall_mem_cons.mpr ⟨lw_p18, List.forall_mem_cons.mpr ⟨lw_p19, List.forall_mem_cons.mpr ⟨lw_p20, List.forall_mem_cons.mpr ⟨lw_p21, List.forall_mem_cons.mpr ⟨lw_p22, List.forall_mem_cons.mpr ⟨lw_p23, List.forall_mem_cons.mpr ⟨lw_p24, List.forall_mem_cons.mpr ⟨lw_p25, List.forall_mem_cons.mpr ⟨lw_p26, List.forall_mem_cons.mpr ⟨lw_p27, List.forall_mem_cons.mpr ⟨lw_p28, List.forall_mem_cons.mpr ⟨lw_p29, List.forall_mem_cons.mpr ⟨lw_p30, List.forall_mem_cons.mpr ⟨lw_p31, fun _ h => absurd h List.not_mem_nil⟩⟩⟩⟩⟩⟩⟩⟩⟩⟩⟩⟩⟩⟩⟩⟩
theorem lw_p32 : lw_okq (⟨"TwoSeek", "areLike", "(II)Z"⟩, 48) := ⟨⟨by decide +kernel, by decide +kernel⟩, lw_t1 (List.mem_of_getElem? (i := 28) rfl), lw_t4 (List.mem_of_getElem? (i := 224) rfl), lw_t4 (List.mem_of_getElem? (i := 225) rfl)⟩
theorem lw_p33 : lw_okq (⟨"TwoSeek", "beginRows", "(I)V"⟩, 48) := ⟨⟨by decide +kernel, by decide +kernel⟩, lw_t1 (List.mem_of_getElem? (i := 28) rfl), lw_t4 (List.mem_of_getElem? (i := 232) rfl), lw_t4 (List.mem_of_getElem? (i := 233) rfl)⟩
theorem lw_p34 : lw_okq (⟨"TwoSeek", "goRows", "(IJZ)V"⟩, 48) := ⟨⟨by decide +kernel, by decide +kernel⟩, lw_t1 (List.mem_of_getElem? (i := 28) rfl), lw_t4 (List.mem_of_getElem? (i := 236) rfl), lw_t4 (List.mem_of_getElem? (i := 237) rfl)⟩
theorem lw_p35 : lw_okq (⟨"TwoSeek", "endRows", "(J)V"⟩, 48) := ⟨⟨by decide +kernel, by decide +kernel⟩, lw_t1 (List.mem_of_getElem? (i := 28) rfl), lw_t5 (List.mem_of_getElem? (i := 0) rfl), lw_t5 (List.mem_of_getElem? (i := 1) rfl)⟩
theorem lw_p36 : lw_okq (⟨"TwoSeek", "doesStep", "(III)J"⟩, 48) := ⟨⟨by decide +kernel, by decide +kernel⟩, lw_t1 (List.mem_of_getElem? (i := 28) rfl), lw_t5 (List.mem_of_getElem? (i := 4) rfl), lw_t5 (List.mem_of_getElem? (i := 5) rfl)⟩
theorem lw_p37 : lw_okq (⟨"TwoSeek", "isParted", "(II)Z"⟩, 48) := ⟨⟨by decide +kernel, by decide +kernel⟩, lw_t1 (List.mem_of_getElem? (i := 28) rfl), lw_t5 (List.mem_of_getElem? (i := 24) rfl), lw_t5 (List.mem_of_getElem? (i := 25) rfl)⟩
theorem lw_p38 : lw_okq (⟨"TwoSeek", "isTurned", "(II)Z"⟩, 48) := ⟨⟨by decide +kernel, by decide +kernel⟩, lw_t1 (List.mem_of_getElem? (i := 28) rfl), lw_t5 (List.mem_of_getElem? (i := 28) rfl), lw_t5 (List.mem_of_getElem? (i := 29) rfl)⟩
theorem lw_p39 : lw_okq (⟨"TwoSeek", "puts", "(LTwoSeek$Place;LTwoSeek$Place;I)Z"⟩, 48) := ⟨⟨by decide +kernel, by decide +kernel⟩, lw_t1 (List.mem_of_getElem? (i := 28) rfl), lw_t5 (List.mem_of_getElem? (i := 32) rfl), lw_t5 (List.mem_of_getElem? (i := 33) rfl)⟩
theorem lw_p40 : lw_okq (⟨"TwoSeek", "wrongDraws", "(IIIIZ)I"⟩, 48) := ⟨⟨by decide +kernel, by decide +kernel⟩, lw_t1 (List.mem_of_getElem? (i := 28) rfl), lw_t5 (List.mem_of_getElem? (i := 40) rfl), lw_t5 (List.mem_of_getElem? (i := 41) rfl)⟩
theorem lw_p41 : lw_okq (⟨"TwoSeek", "apart", "(IIIII)J"⟩, 48) := ⟨⟨by decide +kernel, by decide +kernel⟩, lw_t1 (List.mem_of_getElem? (i := 28) rfl), lw_t5 (List.mem_of_getElem? (i := 44) rfl), lw_t5 (List.mem_of_getElem? (i := 45) rfl)⟩
theorem lw_p42 : lw_okq (⟨"TwoSeek", "walks", "(IIII)I"⟩, 48) := ⟨⟨by decide +kernel, by decide +kernel⟩, lw_t1 (List.mem_of_getElem? (i := 28) rfl), lw_t5 (List.mem_of_getElem? (i := 48) rfl), lw_t5 (List.mem_of_getElem? (i := 49) rfl)⟩
theorem lw_p43 : lw_okq (⟨"TwoSeek", "tellMet", "(JI)Z"⟩, 48) := ⟨⟨by decide +kernel, by decide +kernel⟩, lw_t1 (List.mem_of_getElem? (i := 28) rfl), lw_t5 (List.mem_of_getElem? (i := 52) rfl), lw_t5 (List.mem_of_getElem? (i := 53) rfl)⟩
theorem lw_p44 : lw_okq (⟨"TwoSeek", "holds", "()Z"⟩, 48) := ⟨⟨by decide +kernel, by decide +kernel⟩, lw_t1 (List.mem_of_getElem? (i := 28) rfl), lw_t5 (List.mem_of_getElem? (i := 64) rfl), lw_t5 (List.mem_of_getElem? (i := 65) rfl)⟩
theorem lw_p45 : lw_okq (⟨"TwoSeek", "areWays", "(LTwoSeek$Tray;I)Z"⟩, 48) := ⟨⟨by decide +kernel, by decide +kernel⟩, lw_t1 (List.mem_of_getElem? (i := 28) rfl), lw_t5 (List.mem_of_getElem? (i := 72) rfl), lw_t5 (List.mem_of_getElem? (i := 73) rfl)⟩
theorem lw_p46 : lw_okq (⟨"TwoSeek", "line", "(I[J)V"⟩, 48) := ⟨⟨by decide +kernel, by decide +kernel⟩, lw_t1 (List.mem_of_getElem? (i := 28) rfl), lw_t5 (List.mem_of_getElem? (i := 77) rfl), lw_t5 (List.mem_of_getElem? (i := 78) rfl)⟩
theorem lw_p47 : lw_okq (⟨"TwoSeek", "cross", "(II)V"⟩, 48) := ⟨⟨by decide +kernel, by decide +kernel⟩, lw_t1 (List.mem_of_getElem? (i := 28) rfl), lw_t5 (List.mem_of_getElem? (i := 81) rfl), lw_t5 (List.mem_of_getElem? (i := 82) rfl)⟩
def lw_privs_3 : List (MethodName × Nat) := [(⟨"TwoSeek", "areLike", "(II)Z"⟩, 48), (⟨"TwoSeek", "beginRows", "(I)V"⟩, 48), (⟨"TwoSeek", "goRows", "(IJZ)V"⟩, 48), (⟨"TwoSeek", "endRows", "(J)V"⟩, 48), (⟨"TwoSeek", "doesStep", "(III)J"⟩, 48), (⟨"TwoSeek", "isParted", "(II)Z"⟩, 48), (⟨"TwoSeek", "isTurned", "(II)Z"⟩, 48), (⟨"TwoSeek", "puts", "(LTwoSeek$Place;LTwoSeek$Place;I)Z"⟩, 48), (⟨"TwoSeek", "wrongDraws", "(IIIIZ)I"⟩, 48), (⟨"TwoSeek", "apart", "(IIIII)J"⟩, 48), (⟨"TwoSeek", "walks", "(IIII)I"⟩, 48), (⟨"TwoSeek", "tellMet", "(JI)Z"⟩, 48), (⟨"TwoSeek", "holds", "()Z"⟩, 48), (⟨"TwoSeek", "areWays", "(LTwoSeek$Tray;I)Z"⟩, 48), (⟨"TwoSeek", "line", "(I[J)V"⟩, 48), (⟨"TwoSeek", "cross", "(II)V"⟩, 48)]
theorem lw_r3 : ∀ q ∈ lw_privs_3, lw_okq q := List.forall_mem_cons.mpr ⟨lw_p32, List.forall_mem_cons.mpr ⟨lw_p33, List.forall_mem_cons.mpr ⟨lw_p34, List.forall_mem_cons.mpr ⟨lw_p35, List.forall_mem_cons.mpr ⟨lw_p36, List.forall_mem_cons.mpr ⟨lw_p37, List.forall_mem_cons.mpr ⟨lw_p38, List.forall_mem_cons.mpr ⟨lw_p39, List.forall_mem_cons.mpr ⟨lw_p40, List.forall_mem_cons.mpr ⟨lw_p41, List.forall_mem_cons.mpr ⟨lw_p42, List.forall_mem_cons.mpr ⟨lw_p43, List.forall_mem_cons.mpr ⟨lw_p44, List.forall_mem_cons.mpr ⟨lw_p45, List.forall_mem_cons.mpr ⟨lw_p46, List.forall_mem_cons.mpr ⟨lw_p47, fun _ h => absurd h List.not_mem_nil⟩⟩⟩⟩⟩⟩⟩⟩⟩⟩⟩⟩⟩⟩⟩⟩
theorem lw_p48 : lw_okq (⟨"TwoSeek", "isGreater", "(J)Z"⟩, 48) := ⟨⟨by decide +kernel, by decide +kernel⟩, lw_t1 (List.mem_of_getElem? (i := 28) rfl), lw_t5 (List.mem_of_getElem? (i := 91) rfl), lw_t5 (List.mem_of_getElem? (i := 92) rfl)⟩
theorem lw_p49 : lw_okq (⟨"TwoSeekModel", "no", "(I)Z"⟩, 79) := ⟨⟨by decide +kernel, by decide +kernel⟩, lw_t5 (List.mem_of_getElem? (i := 110) rfl), lw_t6 (List.mem_of_getElem? (i := 130) rfl), lw_t6 (List.mem_of_getElem? (i := 131) rfl)⟩
theorem lw_p50 : lw_okq (⟨"TwoSeekModel", "placed", "(II)I"⟩, 79) := ⟨⟨by decide +kernel, by decide +kernel⟩, lw_t5 (List.mem_of_getElem? (i := 110) rfl), lw_t6 (List.mem_of_getElem? (i := 138) rfl), lw_t6 (List.mem_of_getElem? (i := 139) rfl)⟩
theorem lw_p51 : lw_okq (⟨"TwoSeekModel", "trayed", "(I)I"⟩, 79) := ⟨⟨by decide +kernel, by decide +kernel⟩, lw_t5 (List.mem_of_getElem? (i := 110) rfl), lw_t6 (List.mem_of_getElem? (i := 142) rfl), lw_t6 (List.mem_of_getElem? (i := 143) rfl)⟩
theorem lw_p52 : lw_okq (⟨"TwoSeekModel", "lay", "(I)V"⟩, 79) := ⟨⟨by decide +kernel, by decide +kernel⟩, lw_t5 (List.mem_of_getElem? (i := 110) rfl), lw_t6 (List.mem_of_getElem? (i := 162) rfl), lw_t6 (List.mem_of_getElem? (i := 163) rfl)⟩
theorem lw_p53 : lw_okq (⟨"TwoSeekModel", "refuse", "(I)I"⟩, 79) := ⟨⟨by decide +kernel, by decide +kernel⟩, lw_t5 (List.mem_of_getElem? (i := 110) rfl), lw_t6 (List.mem_of_getElem? (i := 170) rfl), lw_t6 (List.mem_of_getElem? (i := 171) rfl)⟩
theorem lw_p54 : lw_okq (⟨"TwoSeekModel", "next", "()V"⟩, 79) := ⟨⟨by decide +kernel, by decide +kernel⟩, lw_t5 (List.mem_of_getElem? (i := 110) rfl), lw_t6 (List.mem_of_getElem? (i := 174) rfl), lw_t6 (List.mem_of_getElem? (i := 175) rfl)⟩
theorem lw_p55 : lw_okq (⟨"TwoSeekModel", "look", "(I)I"⟩, 79) := ⟨⟨by decide +kernel, by decide +kernel⟩, lw_t5 (List.mem_of_getElem? (i := 110) rfl), lw_t6 (List.mem_of_getElem? (i := 178) rfl), lw_t6 (List.mem_of_getElem? (i := 179) rfl)⟩
theorem lw_p56 : lw_okq (⟨"TwoSeekModel", "isPlaceWord", "()Z"⟩, 79) := ⟨⟨by decide +kernel, by decide +kernel⟩, lw_t5 (List.mem_of_getElem? (i := 110) rfl), lw_t6 (List.mem_of_getElem? (i := 190) rfl), lw_t6 (List.mem_of_getElem? (i := 191) rfl)⟩
theorem lw_p57 : lw_okq (⟨"TwoSeekModel", "isWord", "(J)Z"⟩, 79) := ⟨⟨by decide +kernel, by decide +kernel⟩, lw_t5 (List.mem_of_getElem? (i := 110) rfl), lw_t6 (List.mem_of_getElem? (i := 197) rfl), lw_t6 (List.mem_of_getElem? (i := 198) rfl)⟩
theorem lw_p58 : lw_okq (⟨"TwoSeekModel", "readPlace", "()V"⟩, 79) := ⟨⟨by decide +kernel, by decide +kernel⟩, lw_t5 (List.mem_of_getElem? (i := 110) rfl), lw_t6 (List.mem_of_getElem? (i := 201) rfl), lw_t6 (List.mem_of_getElem? (i := 202) rfl)⟩
theorem lw_p59 : lw_okq (⟨"TwoSeekModel", "isName", "()Z"⟩, 79) := ⟨⟨by decide +kernel, by decide +kernel⟩, lw_t5 (List.mem_of_getElem? (i := 110) rfl), lw_t6 (List.mem_of_getElem? (i := 205) rfl), lw_t6 (List.mem_of_getElem? (i := 206) rfl)⟩
theorem lw_p60 : lw_okq (⟨"TwoSeekModel", "feature", "()I"⟩, 79) := ⟨⟨by decide +kernel, by decide +kernel⟩, lw_t5 (List.mem_of_getElem? (i := 110) rfl), lw_t6 (List.mem_of_getElem? (i := 209) rfl), lw_t6 (List.mem_of_getElem? (i := 210) rfl)⟩
theorem lw_p61 : lw_okq (⟨"TwoSeekModel", "isLane", "()Z"⟩, 79) := ⟨⟨by decide +kernel, by decide +kernel⟩, lw_t5 (List.mem_of_getElem? (i := 110) rfl), lw_t6 (List.mem_of_getElem? (i := 213) rfl), lw_t6 (List.mem_of_getElem? (i := 214) rfl)⟩
theorem lw_p62 : lw_okq (⟨"TwoSeekModel", "isTo", "()Z"⟩, 79) := ⟨⟨by decide +kernel, by decide +kernel⟩, lw_t5 (List.mem_of_getElem? (i := 110) rfl), lw_t6 (List.mem_of_getElem? (i := 217) rfl), lw_t6 (List.mem_of_getElem? (i := 218) rfl)⟩
theorem lw_p63 : lw_okq (⟨"TwoSeekModel", "isCross", "()Z"⟩, 79) := ⟨⟨by decide +kernel, by decide +kernel⟩, lw_t5 (List.mem_of_getElem? (i := 110) rfl), lw_t6 (List.mem_of_getElem? (i := 221) rfl), lw_t6 (List.mem_of_getElem? (i := 222) rfl)⟩
def lw_privs_4 : List (MethodName × Nat) := [(⟨"TwoSeek", "isGreater", "(J)Z"⟩, 48), (⟨"TwoSeekModel", "no", "(I)Z"⟩, 79), (⟨"TwoSeekModel", "placed", "(II)I"⟩, 79), (⟨"TwoSeekModel", "trayed", "(I)I"⟩, 79), (⟨"TwoSeekModel", "lay", "(I)V"⟩, 79), (⟨"TwoSeekModel", "refuse", "(I)I"⟩, 79), (⟨"TwoSeekModel", "next", "()V"⟩, 79), (⟨"TwoSeekModel", "look", "(I)I"⟩, 79), (⟨"TwoSeekModel", "isPlaceWord", "()Z"⟩, 79), (⟨"TwoSeekModel", "isWord", "(J)Z"⟩, 79), (⟨"TwoSeekModel", "readPlace", "()V"⟩, 79), (⟨"TwoSeekModel", "isName", "()Z"⟩, 79), (⟨"TwoSeekModel", "feature", "()I"⟩, 79), (⟨"TwoSeekModel", "isLane", "()Z"⟩, 79), (⟨"TwoSeekModel", "isTo", "()Z"⟩, 79), (⟨"TwoSeekModel", "isCross", "()Z"⟩, 79)]
theorem lw_r4 : ∀ q ∈ lw_privs_4, lw_okq q := List.forall_mem_cons.mpr ⟨lw_p48, List.forall_mem_cons.mpr ⟨lw_p49, List.forall_mem_cons.mpr ⟨lw_p50, List.forall_mem_cons.mpr ⟨lw_p51, List.forall_mem_cons.mpr ⟨lw_p52, List.forall_mem_cons.mpr ⟨lw_p53, List.forall_mem_cons.mpr ⟨lw_p54, List.forall_mem_cons.mpr ⟨lw_p55, List.forall_mem_cons.mpr ⟨lw_p56, List.forall_mem_cons.mpr ⟨lw_p57, List.forall_mem_cons.mpr ⟨lw_p58, List.forall_mem_cons.mpr ⟨lw_p59, List.forall_mem_cons.mpr ⟨lw_p60, List.forall_mem_cons.mpr ⟨lw_p61, List.forall_mem_cons.mpr ⟨lw_p62, List.forall_mem_cons.mpr ⟨lw_p63, fun _ h => absurd h List.not_mem_nil⟩⟩⟩⟩⟩⟩⟩⟩⟩⟩⟩⟩⟩⟩⟩⟩
theorem lw_p64 : lw_okq (⟨"TwoSeekModel", "isSlow", "()Z"⟩, 79) := ⟨⟨by decide +kernel, by decide +kernel⟩, lw_t5 (List.mem_of_getElem? (i := 110) rfl), lw_t6 (List.mem_of_getElem? (i := 225) rfl), lw_t6 (List.mem_of_getElem? (i := 226) rfl)⟩
theorem lw_p65 : lw_okq (⟨"TwoSeekModel", "isHears", "()Z"⟩, 79) := ⟨⟨by decide +kernel, by decide +kernel⟩, lw_t5 (List.mem_of_getElem? (i := 110) rfl), lw_t6 (List.mem_of_getElem? (i := 229) rfl), lw_t6 (List.mem_of_getElem? (i := 230) rfl)⟩
theorem lw_p66 : lw_okq (⟨"TwoSeekModel", "wrong", "()V"⟩, 79) := ⟨⟨by decide +kernel, by decide +kernel⟩, lw_t5 (List.mem_of_getElem? (i := 110) rfl), lw_t6 (List.mem_of_getElem? (i := 233) rfl), lw_t6 (List.mem_of_getElem? (i := 234) rfl)⟩
theorem lw_p67 : lw_okq (⟨"TwoSeekModel", "fail", "(II)V"⟩, 79) := ⟨⟨by decide +kernel, by decide +kernel⟩, lw_t5 (List.mem_of_getElem? (i := 110) rfl), lw_t6 (List.mem_of_getElem? (i := 237) rfl), lw_t6 (List.mem_of_getElem? (i := 238) rfl)⟩
theorem lw_p68 : lw_okq (⟨"TwoSeekModel", "named", "()I"⟩, 79) := ⟨⟨by decide +kernel, by decide +kernel⟩, lw_t5 (List.mem_of_getElem? (i := 110) rfl), lw_t7 (List.mem_of_getElem? (i := 1) rfl), lw_t7 (List.mem_of_getElem? (i := 2) rfl)⟩
theorem lw_p69 : lw_okq (⟨"TwoSeekModel", "count", "(II)I"⟩, 79) := ⟨⟨by decide +kernel, by decide +kernel⟩, lw_t5 (List.mem_of_getElem? (i := 110) rfl), lw_t7 (List.mem_of_getElem? (i := 5) rfl), lw_t7 (List.mem_of_getElem? (i := 6) rfl)⟩
theorem lw_p70 : lw_okq (⟨"TwoSeekModel", "must", "(Z)V"⟩, 79) := ⟨⟨by decide +kernel, by decide +kernel⟩, lw_t5 (List.mem_of_getElem? (i := 110) rfl), lw_t7 (List.mem_of_getElem? (i := 12) rfl), lw_t7 (List.mem_of_getElem? (i := 13) rfl)⟩
theorem lw_p71 : lw_okq (⟨"TwoSeekModel", "readLane", "()V"⟩, 79) := ⟨⟨by decide +kernel, by decide +kernel⟩, lw_t5 (List.mem_of_getElem? (i := 110) rfl), lw_t7 (List.mem_of_getElem? (i := 16) rfl), lw_t7 (List.mem_of_getElem? (i := 17) rfl)⟩
theorem lw_p72 : lw_okq (⟨"TwoSeekModel", "told", "()I"⟩, 79) := ⟨⟨by decide +kernel, by decide +kernel⟩, lw_t5 (List.mem_of_getElem? (i := 110) rfl), lw_t7 (List.mem_of_getElem? (i := 20) rfl), lw_t7 (List.mem_of_getElem? (i := 21) rfl)⟩
theorem lw_p73 : lw_okq (⟨"TwoSeekModel", "readRest", "()V"⟩, 79) := ⟨⟨by decide +kernel, by decide +kernel⟩, lw_t5 (List.mem_of_getElem? (i := 110) rfl), lw_t7 (List.mem_of_getElem? (i := 24) rfl), lw_t7 (List.mem_of_getElem? (i := 25) rfl)⟩
theorem lw_p74 : lw_okq (⟨"TwoSeekModel", "taken", "()I"⟩, 79) := ⟨⟨by decide +kernel, by decide +kernel⟩, lw_t5 (List.mem_of_getElem? (i := 110) rfl), lw_t7 (List.mem_of_getElem? (i := 28) rfl), lw_t7 (List.mem_of_getElem? (i := 29) rfl)⟩
theorem lw_p75 : lw_okq (⟨"TwoSeekModel", "isPlace", "(I)Z"⟩, 79) := ⟨⟨by decide +kernel, by decide +kernel⟩, lw_t5 (List.mem_of_getElem? (i := 110) rfl), lw_t7 (List.mem_of_getElem? (i := 44) rfl), lw_t7 (List.mem_of_getElem? (i := 45) rfl)⟩
theorem lw_p76 : lw_okq (⟨"TwoSeekModel", "leads", "(II)I"⟩, 79) := ⟨⟨by decide +kernel, by decide +kernel⟩, lw_t5 (List.mem_of_getElem? (i := 110) rfl), lw_t7 (List.mem_of_getElem? (i := 49) rfl), lw_t7 (List.mem_of_getElem? (i := 50) rfl)⟩
theorem lw_p77 : lw_okq (⟨"TwoSeekModel", "over", "(II)I"⟩, 79) := ⟨⟨by decide +kernel, by decide +kernel⟩, lw_t5 (List.mem_of_getElem? (i := 110) rfl), lw_t7 (List.mem_of_getElem? (i := 53) rfl), lw_t7 (List.mem_of_getElem? (i := 54) rfl)⟩
theorem lw_p78 : lw_okq (⟨"TwoSeekModel", "findFar", "(I)V"⟩, 79) := ⟨⟨by decide +kernel, by decide +kernel⟩, lw_t5 (List.mem_of_getElem? (i := 110) rfl), lw_t7 (List.mem_of_getElem? (i := 69) rfl), lw_t7 (List.mem_of_getElem? (i := 70) rfl)⟩
theorem lw_p79 : lw_okq (⟨"TwoSeekModel", "numberOf", "(II)J"⟩, 79) := ⟨⟨by decide +kernel, by decide +kernel⟩, lw_t5 (List.mem_of_getElem? (i := 110) rfl), lw_t7 (List.mem_of_getElem? (i := 79) rfl), lw_t7 (List.mem_of_getElem? (i := 80) rfl)⟩
def lw_privs_5 : List (MethodName × Nat) := [(⟨"TwoSeekModel", "isSlow", "()Z"⟩, 79), (⟨"TwoSeekModel", "isHears", "()Z"⟩, 79), (⟨"TwoSeekModel", "wrong", "()V"⟩, 79), (⟨"TwoSeekModel", "fail", "(II)V"⟩, 79), (⟨"TwoSeekModel", "named", "()I"⟩, 79), (⟨"TwoSeekModel", "count", "(II)I"⟩, 79), (⟨"TwoSeekModel", "must", "(Z)V"⟩, 79), (⟨"TwoSeekModel", "readLane", "()V"⟩, 79), (⟨"TwoSeekModel", "told", "()I"⟩, 79), (⟨"TwoSeekModel", "readRest", "()V"⟩, 79), (⟨"TwoSeekModel", "taken", "()I"⟩, 79), (⟨"TwoSeekModel", "isPlace", "(I)Z"⟩, 79), (⟨"TwoSeekModel", "leads", "(II)I"⟩, 79), (⟨"TwoSeekModel", "over", "(II)I"⟩, 79), (⟨"TwoSeekModel", "findFar", "(I)V"⟩, 79), (⟨"TwoSeekModel", "numberOf", "(II)J"⟩, 79)]
theorem lw_r5 : ∀ q ∈ lw_privs_5, lw_okq q := List.forall_mem_cons.mpr ⟨lw_p64, List.forall_mem_cons.mpr ⟨lw_p65, List.forall_mem_cons.mpr ⟨lw_p66, List.forall_mem_cons.mpr ⟨lw_p67, List.forall_mem_cons.mpr ⟨lw_p68, List.forall_mem_cons.mpr ⟨lw_p69, List.forall_mem_cons.mpr ⟨lw_p70, List.forall_mem_cons.mpr ⟨lw_p71, List.forall_mem_cons.mpr ⟨lw_p72, List.forall_mem_cons.mpr ⟨lw_p73, List.forall_mem_cons.mpr ⟨lw_p74, List.forall_mem_cons.mpr ⟨lw_p75, List.forall_mem_cons.mpr ⟨lw_p76, List.forall_mem_cons.mpr ⟨lw_p77, List.forall_mem_cons.mpr ⟨lw_p78, List.forall_mem_cons.mpr ⟨lw_p79, fun _ h => absurd h List.not_mem_nil⟩⟩⟩⟩⟩⟩⟩⟩⟩⟩⟩⟩⟩⟩⟩⟩
theorem lw_p80 : lw_okq (⟨"TwoSeekModel", "addWay", "(IIIZ)I"⟩, 79) := ⟨⟨by decide +kernel, by decide +kernel⟩, lw_t5 (List.mem_of_getElem? (i := 110) rfl), lw_t7 (List.mem_of_getElem? (i := 84) rfl), lw_t7 (List.mem_of_getElem? (i := 85) rfl)⟩
theorem lw_p81 : lw_okq (⟨"TwoSeekModel", "isWay", "(I)Z"⟩, 79) := ⟨⟨by decide +kernel, by decide +kernel⟩, lw_t5 (List.mem_of_getElem? (i := 110) rfl), lw_t7 (List.mem_of_getElem? (i := 97) rfl), lw_t7 (List.mem_of_getElem? (i := 98) rfl)⟩
theorem lw_p82 : lw_okq (⟨"TwoSeekModel", "walk", "(IIII)I"⟩, 79) := ⟨⟨by decide +kernel, by decide +kernel⟩, lw_t5 (List.mem_of_getElem? (i := 110) rfl), lw_t7 (List.mem_of_getElem? (i := 101) rfl), lw_t7 (List.mem_of_getElem? (i := 102) rfl)⟩
theorem lw_p83 : lw_okq (⟨"TwoSeekModel", "begin", "(II)V"⟩, 79) := ⟨⟨by decide +kernel, by decide +kernel⟩, lw_t5 (List.mem_of_getElem? (i := 110) rfl), lw_t7 (List.mem_of_getElem? (i := 105) rfl), lw_t7 (List.mem_of_getElem? (i := 106) rfl)⟩
theorem lw_p84 : lw_okq (⟨"TwoSeekModel", "nearer", "(I)I"⟩, 79) := ⟨⟨by decide +kernel, by decide +kernel⟩, lw_t5 (List.mem_of_getElem? (i := 110) rfl), lw_t7 (List.mem_of_getElem? (i := 109) rfl), lw_t7 (List.mem_of_getElem? (i := 110) rfl)⟩
theorem lw_p85 : lw_okq (⟨"TwoSeekModel", "isOpen", "(II)Z"⟩, 79) := ⟨⟨by decide +kernel, by decide +kernel⟩, lw_t5 (List.mem_of_getElem? (i := 110) rfl), lw_t7 (List.mem_of_getElem? (i := 113) rfl), lw_t7 (List.mem_of_getElem? (i := 114) rfl)⟩
theorem lw_p86 : lw_okq (⟨"TwoSeekModel", "stepOf", "(III)I"⟩, 79) := ⟨⟨by decide +kernel, by decide +kernel⟩, lw_t5 (List.mem_of_getElem? (i := 110) rfl), lw_t7 (List.mem_of_getElem? (i := 117) rfl), lw_t7 (List.mem_of_getElem? (i := 118) rfl)⟩
theorem lw_p87 : lw_okq (⟨"TwoSeekModel", "go", "(II)I"⟩, 79) := ⟨⟨by decide +kernel, by decide +kernel⟩, lw_t5 (List.mem_of_getElem? (i := 110) rfl), lw_t7 (List.mem_of_getElem? (i := 121) rfl), lw_t7 (List.mem_of_getElem? (i := 122) rfl)⟩
theorem lw_p88 : lw_okq (⟨"TwoSeekModel", "goesBy", "(II)I"⟩, 79) := ⟨⟨by decide +kernel, by decide +kernel⟩, lw_t5 (List.mem_of_getElem? (i := 110) rfl), lw_t7 (List.mem_of_getElem? (i := 125) rfl), lw_t7 (List.mem_of_getElem? (i := 126) rfl)⟩
theorem lw_p89 : lw_okq (⟨"TwoSeekModel", "meets", "(IIII)Z"⟩, 79) := ⟨⟨by decide +kernel, by decide +kernel⟩, lw_t5 (List.mem_of_getElem? (i := 110) rfl), lw_t7 (List.mem_of_getElem? (i := 129) rfl), lw_t7 (List.mem_of_getElem? (i := 130) rfl)⟩
theorem lw_p90 : lw_okq (⟨"TwoSeekModel", "sumOf", "(II)J"⟩, 79) := ⟨⟨by decide +kernel, by decide +kernel⟩, lw_t5 (List.mem_of_getElem? (i := 110) rfl), lw_t7 (List.mem_of_getElem? (i := 142) rfl), lw_t7 (List.mem_of_getElem? (i := 143) rfl)⟩
theorem lw_p91 : lw_okq (⟨"TwoSeekModel", "allLikely", "()J"⟩, 79) := ⟨⟨by decide +kernel, by decide +kernel⟩, lw_t5 (List.mem_of_getElem? (i := 110) rfl), lw_t7 (List.mem_of_getElem? (i := 146) rfl), lw_t7 (List.mem_of_getElem? (i := 147) rfl)⟩
theorem lw_p92 : lw_okq (⟨"TwoSeekModel", "likely", "(II)J"⟩, 79) := ⟨⟨by decide +kernel, by decide +kernel⟩, lw_t5 (List.mem_of_getElem? (i := 110) rfl), lw_t7 (List.mem_of_getElem? (i := 150) rfl), lw_t7 (List.mem_of_getElem? (i := 151) rfl)⟩
theorem lw_p93 : lw_okq (⟨"TwoSeekModel", "fraction", "(JJ)V"⟩, 79) := ⟨⟨by decide +kernel, by decide +kernel⟩, lw_t5 (List.mem_of_getElem? (i := 110) rfl), lw_t7 (List.mem_of_getElem? (i := 154) rfl), lw_t7 (List.mem_of_getElem? (i := 155) rfl)⟩
theorem lw_p94 : lw_okq (⟨"TwoSeekModel", "findRows", "(IIZ)V"⟩, 79) := ⟨⟨by decide +kernel, by decide +kernel⟩, lw_t5 (List.mem_of_getElem? (i := 110) rfl), lw_t7 (List.mem_of_getElem? (i := 175) rfl), lw_t7 (List.mem_of_getElem? (i := 176) rfl)⟩
theorem lw_p95 : lw_okq (⟨"TwoSeekModel", "byRows", "(IIIZ)I"⟩, 79) := ⟨⟨by decide +kernel, by decide +kernel⟩, lw_t5 (List.mem_of_getElem? (i := 110) rfl), lw_t7 (List.mem_of_getElem? (i := 179) rfl), lw_t7 (List.mem_of_getElem? (i := 180) rfl)⟩
def lw_privs_6 : List (MethodName × Nat) := [(⟨"TwoSeekModel", "addWay", "(IIIZ)I"⟩, 79), (⟨"TwoSeekModel", "isWay", "(I)Z"⟩, 79), (⟨"TwoSeekModel", "walk", "(IIII)I"⟩, 79), (⟨"TwoSeekModel", "begin", "(II)V"⟩, 79), (⟨"TwoSeekModel", "nearer", "(I)I"⟩, 79), (⟨"TwoSeekModel", "isOpen", "(II)Z"⟩, 79), (⟨"TwoSeekModel", "stepOf", "(III)I"⟩, 79), (⟨"TwoSeekModel", "go", "(II)I"⟩, 79), (⟨"TwoSeekModel", "goesBy", "(II)I"⟩, 79), (⟨"TwoSeekModel", "meets", "(IIII)Z"⟩, 79), (⟨"TwoSeekModel", "sumOf", "(II)J"⟩, 79), (⟨"TwoSeekModel", "allLikely", "()J"⟩, 79), (⟨"TwoSeekModel", "likely", "(II)J"⟩, 79), (⟨"TwoSeekModel", "fraction", "(JJ)V"⟩, 79), (⟨"TwoSeekModel", "findRows", "(IIZ)V"⟩, 79), (⟨"TwoSeekModel", "byRows", "(IIIZ)I"⟩, 79)]
theorem lw_r6 : ∀ q ∈ lw_privs_6, lw_okq q := List.forall_mem_cons.mpr ⟨lw_p80, List.forall_mem_cons.mpr ⟨lw_p81, List.forall_mem_cons.mpr ⟨lw_p82, List.forall_mem_cons.mpr ⟨lw_p83, List.forall_mem_cons.mpr ⟨lw_p84, List.forall_mem_cons.mpr ⟨lw_p85, List.forall_mem_cons.mpr ⟨lw_p86, List.forall_mem_cons.mpr ⟨lw_p87, List.forall_mem_cons.mpr ⟨lw_p88, List.forall_mem_cons.mpr ⟨lw_p89, List.forall_mem_cons.mpr ⟨lw_p90, List.forall_mem_cons.mpr ⟨lw_p91, List.forall_mem_cons.mpr ⟨lw_p92, List.forall_mem_cons.mpr ⟨lw_p93, List.forall_mem_cons.mpr ⟨lw_p94, List.forall_mem_cons.mpr ⟨lw_p95, fun _ h => absurd h List.not_mem_nil⟩⟩⟩⟩⟩⟩⟩⟩⟩⟩⟩⟩⟩⟩⟩⟩
theorem lw_p96 : lw_okq (⟨"TwoSeekModel", "isBrought", "(II)Z"⟩, 79) := ⟨⟨by decide +kernel, by decide +kernel⟩, lw_t5 (List.mem_of_getElem? (i := 110) rfl), lw_t7 (List.mem_of_getElem? (i := 199) rfl), lw_t7 (List.mem_of_getElem? (i := 200) rfl)⟩
theorem lw_p97 : lw_okq (⟨"TwoSeekModel", "turns", "(II)Z"⟩, 79) := ⟨⟨by decide +kernel, by decide +kernel⟩, lw_t5 (List.mem_of_getElem? (i := 110) rfl), lw_t7 (List.mem_of_getElem? (i := 203) rfl), lw_t7 (List.mem_of_getElem? (i := 204) rfl)⟩
theorem lw_p98 : lw_okq (⟨"TwoSeekModel", "fitsTurn", "(I)Z"⟩, 79) := ⟨⟨by decide +kernel, by decide +kernel⟩, lw_t5 (List.mem_of_getElem? (i := 110) rfl), lw_t7 (List.mem_of_getElem? (i := 207) rfl), lw_t7 (List.mem_of_getElem? (i := 208) rfl)⟩
theorem lw_p99 : lw_okq (⟨"TwoSeekModel", "asksDrawn", "(IIIII)I"⟩, 79) := ⟨⟨by decide +kernel, by decide +kernel⟩, lw_t5 (List.mem_of_getElem? (i := 110) rfl), lw_t7 (List.mem_of_getElem? (i := 215) rfl), lw_t7 (List.mem_of_getElem? (i := 216) rfl)⟩
theorem lw_p100 : lw_okq (⟨"TwoSeekModel", "metOf", "(IIIII)J"⟩, 79) := ⟨⟨by decide +kernel, by decide +kernel⟩, lw_t5 (List.mem_of_getElem? (i := 110) rfl), lw_t7 (List.mem_of_getElem? (i := 220) rfl), lw_t7 (List.mem_of_getElem? (i := 221) rfl)⟩
theorem lw_p101 : lw_okq (⟨"TwoSeekModel", "play", "(IIIII)I"⟩, 79) := ⟨⟨by decide +kernel, by decide +kernel⟩, lw_t5 (List.mem_of_getElem? (i := 110) rfl), lw_t7 (List.mem_of_getElem? (i := 225) rfl), lw_t7 (List.mem_of_getElem? (i := 226) rfl)⟩
theorem lw_p102 : lw_okq (⟨"TwoSeekModel", "wholeOf", "(I)J"⟩, 79) := ⟨⟨by decide +kernel, by decide +kernel⟩, lw_t5 (List.mem_of_getElem? (i := 110) rfl), lw_t7 (List.mem_of_getElem? (i := 229) rfl), lw_t7 (List.mem_of_getElem? (i := 230) rfl)⟩
theorem lw_p103 : lw_okq (⟨"TwoSeekModel", "holds", "()Z"⟩, 79) := ⟨⟨by decide +kernel, by decide +kernel⟩, lw_t5 (List.mem_of_getElem? (i := 110) rfl), lw_t8 (List.mem_of_getElem? (i := 2) rfl), lw_t8 (List.mem_of_getElem? (i := 3) rfl)⟩
theorem lw_p104 : lw_okq (⟨"TwoSeekModel", "asksValue", "(IIIIIII)I"⟩, 79) := ⟨⟨by decide +kernel, by decide +kernel⟩, lw_t5 (List.mem_of_getElem? (i := 110) rfl), lw_t8 (List.mem_of_getElem? (i := 10) rfl), lw_t8 (List.mem_of_getElem? (i := 11) rfl)⟩
theorem lw_p105 : lw_okq (⟨"TwoSeekModel", "findValue", "()V"⟩, 79) := ⟨⟨by decide +kernel, by decide +kernel⟩, lw_t5 (List.mem_of_getElem? (i := 110) rfl), lw_t8 (List.mem_of_getElem? (i := 15) rfl), lw_t8 (List.mem_of_getElem? (i := 16) rfl)⟩
theorem lw_p106 : lw_okq (⟨"TwoSeekModel", "valued", "()V"⟩, 79) := ⟨⟨by decide +kernel, by decide +kernel⟩, lw_t5 (List.mem_of_getElem? (i := 110) rfl), lw_t8 (List.mem_of_getElem? (i := 19) rfl), lw_t8 (List.mem_of_getElem? (i := 20) rfl)⟩
theorem lw_p107 : lw_okq (⟨"TwoSeekModel", "isCorner", "()Z"⟩, 79) := ⟨⟨by decide +kernel, by decide +kernel⟩, lw_t5 (List.mem_of_getElem? (i := 110) rfl), lw_t8 (List.mem_of_getElem? (i := 23) rfl), lw_t8 (List.mem_of_getElem? (i := 24) rfl)⟩
theorem lw_p108 : lw_okq (⟨"TwoSeekModel", "mostOf", "()J"⟩, 79) := ⟨⟨by decide +kernel, by decide +kernel⟩, lw_t5 (List.mem_of_getElem? (i := 110) rfl), lw_t8 (List.mem_of_getElem? (i := 27) rfl), lw_t8 (List.mem_of_getElem? (i := 28) rfl)⟩
theorem lw_p109 : lw_okq (⟨"TwoSeekModel", "isSet", "(II)Z"⟩, 79) := ⟨⟨by decide +kernel, by decide +kernel⟩, lw_t5 (List.mem_of_getElem? (i := 110) rfl), lw_t8 (List.mem_of_getElem? (i := 32) rfl), lw_t8 (List.mem_of_getElem? (i := 33) rfl)⟩
theorem lw_p110 : lw_okq (⟨"TwoSeekModel", "equate", "(IIJJ)V"⟩, 79) := ⟨⟨by decide +kernel, by decide +kernel⟩, lw_t5 (List.mem_of_getElem? (i := 110) rfl), lw_t8 (List.mem_of_getElem? (i := 36) rfl), lw_t8 (List.mem_of_getElem? (i := 37) rfl)⟩
theorem lw_p111 : lw_okq (⟨"TwoSeekModel", "balance", "(III)V"⟩, 79) := ⟨⟨by decide +kernel, by decide +kernel⟩, lw_t5 (List.mem_of_getElem? (i := 110) rfl), lw_t8 (List.mem_of_getElem? (i := 40) rfl), lw_t8 (List.mem_of_getElem? (i := 41) rfl)⟩
def lw_privs_7 : List (MethodName × Nat) := [(⟨"TwoSeekModel", "isBrought", "(II)Z"⟩, 79), (⟨"TwoSeekModel", "turns", "(II)Z"⟩, 79), (⟨"TwoSeekModel", "fitsTurn", "(I)Z"⟩, 79), (⟨"TwoSeekModel", "asksDrawn", "(IIIII)I"⟩, 79), (⟨"TwoSeekModel", "metOf", "(IIIII)J"⟩, 79), (⟨"TwoSeekModel", "play", "(IIIII)I"⟩, 79), (⟨"TwoSeekModel", "wholeOf", "(I)J"⟩, 79), (⟨"TwoSeekModel", "holds", "()Z"⟩, 79), (⟨"TwoSeekModel", "asksValue", "(IIIIIII)I"⟩, 79), (⟨"TwoSeekModel", "findValue", "()V"⟩, 79), (⟨"TwoSeekModel", "valued", "()V"⟩, 79), (⟨"TwoSeekModel", "isCorner", "()Z"⟩, 79), (⟨"TwoSeekModel", "mostOf", "()J"⟩, 79), (⟨"TwoSeekModel", "isSet", "(II)Z"⟩, 79), (⟨"TwoSeekModel", "equate", "(IIJJ)V"⟩, 79), (⟨"TwoSeekModel", "balance", "(III)V"⟩, 79)]
theorem lw_r7 : ∀ q ∈ lw_privs_7, lw_okq q := List.forall_mem_cons.mpr ⟨lw_p96, List.forall_mem_cons.mpr ⟨lw_p97, List.forall_mem_cons.mpr ⟨lw_p98, List.forall_mem_cons.mpr ⟨lw_p99, List.forall_mem_cons.mpr ⟨lw_p100, List.forall_mem_cons.mpr ⟨lw_p101, List.forall_mem_cons.mpr ⟨lw_p102, List.forall_mem_cons.mpr ⟨lw_p103, List.forall_mem_cons.mpr ⟨lw_p104, List.forall_mem_cons.mpr ⟨lw_p105, List.forall_mem_cons.mpr ⟨lw_p106, List.forall_mem_cons.mpr ⟨lw_p107, List.forall_mem_cons.mpr ⟨lw_p108, List.forall_mem_cons.mpr ⟨lw_p109, List.forall_mem_cons.mpr ⟨lw_p110, List.forall_mem_cons.mpr ⟨lw_p111, fun _ h => absurd h List.not_mem_nil⟩⟩⟩⟩⟩⟩⟩⟩⟩⟩⟩⟩⟩⟩⟩⟩
theorem lw_p112 : lw_okq (⟨"TwoSeekModel", "findChances", "()V"⟩, 79) := ⟨⟨by decide +kernel, by decide +kernel⟩, lw_t5 (List.mem_of_getElem? (i := 110) rfl), lw_t8 (List.mem_of_getElem? (i := 44) rfl), lw_t8 (List.mem_of_getElem? (i := 45) rfl)⟩
theorem lw_p113 : lw_okq (⟨"TwoSeekModel", "chosen", "()V"⟩, 79) := ⟨⟨by decide +kernel, by decide +kernel⟩, lw_t5 (List.mem_of_getElem? (i := 110) rfl), lw_t8 (List.mem_of_getElem? (i := 48) rfl), lw_t8 (List.mem_of_getElem? (i := 49) rfl)⟩
theorem lw_p114 : lw_okq (⟨"TwoSeekModel", "isTight", "(II)Z"⟩, 79) := ⟨⟨by decide +kernel, by decide +kernel⟩, lw_t5 (List.mem_of_getElem? (i := 110) rfl), lw_t8 (List.mem_of_getElem? (i := 52) rfl), lw_t8 (List.mem_of_getElem? (i := 53) rfl)⟩
def lw_privs_8 : List (MethodName × Nat) := [(⟨"TwoSeekModel", "findChances", "()V"⟩, 79), (⟨"TwoSeekModel", "chosen", "()V"⟩, 79), (⟨"TwoSeekModel", "isTight", "(II)Z"⟩, 79)]
theorem lw_r8 : ∀ q ∈ lw_privs_8, lw_okq q := List.forall_mem_cons.mpr ⟨lw_p112, List.forall_mem_cons.mpr ⟨lw_p113, List.forall_mem_cons.mpr ⟨lw_p114, fun _ h => absurd h List.not_mem_nil⟩⟩⟩
def lw_privs : List (MethodName × Nat) := lw_privs_1 ++ (lw_privs_2 ++ (lw_privs_3 ++ (lw_privs_4 ++ (lw_privs_5 ++ (lw_privs_6 ++ (lw_privs_7 ++ (lw_privs_8)))))))
def lw_tbl : List Cond := k2_sels lw_privs ++ tables_1
theorem lw_privs_ok : ∀ q ∈ lw_privs, lw_okq q := by
  show ∀ q ∈ lw_privs_1 ++ (lw_privs_2 ++ (lw_privs_3 ++ (lw_privs_4 ++ (lw_privs_5 ++ (lw_privs_6 ++ (lw_privs_7 ++ (lw_privs_8))))))), lw_okq q
  exact List.forall_mem_append.mpr ⟨lw_r1, List.forall_mem_append.mpr ⟨lw_r2, List.forall_mem_append.mpr ⟨lw_r3, List.forall_mem_append.mpr ⟨lw_r4, List.forall_mem_append.mpr ⟨lw_r5, List.forall_mem_append.mpr ⟨lw_r6, List.forall_mem_append.mpr ⟨lw_r7, lw_r8⟩⟩⟩⟩⟩⟩⟩
-- ===== ONE list of words for every method: the tables' words that hold all through a run =====
def lw_all : List Cond := lw_tbl.filter goodWord
/-- a word of the tables by its place: claim/WORDS.tsv -/
theorem lw_w {w : Cond} (i : Nat) (h : lw_tbl[i]? = some w) (g : goodWord w = true) : w ∈ lw_all := List.mem_filter.mpr ⟨List.mem_of_getElem? h, g⟩
theorem lw_all_tbl {w : Cond} (h : w ∈ lw_all) : w ∈ lw_tbl := (List.mem_filter.mp h).1
theorem lw_self : GoodIn lw_all lw_all := fun w h => ⟨h, good_of_word (List.mem_filter.mp h).2⟩
/-- a class's field words, by their places -/
theorem lw_in (ws : List Cond) (ps : List Nat) (hp : ws = ps.filterMap (fun i => lw_tbl[i]?)) (hg : ws.all goodWord = true) : ∀ w ∈ ws, w ∈ lw_all := by
  intro w h
  have h1 := List.all_eq_true.mp hg w h
  rw [hp] at h
  obtain ⟨i, -, hi⟩ := List.mem_filterMap.mp h
  exact lw_w i hi h1
/-- the words of a contract for the method y with code b, L locals, answer r -/
abbrev ws_ (y : MethodName) (b : ByteArray) (L : Nat) (r : Option FieldType) : List Cond := Cond.code y b L r :: lw_all
theorem lw_meth {y : MethodName} {b : ByteArray} {L : Nat} {r : Option FieldType} (h : Cond.code y b L r ∈ lw_all) : GoodIn lw_all (ws_ y b L r) := by
  intro w hw
  rcases List.mem_cons.mp hw with e | e
  · rw [e]
    exact lw_self _ h
  · exact lw_self _ e
theorem lw_app {a c : List Cond} (ha : ∀ w ∈ a, w ∈ lw_all) (hc : GoodIn lw_all c) : GoodIn lw_all (a ++ c) := by
  intro w hw
  rcases List.mem_append.mp hw with e | e
  · exact lw_self w (ha w e)
  · exact hc w e
/-- what a call through an object asks: cwV n hts (lw_V ..) -/
theorem lw_V {own : String} {idx : Nat} {C : String} {y : MethodName} {b : ByteArray} {L : Nat} {r : Option FieldType} (h1 : Cond.methodLink own idx y ∈ lw_all) (h2 : Cond.instanceMethod y ∈ lw_all) (h3 : Cond.selects C y y ∈ lw_all) (h4 : Cond.initialized C ∈ lw_all) (h5 : Cond.code y b L r ∈ lw_all) : GoodIn lw_all (wsV own idx C y (ws_ y b L r)) := by
  refine lw_app ?_ (lw_meth h5)
  intro w hw
  simp only [List.mem_cons, List.not_mem_nil, or_false] at hw
  rcases hw with e | e | e | e
  · rw [e]; exact h1
  · rw [e]; exact h2
  · rw [e]; exact h3
  · rw [e]; exact h4
/-- what a static call asks: va_cwS n hts (lw_S ..) -/
theorem lw_S {own : String} {idx : Nat} {y : MethodName} {b : ByteArray} {L : Nat} {r : Option FieldType} (h1 : Cond.methodLink own idx y ∈ lw_all) (h2 : Cond.static y ∈ lw_all) (h3 : Cond.initialized y.cls ∈ lw_all) (h4 : Cond.code y b L r ∈ lw_all) : GoodIn lw_all (va_wsS own idx y (ws_ y b L r)) := by
  refine lw_app ?_ (lw_meth h4)
  intro w hw
  simp only [List.mem_cons, List.not_mem_nil, or_false] at hw
  rcases hw with e | e | e
  · rw [e]; exact h1
  · rw [e]; exact h2
  · rw [e]; exact h3
/-- the words of a contract for a method WITH HANDLERS (hh: its table) -/
abbrev wsW_ (y : MethodName) (b : ByteArray) (L : Nat) (r : Option FieldType) (hh : List (Nat × Nat × Nat × Nat)) : List Cond := Cond.codeWith y b L r hh :: lw_all
theorem lw_methW {y : MethodName} {b : ByteArray} {L : Nat} {r : Option FieldType} {hh : List (Nat × Nat × Nat × Nat)} (h : Cond.codeWith y b L r hh ∈ lw_all) : GoodIn lw_all (wsW_ y b L r hh) := by
  intro w hw
  rcases List.mem_cons.mp hw with e | e
  · rw [e]
    exact lw_self _ h
  · exact lw_self _ e
/-- any list of words by their places (lw_in), good -/
theorem lw_good {ws : List Cond} (h : ∀ w ∈ ws, w ∈ lw_all) : GoodIn lw_all ws := fun w hw => lw_self w (h w hw)
/-- what a call of a method with handlers asks: vx_cwVW n hts (lw_VW ..), vx_cwSW n hts (lw_SW ..) -/
theorem lw_VW {own : String} {idx : Nat} {C : String} {y : MethodName} {b : ByteArray} {L : Nat} {r : Option FieldType} {hh : List (Nat × Nat × Nat × Nat)} (h1 : Cond.methodLink own idx y ∈ lw_all) (h2 : Cond.instanceMethod y ∈ lw_all) (h3 : Cond.selects C y y ∈ lw_all) (h4 : Cond.initialized C ∈ lw_all) (h5 : Cond.codeWith y b L r hh ∈ lw_all) : GoodIn lw_all (wsV own idx C y (wsW_ y b L r hh)) := by
  refine lw_app ?_ (lw_methW h5)
  intro w hw
  simp only [List.mem_cons, List.not_mem_nil, or_false] at hw
  rcases hw with e | e | e | e
  · rw [e]; exact h1
  · rw [e]; exact h2
  · rw [e]; exact h3
  · rw [e]; exact h4
theorem lw_SW {own : String} {idx : Nat} {y : MethodName} {b : ByteArray} {L : Nat} {r : Option FieldType} {hh : List (Nat × Nat × Nat × Nat)} (h1 : Cond.methodLink own idx y ∈ lw_all) (h2 : Cond.static y ∈ lw_all) (h3 : Cond.initialized y.cls ∈ lw_all) (h4 : Cond.codeWith y b L r hh ∈ lw_all) : GoodIn lw_all (va_wsS own idx y (wsW_ y b L r hh)) := by
  refine lw_app ?_ (lw_methW h4)
  intro w hw
  simp only [List.mem_cons, List.not_mem_nil, or_false] at hw
  rcases hw with e | e | e
  · rw [e]; exact h1
  · rw [e]; exact h2
  · rw [e]; exact h3
/-- a word by its place in its run of the tables -/
theorem lw_at {r : List Cond} (hr : ∀ w ∈ r, w ∈ lw_tbl) {w : Cond} (i : Nat) (h : r[i]? = some w) : w ∈ lw_tbl := hr w (List.mem_of_getElem? h)
theorem lw_g {w : Cond} (h : w ∈ lw_tbl) (g : goodWord w = true) : w ∈ lw_all := List.mem_filter.mpr ⟨h, g⟩
theorem lw_ms : ∀ w ∈ k2_sels lw_privs, w ∈ lw_tbl := fun w h => show w ∈ k2_sels lw_privs ++ tables_1 from List.mem_append_left _ h
theorem lw_m1 : ∀ w ∈ tables_1_1, w ∈ lw_tbl := fun w h => show w ∈ k2_sels lw_privs ++ tables_1 from List.mem_append_right (k2_sels lw_privs) (show w ∈ tables_1 from List.mem_append_left _ h)
theorem lw_m2 : ∀ w ∈ tables_1_2, w ∈ lw_tbl := fun w h => show w ∈ k2_sels lw_privs ++ tables_1 from List.mem_append_right (k2_sels lw_privs) (show w ∈ tables_1 from List.mem_append_right _ (List.mem_append_left _ h))
theorem lw_m3 : ∀ w ∈ tables_1_3, w ∈ lw_tbl := fun w h => show w ∈ k2_sels lw_privs ++ tables_1 from List.mem_append_right (k2_sels lw_privs) (show w ∈ tables_1 from List.mem_append_right _ (List.mem_append_right _ (List.mem_append_left _ h)))
theorem lw_m4 : ∀ w ∈ tables_1_4, w ∈ lw_tbl := fun w h => show w ∈ k2_sels lw_privs ++ tables_1 from List.mem_append_right (k2_sels lw_privs) (show w ∈ tables_1 from List.mem_append_right _ (List.mem_append_right _ (List.mem_append_right _ (List.mem_append_left _ h))))
theorem lw_m5 : ∀ w ∈ tables_1_5, w ∈ lw_tbl := fun w h => show w ∈ k2_sels lw_privs ++ tables_1 from List.mem_append_right (k2_sels lw_privs) (show w ∈ tables_1 from List.mem_append_right _ (List.mem_append_right _ (List.mem_append_right _ (List.mem_append_right _ (List.mem_append_left _ h)))))
theorem lw_m6 : ∀ w ∈ tables_1_6, w ∈ lw_tbl := fun w h => show w ∈ k2_sels lw_privs ++ tables_1 from List.mem_append_right (k2_sels lw_privs) (show w ∈ tables_1 from List.mem_append_right _ (List.mem_append_right _ (List.mem_append_right _ (List.mem_append_right _ (List.mem_append_right _ (List.mem_append_left _ h))))))
theorem lw_m7 : ∀ w ∈ tables_1_7, w ∈ lw_tbl := fun w h => show w ∈ k2_sels lw_privs ++ tables_1 from List.mem_append_right (k2_sels lw_privs) (show w ∈ tables_1 from List.mem_append_right _ (List.mem_append_right _ (List.mem_append_right _ (List.mem_append_right _ (List.mem_append_right _ (List.mem_append_right _ (List.mem_append_left _ h)))))))
theorem lw_m8 : ∀ w ∈ tables_1_8, w ∈ lw_tbl := fun w h => show w ∈ k2_sels lw_privs ++ tables_1 from List.mem_append_right (k2_sels lw_privs) (show w ∈ tables_1 from List.mem_append_right _ (List.mem_append_right _ (List.mem_append_right _ (List.mem_append_right _ (List.mem_append_right _ (List.mem_append_right _ (List.mem_append_right _ h)))))))
theorem qs0 : (Cond.selects "java/lang/NullPointerException" ⟨"java/lang/NullPointerException", "getExtendedNPEMessage", "()Ljava/lang/String;"⟩ ⟨"java/lang/NullPointerException", "getExtendedNPEMessage", "()Ljava/lang/String;"⟩) ∈ lw_all := lw_g (lw_at lw_ms 0 rfl) rfl
theorem qs1 : (Cond.selects "java/lang/Throwable" ⟨"java/lang/Throwable", "fillInStackTrace", "(I)Ljava/lang/Throwable;"⟩ ⟨"java/lang/Throwable", "fillInStackTrace", "(I)Ljava/lang/Throwable;"⟩) ∈ lw_all := lw_g (lw_at lw_ms 1 rfl) rfl
theorem qs2 : (Cond.selects "TwoSeek" ⟨"TwoSeek", "is", "(I)Z"⟩ ⟨"TwoSeek", "is", "(I)Z"⟩) ∈ lw_all := lw_g (lw_at lw_ms 2 rfl) rfl
theorem qs3 : (Cond.selects "TwoSeek" ⟨"TwoSeek", "none", "(I)I"⟩ ⟨"TwoSeek", "none", "(I)I"⟩) ∈ lw_all := lw_g (lw_at lw_ms 3 rfl) rfl
theorem qs4 : (Cond.selects "TwoSeek" ⟨"TwoSeek", "four", "(I)V"⟩ ⟨"TwoSeek", "four", "(I)V"⟩) ∈ lw_all := lw_g (lw_at lw_ms 4 rfl) rfl
theorem qs5 : (Cond.selects "TwoSeek$Reader" ⟨"TwoSeek$Reader", "next", "()V"⟩ ⟨"TwoSeek$Reader", "next", "()V"⟩) ∈ lw_all := lw_g (lw_at lw_ms 5 rfl) rfl
theorem qs6 : (Cond.selects "TwoSeek$Reader" ⟨"TwoSeek$Reader", "at", "(I)I"⟩ ⟨"TwoSeek$Reader", "at", "(I)I"⟩) ∈ lw_all := lw_g (lw_at lw_ms 6 rfl) rfl
theorem qs7 : (Cond.selects "TwoSeek$Reader" ⟨"TwoSeek$Reader", "part", "()V"⟩ ⟨"TwoSeek$Reader", "part", "()V"⟩) ∈ lw_all := lw_g (lw_at lw_ms 7 rfl) rfl
theorem qs8 : (Cond.selects "TwoSeek$Reader" ⟨"TwoSeek$Reader", "key", "()I"⟩ ⟨"TwoSeek$Reader", "key", "()I"⟩) ∈ lw_all := lw_g (lw_at lw_ms 8 rfl) rfl
theorem qs9 : (Cond.selects "TwoSeek$Reader" ⟨"TwoSeek$Reader", "isWord", "(II)Z"⟩ ⟨"TwoSeek$Reader", "isWord", "(II)Z"⟩) ∈ lw_all := lw_g (lw_at lw_ms 9 rfl) rfl
theorem qs10 : (Cond.selects "TwoSeek$Reader" ⟨"TwoSeek$Reader", "need", "(Z)V"⟩ ⟨"TwoSeek$Reader", "need", "(Z)V"⟩) ∈ lw_all := lw_g (lw_at lw_ms 10 rfl) rfl
theorem qs11 : (Cond.selects "TwoSeek$Reader" ⟨"TwoSeek$Reader", "fail", "(I)LTwoSeek$Wrong;"⟩ ⟨"TwoSeek$Reader", "fail", "(I)LTwoSeek$Wrong;"⟩) ∈ lw_all := lw_g (lw_at lw_ms 11 rfl) rfl
theorem qs12 : (Cond.selects "TwoSeek$Reader" ⟨"TwoSeek$Reader", "aPlace", "()V"⟩ ⟨"TwoSeek$Reader", "aPlace", "()V"⟩) ∈ lw_all := lw_g (lw_at lw_ms 12 rfl) rfl
theorem qs13 : (Cond.selects "TwoSeek$Reader" ⟨"TwoSeek$Reader", "name", "()J"⟩ ⟨"TwoSeek$Reader", "name", "()J"⟩) ∈ lw_all := lw_g (lw_at lw_ms 13 rfl) rfl
theorem qs14 : (Cond.selects "TwoSeek$Reader" ⟨"TwoSeek$Reader", "passed", "(II)I"⟩ ⟨"TwoSeek$Reader", "passed", "(II)I"⟩) ∈ lw_all := lw_g (lw_at lw_ms 14 rfl) rfl
theorem qs15 : (Cond.selects "TwoSeek$Reader" ⟨"TwoSeek$Reader", "aLane", "()V"⟩ ⟨"TwoSeek$Reader", "aLane", "()V"⟩) ∈ lw_all := lw_g (lw_at lw_ms 15 rfl) rfl
theorem qs16 : (Cond.selects "TwoSeek$Reader" ⟨"TwoSeek$Reader", "free", "(LTwoSeek$Place;)LTwoSeek$Place;"⟩ ⟨"TwoSeek$Reader", "free", "(LTwoSeek$Place;)LTwoSeek$Place;"⟩) ∈ lw_all := lw_g (lw_at lw_ms 16 rfl) rfl
theorem qs17 : (Cond.selects "TwoSeek" ⟨"TwoSeek", "gives", "(I)I"⟩ ⟨"TwoSeek", "gives", "(I)I"⟩) ∈ lw_all := lw_g (lw_at lw_ms 17 rfl) rfl
theorem qs18 : (Cond.selects "TwoSeek" ⟨"TwoSeek", "isPlace", "(I)Z"⟩ ⟨"TwoSeek", "isPlace", "(I)Z"⟩) ∈ lw_all := lw_g (lw_at lw_ms 18 rfl) rfl
theorem qs19 : (Cond.selects "TwoSeek" ⟨"TwoSeek", "isLane", "(I)Z"⟩ ⟨"TwoSeek", "isLane", "(I)Z"⟩) ∈ lw_all := lw_g (lw_at lw_ms 19 rfl) rfl
theorem qs20 : (Cond.selects "TwoSeek" ⟨"TwoSeek", "areFrom", "(IIJJ)Z"⟩ ⟨"TwoSeek", "areFrom", "(IIJJ)Z"⟩) ∈ lw_all := lw_g (lw_at lw_ms 20 rfl) rfl
theorem qs21 : (Cond.selects "TwoSeek" ⟨"TwoSeek", "rowOf", "(II)[I"⟩ ⟨"TwoSeek", "rowOf", "(II)[I"⟩) ∈ lw_all := lw_g (lw_at lw_ms 21 rfl) rfl
theorem qs22 : (Cond.selects "TwoSeek" ⟨"TwoSeek", "adds", "(LTwoSeek$Way;)I"⟩ ⟨"TwoSeek", "adds", "(LTwoSeek$Way;)I"⟩) ∈ lw_all := lw_g (lw_at lw_ms 22 rfl) rfl
theorem qs23 : (Cond.selects "TwoSeek" ⟨"TwoSeek", "isWay", "(J)Z"⟩ ⟨"TwoSeek", "isWay", "(J)Z"⟩) ∈ lw_all := lw_g (lw_at lw_ms 23 rfl) rfl
theorem qs24 : (Cond.selects "TwoSeek" ⟨"TwoSeek", "meet", "(IIII)I"⟩ ⟨"TwoSeek", "meet", "(IIII)I"⟩) ∈ lw_all := lw_g (lw_at lw_ms 24 rfl) rfl
theorem qs25 : (Cond.selects "TwoSeek" ⟨"TwoSeek", "nearer", "(LTwoSeek$Place;)LTwoSeek$Place;"⟩ ⟨"TwoSeek", "nearer", "(LTwoSeek$Place;)LTwoSeek$Place;"⟩) ∈ lw_all := lw_g (lw_at lw_ms 25 rfl) rfl
theorem qs26 : (Cond.selects "TwoSeek$Sight" ⟨"TwoSeek$Sight", "told", "(LTwoSeek$Walker;)I"⟩ ⟨"TwoSeek$Sight", "told", "(LTwoSeek$Walker;)I"⟩) ∈ lw_all := lw_g (lw_at lw_ms 26 rfl) rfl
theorem qs27 : (Cond.selects "TwoSeek" ⟨"TwoSeek", "meets", "(LTwoSeek$Place;LTwoSeek$Place;)Z"⟩ ⟨"TwoSeek", "meets", "(LTwoSeek$Place;LTwoSeek$Place;)Z"⟩) ∈ lw_all := lw_g (lw_at lw_ms 27 rfl) rfl
theorem qs28 : (Cond.selects "TwoSeek" ⟨"TwoSeek", "times", "(II)J"⟩ ⟨"TwoSeek", "times", "(II)J"⟩) ∈ lw_all := lw_g (lw_at lw_ms 28 rfl) rfl
theorem qs29 : (Cond.selects "TwoSeek" ⟨"TwoSeek", "likely", "(II)J"⟩ ⟨"TwoSeek", "likely", "(II)J"⟩) ∈ lw_all := lw_g (lw_at lw_ms 29 rfl) rfl
theorem qs30 : (Cond.selects "TwoSeek" ⟨"TwoSeek", "allLikely", "()J"⟩ ⟨"TwoSeek", "allLikely", "()J"⟩) ∈ lw_all := lw_g (lw_at lw_ms 30 rfl) rfl
theorem qs31 : (Cond.selects "TwoSeek" ⟨"TwoSeek", "tell", "(JJ)Z"⟩ ⟨"TwoSeek", "tell", "(JJ)Z"⟩) ∈ lw_all := lw_g (lw_at lw_ms 31 rfl) rfl
theorem qs32 : (Cond.selects "TwoSeek" ⟨"TwoSeek", "areLike", "(II)Z"⟩ ⟨"TwoSeek", "areLike", "(II)Z"⟩) ∈ lw_all := lw_g (lw_at lw_ms 32 rfl) rfl
theorem qs33 : (Cond.selects "TwoSeek" ⟨"TwoSeek", "beginRows", "(I)V"⟩ ⟨"TwoSeek", "beginRows", "(I)V"⟩) ∈ lw_all := lw_g (lw_at lw_ms 33 rfl) rfl
theorem qs34 : (Cond.selects "TwoSeek" ⟨"TwoSeek", "goRows", "(IJZ)V"⟩ ⟨"TwoSeek", "goRows", "(IJZ)V"⟩) ∈ lw_all := lw_g (lw_at lw_ms 34 rfl) rfl
theorem qs35 : (Cond.selects "TwoSeek" ⟨"TwoSeek", "endRows", "(J)V"⟩ ⟨"TwoSeek", "endRows", "(J)V"⟩) ∈ lw_all := lw_g (lw_at lw_ms 35 rfl) rfl
theorem qs36 : (Cond.selects "TwoSeek" ⟨"TwoSeek", "doesStep", "(III)J"⟩ ⟨"TwoSeek", "doesStep", "(III)J"⟩) ∈ lw_all := lw_g (lw_at lw_ms 36 rfl) rfl
theorem qs37 : (Cond.selects "TwoSeek" ⟨"TwoSeek", "isParted", "(II)Z"⟩ ⟨"TwoSeek", "isParted", "(II)Z"⟩) ∈ lw_all := lw_g (lw_at lw_ms 37 rfl) rfl
theorem qs38 : (Cond.selects "TwoSeek" ⟨"TwoSeek", "isTurned", "(II)Z"⟩ ⟨"TwoSeek", "isTurned", "(II)Z"⟩) ∈ lw_all := lw_g (lw_at lw_ms 38 rfl) rfl
theorem qs39 : (Cond.selects "TwoSeek" ⟨"TwoSeek", "puts", "(LTwoSeek$Place;LTwoSeek$Place;I)Z"⟩ ⟨"TwoSeek", "puts", "(LTwoSeek$Place;LTwoSeek$Place;I)Z"⟩) ∈ lw_all := lw_g (lw_at lw_ms 39 rfl) rfl
theorem qs40 : (Cond.selects "TwoSeek" ⟨"TwoSeek", "wrongDraws", "(IIIIZ)I"⟩ ⟨"TwoSeek", "wrongDraws", "(IIIIZ)I"⟩) ∈ lw_all := lw_g (lw_at lw_ms 40 rfl) rfl
theorem qs41 : (Cond.selects "TwoSeek" ⟨"TwoSeek", "apart", "(IIIII)J"⟩ ⟨"TwoSeek", "apart", "(IIIII)J"⟩) ∈ lw_all := lw_g (lw_at lw_ms 41 rfl) rfl
theorem qs42 : (Cond.selects "TwoSeek" ⟨"TwoSeek", "walks", "(IIII)I"⟩ ⟨"TwoSeek", "walks", "(IIII)I"⟩) ∈ lw_all := lw_g (lw_at lw_ms 42 rfl) rfl
theorem qs43 : (Cond.selects "TwoSeek" ⟨"TwoSeek", "tellMet", "(JI)Z"⟩ ⟨"TwoSeek", "tellMet", "(JI)Z"⟩) ∈ lw_all := lw_g (lw_at lw_ms 43 rfl) rfl
theorem qs44 : (Cond.selects "TwoSeek" ⟨"TwoSeek", "holds", "()Z"⟩ ⟨"TwoSeek", "holds", "()Z"⟩) ∈ lw_all := lw_g (lw_at lw_ms 44 rfl) rfl
theorem qs45 : (Cond.selects "TwoSeek" ⟨"TwoSeek", "areWays", "(LTwoSeek$Tray;I)Z"⟩ ⟨"TwoSeek", "areWays", "(LTwoSeek$Tray;I)Z"⟩) ∈ lw_all := lw_g (lw_at lw_ms 45 rfl) rfl
theorem qs46 : (Cond.selects "TwoSeek" ⟨"TwoSeek", "line", "(I[J)V"⟩ ⟨"TwoSeek", "line", "(I[J)V"⟩) ∈ lw_all := lw_g (lw_at lw_ms 46 rfl) rfl
theorem qs47 : (Cond.selects "TwoSeek" ⟨"TwoSeek", "cross", "(II)V"⟩ ⟨"TwoSeek", "cross", "(II)V"⟩) ∈ lw_all := lw_g (lw_at lw_ms 47 rfl) rfl
theorem qs48 : (Cond.selects "TwoSeek" ⟨"TwoSeek", "isGreater", "(J)Z"⟩ ⟨"TwoSeek", "isGreater", "(J)Z"⟩) ∈ lw_all := lw_g (lw_at lw_ms 48 rfl) rfl
theorem qs49 : (Cond.selects "TwoSeekModel" ⟨"TwoSeekModel", "no", "(I)Z"⟩ ⟨"TwoSeekModel", "no", "(I)Z"⟩) ∈ lw_all := lw_g (lw_at lw_ms 49 rfl) rfl
theorem qs50 : (Cond.selects "TwoSeekModel" ⟨"TwoSeekModel", "placed", "(II)I"⟩ ⟨"TwoSeekModel", "placed", "(II)I"⟩) ∈ lw_all := lw_g (lw_at lw_ms 50 rfl) rfl
theorem qs51 : (Cond.selects "TwoSeekModel" ⟨"TwoSeekModel", "trayed", "(I)I"⟩ ⟨"TwoSeekModel", "trayed", "(I)I"⟩) ∈ lw_all := lw_g (lw_at lw_ms 51 rfl) rfl
theorem qs52 : (Cond.selects "TwoSeekModel" ⟨"TwoSeekModel", "lay", "(I)V"⟩ ⟨"TwoSeekModel", "lay", "(I)V"⟩) ∈ lw_all := lw_g (lw_at lw_ms 52 rfl) rfl
theorem qs53 : (Cond.selects "TwoSeekModel" ⟨"TwoSeekModel", "refuse", "(I)I"⟩ ⟨"TwoSeekModel", "refuse", "(I)I"⟩) ∈ lw_all := lw_g (lw_at lw_ms 53 rfl) rfl
theorem qs54 : (Cond.selects "TwoSeekModel" ⟨"TwoSeekModel", "next", "()V"⟩ ⟨"TwoSeekModel", "next", "()V"⟩) ∈ lw_all := lw_g (lw_at lw_ms 54 rfl) rfl
theorem qs55 : (Cond.selects "TwoSeekModel" ⟨"TwoSeekModel", "look", "(I)I"⟩ ⟨"TwoSeekModel", "look", "(I)I"⟩) ∈ lw_all := lw_g (lw_at lw_ms 55 rfl) rfl
theorem qs56 : (Cond.selects "TwoSeekModel" ⟨"TwoSeekModel", "isPlaceWord", "()Z"⟩ ⟨"TwoSeekModel", "isPlaceWord", "()Z"⟩) ∈ lw_all := lw_g (lw_at lw_ms 56 rfl) rfl
theorem qs57 : (Cond.selects "TwoSeekModel" ⟨"TwoSeekModel", "isWord", "(J)Z"⟩ ⟨"TwoSeekModel", "isWord", "(J)Z"⟩) ∈ lw_all := lw_g (lw_at lw_ms 57 rfl) rfl
theorem qs58 : (Cond.selects "TwoSeekModel" ⟨"TwoSeekModel", "readPlace", "()V"⟩ ⟨"TwoSeekModel", "readPlace", "()V"⟩) ∈ lw_all := lw_g (lw_at lw_ms 58 rfl) rfl
theorem qs59 : (Cond.selects "TwoSeekModel" ⟨"TwoSeekModel", "isName", "()Z"⟩ ⟨"TwoSeekModel", "isName", "()Z"⟩) ∈ lw_all := lw_g (lw_at lw_ms 59 rfl) rfl
theorem qs60 : (Cond.selects "TwoSeekModel" ⟨"TwoSeekModel", "feature", "()I"⟩ ⟨"TwoSeekModel", "feature", "()I"⟩) ∈ lw_all := lw_g (lw_at lw_ms 60 rfl) rfl
theorem qs61 : (Cond.selects "TwoSeekModel" ⟨"TwoSeekModel", "isLane", "()Z"⟩ ⟨"TwoSeekModel", "isLane", "()Z"⟩) ∈ lw_all := lw_g (lw_at lw_ms 61 rfl) rfl
theorem qs62 : (Cond.selects "TwoSeekModel" ⟨"TwoSeekModel", "isTo", "()Z"⟩ ⟨"TwoSeekModel", "isTo", "()Z"⟩) ∈ lw_all := lw_g (lw_at lw_ms 62 rfl) rfl
theorem qs63 : (Cond.selects "TwoSeekModel" ⟨"TwoSeekModel", "isCross", "()Z"⟩ ⟨"TwoSeekModel", "isCross", "()Z"⟩) ∈ lw_all := lw_g (lw_at lw_ms 63 rfl) rfl
theorem qs64 : (Cond.selects "TwoSeekModel" ⟨"TwoSeekModel", "isSlow", "()Z"⟩ ⟨"TwoSeekModel", "isSlow", "()Z"⟩) ∈ lw_all := lw_g (lw_at lw_ms 64 rfl) rfl
theorem qs65 : (Cond.selects "TwoSeekModel" ⟨"TwoSeekModel", "isHears", "()Z"⟩ ⟨"TwoSeekModel", "isHears", "()Z"⟩) ∈ lw_all := lw_g (lw_at lw_ms 65 rfl) rfl
theorem qs66 : (Cond.selects "TwoSeekModel" ⟨"TwoSeekModel", "wrong", "()V"⟩ ⟨"TwoSeekModel", "wrong", "()V"⟩) ∈ lw_all := lw_g (lw_at lw_ms 66 rfl) rfl
theorem qs67 : (Cond.selects "TwoSeekModel" ⟨"TwoSeekModel", "fail", "(II)V"⟩ ⟨"TwoSeekModel", "fail", "(II)V"⟩) ∈ lw_all := lw_g (lw_at lw_ms 67 rfl) rfl
theorem qs68 : (Cond.selects "TwoSeekModel" ⟨"TwoSeekModel", "named", "()I"⟩ ⟨"TwoSeekModel", "named", "()I"⟩) ∈ lw_all := lw_g (lw_at lw_ms 68 rfl) rfl
theorem qs69 : (Cond.selects "TwoSeekModel" ⟨"TwoSeekModel", "count", "(II)I"⟩ ⟨"TwoSeekModel", "count", "(II)I"⟩) ∈ lw_all := lw_g (lw_at lw_ms 69 rfl) rfl
theorem qs70 : (Cond.selects "TwoSeekModel" ⟨"TwoSeekModel", "must", "(Z)V"⟩ ⟨"TwoSeekModel", "must", "(Z)V"⟩) ∈ lw_all := lw_g (lw_at lw_ms 70 rfl) rfl
theorem qs71 : (Cond.selects "TwoSeekModel" ⟨"TwoSeekModel", "readLane", "()V"⟩ ⟨"TwoSeekModel", "readLane", "()V"⟩) ∈ lw_all := lw_g (lw_at lw_ms 71 rfl) rfl
theorem qs72 : (Cond.selects "TwoSeekModel" ⟨"TwoSeekModel", "told", "()I"⟩ ⟨"TwoSeekModel", "told", "()I"⟩) ∈ lw_all := lw_g (lw_at lw_ms 72 rfl) rfl
theorem qs73 : (Cond.selects "TwoSeekModel" ⟨"TwoSeekModel", "readRest", "()V"⟩ ⟨"TwoSeekModel", "readRest", "()V"⟩) ∈ lw_all := lw_g (lw_at lw_ms 73 rfl) rfl
theorem qs74 : (Cond.selects "TwoSeekModel" ⟨"TwoSeekModel", "taken", "()I"⟩ ⟨"TwoSeekModel", "taken", "()I"⟩) ∈ lw_all := lw_g (lw_at lw_ms 74 rfl) rfl
theorem qs75 : (Cond.selects "TwoSeekModel" ⟨"TwoSeekModel", "isPlace", "(I)Z"⟩ ⟨"TwoSeekModel", "isPlace", "(I)Z"⟩) ∈ lw_all := lw_g (lw_at lw_ms 75 rfl) rfl
theorem qs76 : (Cond.selects "TwoSeekModel" ⟨"TwoSeekModel", "leads", "(II)I"⟩ ⟨"TwoSeekModel", "leads", "(II)I"⟩) ∈ lw_all := lw_g (lw_at lw_ms 76 rfl) rfl
theorem qs77 : (Cond.selects "TwoSeekModel" ⟨"TwoSeekModel", "over", "(II)I"⟩ ⟨"TwoSeekModel", "over", "(II)I"⟩) ∈ lw_all := lw_g (lw_at lw_ms 77 rfl) rfl
theorem qs78 : (Cond.selects "TwoSeekModel" ⟨"TwoSeekModel", "findFar", "(I)V"⟩ ⟨"TwoSeekModel", "findFar", "(I)V"⟩) ∈ lw_all := lw_g (lw_at lw_ms 78 rfl) rfl
theorem qs79 : (Cond.selects "TwoSeekModel" ⟨"TwoSeekModel", "numberOf", "(II)J"⟩ ⟨"TwoSeekModel", "numberOf", "(II)J"⟩) ∈ lw_all := lw_g (lw_at lw_ms 79 rfl) rfl
theorem qs80 : (Cond.selects "TwoSeekModel" ⟨"TwoSeekModel", "addWay", "(IIIZ)I"⟩ ⟨"TwoSeekModel", "addWay", "(IIIZ)I"⟩) ∈ lw_all := lw_g (lw_at lw_ms 80 rfl) rfl
theorem qs81 : (Cond.selects "TwoSeekModel" ⟨"TwoSeekModel", "isWay", "(I)Z"⟩ ⟨"TwoSeekModel", "isWay", "(I)Z"⟩) ∈ lw_all := lw_g (lw_at lw_ms 81 rfl) rfl
theorem qs82 : (Cond.selects "TwoSeekModel" ⟨"TwoSeekModel", "walk", "(IIII)I"⟩ ⟨"TwoSeekModel", "walk", "(IIII)I"⟩) ∈ lw_all := lw_g (lw_at lw_ms 82 rfl) rfl
theorem qs83 : (Cond.selects "TwoSeekModel" ⟨"TwoSeekModel", "begin", "(II)V"⟩ ⟨"TwoSeekModel", "begin", "(II)V"⟩) ∈ lw_all := lw_g (lw_at lw_ms 83 rfl) rfl
theorem qs84 : (Cond.selects "TwoSeekModel" ⟨"TwoSeekModel", "nearer", "(I)I"⟩ ⟨"TwoSeekModel", "nearer", "(I)I"⟩) ∈ lw_all := lw_g (lw_at lw_ms 84 rfl) rfl
theorem qs85 : (Cond.selects "TwoSeekModel" ⟨"TwoSeekModel", "isOpen", "(II)Z"⟩ ⟨"TwoSeekModel", "isOpen", "(II)Z"⟩) ∈ lw_all := lw_g (lw_at lw_ms 85 rfl) rfl
theorem qs86 : (Cond.selects "TwoSeekModel" ⟨"TwoSeekModel", "stepOf", "(III)I"⟩ ⟨"TwoSeekModel", "stepOf", "(III)I"⟩) ∈ lw_all := lw_g (lw_at lw_ms 86 rfl) rfl
theorem qs87 : (Cond.selects "TwoSeekModel" ⟨"TwoSeekModel", "go", "(II)I"⟩ ⟨"TwoSeekModel", "go", "(II)I"⟩) ∈ lw_all := lw_g (lw_at lw_ms 87 rfl) rfl
theorem qs88 : (Cond.selects "TwoSeekModel" ⟨"TwoSeekModel", "goesBy", "(II)I"⟩ ⟨"TwoSeekModel", "goesBy", "(II)I"⟩) ∈ lw_all := lw_g (lw_at lw_ms 88 rfl) rfl
theorem qs89 : (Cond.selects "TwoSeekModel" ⟨"TwoSeekModel", "meets", "(IIII)Z"⟩ ⟨"TwoSeekModel", "meets", "(IIII)Z"⟩) ∈ lw_all := lw_g (lw_at lw_ms 89 rfl) rfl
theorem qs90 : (Cond.selects "TwoSeekModel" ⟨"TwoSeekModel", "sumOf", "(II)J"⟩ ⟨"TwoSeekModel", "sumOf", "(II)J"⟩) ∈ lw_all := lw_g (lw_at lw_ms 90 rfl) rfl
theorem qs91 : (Cond.selects "TwoSeekModel" ⟨"TwoSeekModel", "allLikely", "()J"⟩ ⟨"TwoSeekModel", "allLikely", "()J"⟩) ∈ lw_all := lw_g (lw_at lw_ms 91 rfl) rfl
theorem qs92 : (Cond.selects "TwoSeekModel" ⟨"TwoSeekModel", "likely", "(II)J"⟩ ⟨"TwoSeekModel", "likely", "(II)J"⟩) ∈ lw_all := lw_g (lw_at lw_ms 92 rfl) rfl
theorem qs93 : (Cond.selects "TwoSeekModel" ⟨"TwoSeekModel", "fraction", "(JJ)V"⟩ ⟨"TwoSeekModel", "fraction", "(JJ)V"⟩) ∈ lw_all := lw_g (lw_at lw_ms 93 rfl) rfl
theorem qs94 : (Cond.selects "TwoSeekModel" ⟨"TwoSeekModel", "findRows", "(IIZ)V"⟩ ⟨"TwoSeekModel", "findRows", "(IIZ)V"⟩) ∈ lw_all := lw_g (lw_at lw_ms 94 rfl) rfl
theorem qs95 : (Cond.selects "TwoSeekModel" ⟨"TwoSeekModel", "byRows", "(IIIZ)I"⟩ ⟨"TwoSeekModel", "byRows", "(IIIZ)I"⟩) ∈ lw_all := lw_g (lw_at lw_ms 95 rfl) rfl
theorem qs96 : (Cond.selects "TwoSeekModel" ⟨"TwoSeekModel", "isBrought", "(II)Z"⟩ ⟨"TwoSeekModel", "isBrought", "(II)Z"⟩) ∈ lw_all := lw_g (lw_at lw_ms 96 rfl) rfl
theorem qs97 : (Cond.selects "TwoSeekModel" ⟨"TwoSeekModel", "turns", "(II)Z"⟩ ⟨"TwoSeekModel", "turns", "(II)Z"⟩) ∈ lw_all := lw_g (lw_at lw_ms 97 rfl) rfl
theorem qs98 : (Cond.selects "TwoSeekModel" ⟨"TwoSeekModel", "fitsTurn", "(I)Z"⟩ ⟨"TwoSeekModel", "fitsTurn", "(I)Z"⟩) ∈ lw_all := lw_g (lw_at lw_ms 98 rfl) rfl
theorem qs99 : (Cond.selects "TwoSeekModel" ⟨"TwoSeekModel", "asksDrawn", "(IIIII)I"⟩ ⟨"TwoSeekModel", "asksDrawn", "(IIIII)I"⟩) ∈ lw_all := lw_g (lw_at lw_ms 99 rfl) rfl
theorem qs100 : (Cond.selects "TwoSeekModel" ⟨"TwoSeekModel", "metOf", "(IIIII)J"⟩ ⟨"TwoSeekModel", "metOf", "(IIIII)J"⟩) ∈ lw_all := lw_g (lw_at lw_ms 100 rfl) rfl
theorem qs101 : (Cond.selects "TwoSeekModel" ⟨"TwoSeekModel", "play", "(IIIII)I"⟩ ⟨"TwoSeekModel", "play", "(IIIII)I"⟩) ∈ lw_all := lw_g (lw_at lw_ms 101 rfl) rfl
theorem qs102 : (Cond.selects "TwoSeekModel" ⟨"TwoSeekModel", "wholeOf", "(I)J"⟩ ⟨"TwoSeekModel", "wholeOf", "(I)J"⟩) ∈ lw_all := lw_g (lw_at lw_ms 102 rfl) rfl
theorem qs103 : (Cond.selects "TwoSeekModel" ⟨"TwoSeekModel", "holds", "()Z"⟩ ⟨"TwoSeekModel", "holds", "()Z"⟩) ∈ lw_all := lw_g (lw_at lw_ms 103 rfl) rfl
theorem qs104 : (Cond.selects "TwoSeekModel" ⟨"TwoSeekModel", "asksValue", "(IIIIIII)I"⟩ ⟨"TwoSeekModel", "asksValue", "(IIIIIII)I"⟩) ∈ lw_all := lw_g (lw_at lw_ms 104 rfl) rfl
theorem qs105 : (Cond.selects "TwoSeekModel" ⟨"TwoSeekModel", "findValue", "()V"⟩ ⟨"TwoSeekModel", "findValue", "()V"⟩) ∈ lw_all := lw_g (lw_at lw_ms 105 rfl) rfl
theorem qs106 : (Cond.selects "TwoSeekModel" ⟨"TwoSeekModel", "valued", "()V"⟩ ⟨"TwoSeekModel", "valued", "()V"⟩) ∈ lw_all := lw_g (lw_at lw_ms 106 rfl) rfl
theorem qs107 : (Cond.selects "TwoSeekModel" ⟨"TwoSeekModel", "isCorner", "()Z"⟩ ⟨"TwoSeekModel", "isCorner", "()Z"⟩) ∈ lw_all := lw_g (lw_at lw_ms 107 rfl) rfl
theorem qs108 : (Cond.selects "TwoSeekModel" ⟨"TwoSeekModel", "mostOf", "()J"⟩ ⟨"TwoSeekModel", "mostOf", "()J"⟩) ∈ lw_all := lw_g (lw_at lw_ms 108 rfl) rfl
theorem qs109 : (Cond.selects "TwoSeekModel" ⟨"TwoSeekModel", "isSet", "(II)Z"⟩ ⟨"TwoSeekModel", "isSet", "(II)Z"⟩) ∈ lw_all := lw_g (lw_at lw_ms 109 rfl) rfl
theorem qs110 : (Cond.selects "TwoSeekModel" ⟨"TwoSeekModel", "equate", "(IIJJ)V"⟩ ⟨"TwoSeekModel", "equate", "(IIJJ)V"⟩) ∈ lw_all := lw_g (lw_at lw_ms 110 rfl) rfl
theorem qs111 : (Cond.selects "TwoSeekModel" ⟨"TwoSeekModel", "balance", "(III)V"⟩ ⟨"TwoSeekModel", "balance", "(III)V"⟩) ∈ lw_all := lw_g (lw_at lw_ms 111 rfl) rfl
theorem qs112 : (Cond.selects "TwoSeekModel" ⟨"TwoSeekModel", "findChances", "()V"⟩ ⟨"TwoSeekModel", "findChances", "()V"⟩) ∈ lw_all := lw_g (lw_at lw_ms 112 rfl) rfl
theorem qs113 : (Cond.selects "TwoSeekModel" ⟨"TwoSeekModel", "chosen", "()V"⟩ ⟨"TwoSeekModel", "chosen", "()V"⟩) ∈ lw_all := lw_g (lw_at lw_ms 113 rfl) rfl
theorem qs114 : (Cond.selects "TwoSeekModel" ⟨"TwoSeekModel", "isTight", "(II)Z"⟩ ⟨"TwoSeekModel", "isTight", "(II)Z"⟩) ∈ lw_all := lw_g (lw_at lw_ms 114 rfl) rfl
