-- ===== PART A: goes FIRST, ahead of the names: the tables' words, and 'selects' of the private methods out of them =====
/-- a private method of a class that the tables say can be made, by its rows of tables_1 -/
def lw_okq (q : MethodName × Nat) : Prop := (q.1.cls ≠ "java/lang/invoke/MethodHandle" ∧ q.1.cls ≠ "java/lang/invoke/VarHandle") ∧ Cond.instantiable q.1.cls q.2 ∈ tables_1 ∧ Cond.privateMethod q.1 ∈ tables_1 ∧ Cond.instanceMethod q.1 ∈ tables_1
set_option maxRecDepth 100000
theorem lw_t1 {w : Cond} (h : w ∈ tables_1_1) : w ∈ tables_1 := List.mem_append_left _ h
theorem lw_t2 {w : Cond} (h : w ∈ tables_1_2) : w ∈ tables_1 := List.mem_append_right _ (List.mem_append_left _ h)
theorem lw_t3 {w : Cond} (h : w ∈ tables_1_3) : w ∈ tables_1 := List.mem_append_right _ (List.mem_append_right _ (List.mem_append_left _ h))
theorem lw_t4 {w : Cond} (h : w ∈ tables_1_4) : w ∈ tables_1 := List.mem_append_right _ (List.mem_append_right _ (List.mem_append_right _ (List.mem_append_left _ h)))
theorem lw_t5 {w : Cond} (h : w ∈ tables_1_5) : w ∈ tables_1 := List.mem_append_right _ (List.mem_append_right _ (List.mem_append_right _ (List.mem_append_right _ (List.mem_append_left _ h))))
theorem lw_t6 {w : Cond} (h : w ∈ tables_1_6) : w ∈ tables_1 := List.mem_append_right _ (List.mem_append_right _ (List.mem_append_right _ (List.mem_append_right _ (List.mem_append_right _ (List.mem_append_left _ h)))))
theorem lw_t7 {w : Cond} (h : w ∈ tables_1_7) : w ∈ tables_1 := List.mem_append_right _ (List.mem_append_right _ (List.mem_append_right _ (List.mem_append_right _ (List.mem_append_right _ (List.mem_append_right _ (List.mem_append_left _ h))))))
theorem lw_t8 {w : Cond} (h : w ∈ tables_1_8) : w ∈ tables_1 := List.mem_append_right _ (List.mem_append_right _ (List.mem_append_right _ (List.mem_append_right _ (List.mem_append_right _ (List.mem_append_right _ (List.mem_append_right _ h))))))
theorem lw_p0 : lw_okq (⟨"FiveTouch", "four", "(I)V"⟩, 14) := ⟨⟨by decide +kernel, by decide +kernel⟩, lw_t1 (List.mem_of_getElem? (i := 44) rfl), lw_t1 (List.mem_of_getElem? (i := 239) rfl), lw_t2 (List.mem_of_getElem? (i := 0) rfl)⟩
theorem lw_p1 : lw_okq (⟨"FiveTouch", "tell", "(I)I"⟩, 14) := ⟨⟨by decide +kernel, by decide +kernel⟩, lw_t1 (List.mem_of_getElem? (i := 44) rfl), lw_t2 (List.mem_of_getElem? (i := 22) rfl), lw_t2 (List.mem_of_getElem? (i := 23) rfl)⟩
theorem lw_p2 : lw_okq (⟨"java/util/ArrayList", "add", "(Ljava/lang/Object;[Ljava/lang/Object;I)V"⟩, 3) := ⟨⟨by decide +kernel, by decide +kernel⟩, lw_t1 (List.mem_of_getElem? (i := 58) rfl), lw_t2 (List.mem_of_getElem? (i := 112) rfl), lw_t2 (List.mem_of_getElem? (i := 113) rfl)⟩
theorem lw_p3 : lw_okq (⟨"java/util/ArrayList", "grow", "()[Ljava/lang/Object;"⟩, 3) := ⟨⟨by decide +kernel, by decide +kernel⟩, lw_t1 (List.mem_of_getElem? (i := 58) rfl), lw_t2 (List.mem_of_getElem? (i := 116) rfl), lw_t2 (List.mem_of_getElem? (i := 117) rfl)⟩
theorem lw_p4 : lw_okq (⟨"java/util/ArrayList", "grow", "(I)[Ljava/lang/Object;"⟩, 3) := ⟨⟨by decide +kernel, by decide +kernel⟩, lw_t1 (List.mem_of_getElem? (i := 58) rfl), lw_t2 (List.mem_of_getElem? (i := 120) rfl), lw_t2 (List.mem_of_getElem? (i := 121) rfl)⟩
theorem lw_p5 : lw_okq (⟨"FiveTouch", "was", "(I)I"⟩, 14) := ⟨⟨by decide +kernel, by decide +kernel⟩, lw_t1 (List.mem_of_getElem? (i := 44) rfl), lw_t2 (List.mem_of_getElem? (i := 174) rfl), lw_t2 (List.mem_of_getElem? (i := 175) rfl)⟩
theorem lw_p6 : lw_okq (⟨"FiveTouch", "isStone", "(I)Z"⟩, 14) := ⟨⟨by decide +kernel, by decide +kernel⟩, lw_t1 (List.mem_of_getElem? (i := 44) rfl), lw_t2 (List.mem_of_getElem? (i := 189) rfl), lw_t2 (List.mem_of_getElem? (i := 190) rfl)⟩
theorem lw_p7 : lw_okq (⟨"java/lang/Throwable", "fillInStackTrace", "(I)Ljava/lang/Throwable;"⟩, 6) := ⟨⟨by decide +kernel, by decide +kernel⟩, lw_t3 (List.mem_of_getElem? (i := 2) rfl), lw_t3 (List.mem_of_getElem? (i := 0) rfl), lw_t3 (List.mem_of_getElem? (i := 1) rfl)⟩
theorem lw_p8 : lw_okq (⟨"FiveTouch", "add", "(LFiveTouch$Stone;)Z"⟩, 14) := ⟨⟨by decide +kernel, by decide +kernel⟩, lw_t1 (List.mem_of_getElem? (i := 44) rfl), lw_t3 (List.mem_of_getElem? (i := 51) rfl), lw_t3 (List.mem_of_getElem? (i := 52) rfl)⟩
theorem lw_p9 : lw_okq (⟨"FiveTouch$Reader", "next", "()V"⟩, 9) := ⟨⟨by decide +kernel, by decide +kernel⟩, lw_t3 (List.mem_of_getElem? (i := 64) rfl), lw_t3 (List.mem_of_getElem? (i := 117) rfl), lw_t3 (List.mem_of_getElem? (i := 118) rfl)⟩
theorem lw_p10 : lw_okq (⟨"FiveTouch$Reader", "must", "(Z)V"⟩, 9) := ⟨⟨by decide +kernel, by decide +kernel⟩, lw_t3 (List.mem_of_getElem? (i := 64) rfl), lw_t3 (List.mem_of_getElem? (i := 127) rfl), lw_t3 (List.mem_of_getElem? (i := 128) rfl)⟩
theorem lw_p11 : lw_okq (⟨"FiveTouch$Reader", "clause", "()LFiveTouch$Clause;"⟩, 9) := ⟨⟨by decide +kernel, by decide +kernel⟩, lw_t3 (List.mem_of_getElem? (i := 64) rfl), lw_t3 (List.mem_of_getElem? (i := 155) rfl), lw_t3 (List.mem_of_getElem? (i := 156) rfl)⟩
theorem lw_p12 : lw_okq (⟨"FiveTouch$Reader", "which", "([Ljava/lang/String;)I"⟩, 9) := ⟨⟨by decide +kernel, by decide +kernel⟩, lw_t3 (List.mem_of_getElem? (i := 64) rfl), lw_t3 (List.mem_of_getElem? (i := 159) rfl), lw_t3 (List.mem_of_getElem? (i := 160) rfl)⟩
theorem lw_p13 : lw_okq (⟨"FiveTouch$Reader", "isWord", "(Ljava/lang/String;)Z"⟩, 9) := ⟨⟨by decide +kernel, by decide +kernel⟩, lw_t3 (List.mem_of_getElem? (i := 64) rfl), lw_t3 (List.mem_of_getElem? (i := 163) rfl), lw_t3 (List.mem_of_getElem? (i := 164) rfl)⟩
theorem lw_p14 : lw_okq (⟨"FiveTouch$Reader", "sum", "()LFiveTouch$Sum;"⟩, 9) := ⟨⟨by decide +kernel, by decide +kernel⟩, lw_t3 (List.mem_of_getElem? (i := 64) rfl), lw_t3 (List.mem_of_getElem? (i := 213) rfl), lw_t3 (List.mem_of_getElem? (i := 214) rfl)⟩
theorem lw_p15 : lw_okq (⟨"FiveTouch$Reader", "term", "()LFiveTouch$Sum;"⟩, 9) := ⟨⟨by decide +kernel, by decide +kernel⟩, lw_t3 (List.mem_of_getElem? (i := 64) rfl), lw_t3 (List.mem_of_getElem? (i := 217) rfl), lw_t3 (List.mem_of_getElem? (i := 218) rfl)⟩
def lw_privs_1 : List (MethodName × Nat) := [(⟨"FiveTouch", "four", "(I)V"⟩, 14), (⟨"FiveTouch", "tell", "(I)I"⟩, 14), (⟨"java/util/ArrayList", "add", "(Ljava/lang/Object;[Ljava/lang/Object;I)V"⟩, 3), (⟨"java/util/ArrayList", "grow", "()[Ljava/lang/Object;"⟩, 3), (⟨"java/util/ArrayList", "grow", "(I)[Ljava/lang/Object;"⟩, 3), (⟨"FiveTouch", "was", "(I)I"⟩, 14), (⟨"FiveTouch", "isStone", "(I)Z"⟩, 14), (⟨"java/lang/Throwable", "fillInStackTrace", "(I)Ljava/lang/Throwable;"⟩, 6), (⟨"FiveTouch", "add", "(LFiveTouch$Stone;)Z"⟩, 14), (⟨"FiveTouch$Reader", "next", "()V"⟩, 9), (⟨"FiveTouch$Reader", "must", "(Z)V"⟩, 9), (⟨"FiveTouch$Reader", "clause", "()LFiveTouch$Clause;"⟩, 9), (⟨"FiveTouch$Reader", "which", "([Ljava/lang/String;)I"⟩, 9), (⟨"FiveTouch$Reader", "isWord", "(Ljava/lang/String;)Z"⟩, 9), (⟨"FiveTouch$Reader", "sum", "()LFiveTouch$Sum;"⟩, 9), (⟨"FiveTouch$Reader", "term", "()LFiveTouch$Sum;"⟩, 9)]
theorem lw_r1 : ∀ q ∈ lw_privs_1, lw_okq q := List.forall_mem_cons.mpr ⟨lw_p0, List.forall_mem_cons.mpr ⟨lw_p1, List.forall_mem_cons.mpr ⟨lw_p2, List.forall_mem_cons.mpr ⟨lw_p3, List.forall_mem_cons.mpr ⟨lw_p4, List.forall_mem_cons.mpr ⟨lw_p5, List.forall_mem_cons.mpr ⟨lw_p6, List.forall_mem_cons.mpr ⟨lw_p7, List.forall_mem_cons.mpr ⟨lw_p8, List.forall_mem_cons.mpr ⟨lw_p9, List.forall_mem_cons.mpr ⟨lw_p10, List.forall_mem_cons.mpr ⟨lw_p11, List.forall_mem_cons.mpr ⟨lw_p12, List.forall_mem_cons.mpr ⟨lw_p13, List.forall_mem_cons.mpr ⟨lw_p14, List.forall_mem_cons.mpr ⟨lw_p15, fun _ h => absurd h List.not_mem_nil⟩⟩⟩⟩⟩⟩⟩⟩⟩⟩⟩⟩⟩⟩⟩⟩
theorem lw_p16 : lw_okq (⟨"FiveTouch$Reader", "part", "()LFiveTouch$Sum;"⟩, 9) := ⟨⟨by decide +kernel, by decide +kernel⟩, lw_t3 (List.mem_of_getElem? (i := 64) rfl), lw_t3 (List.mem_of_getElem? (i := 221) rfl), lw_t3 (List.mem_of_getElem? (i := 222) rfl)⟩
theorem lw_p17 : lw_okq (⟨"FiveTouch$Reader", "open", "()V"⟩, 9) := ⟨⟨by decide +kernel, by decide +kernel⟩, lw_t3 (List.mem_of_getElem? (i := 64) rfl), lw_t3 (List.mem_of_getElem? (i := 226) rfl), lw_t3 (List.mem_of_getElem? (i := 227) rfl)⟩
theorem lw_p18 : lw_okq (⟨"FiveTouch$Reader", "close", "(Ljava/lang/String;)V"⟩, 9) := ⟨⟨by decide +kernel, by decide +kernel⟩, lw_t3 (List.mem_of_getElem? (i := 64) rfl), lw_t3 (List.mem_of_getElem? (i := 231) rfl), lw_t3 (List.mem_of_getElem? (i := 232) rfl)⟩
theorem lw_p19 : lw_okq (⟨"FiveTouch$Reader", "accept", "(Ljava/lang/String;)Z"⟩, 9) := ⟨⟨by decide +kernel, by decide +kernel⟩, lw_t3 (List.mem_of_getElem? (i := 64) rfl), lw_t3 (List.mem_of_getElem? (i := 235) rfl), lw_t3 (List.mem_of_getElem? (i := 236) rfl)⟩
theorem lw_p20 : lw_okq (⟨"FiveTouch$Reader", "leaf", "()V"⟩, 9) := ⟨⟨by decide +kernel, by decide +kernel⟩, lw_t3 (List.mem_of_getElem? (i := 64) rfl), lw_t3 (List.mem_of_getElem? (i := 239) rfl), lw_t4 (List.mem_of_getElem? (i := 0) rfl)⟩
theorem lw_p21 : lw_okq (⟨"FiveTouch$Reader", "number", "(I)I"⟩, 9) := ⟨⟨by decide +kernel, by decide +kernel⟩, lw_t3 (List.mem_of_getElem? (i := 64) rfl), lw_t4 (List.mem_of_getElem? (i := 5) rfl), lw_t4 (List.mem_of_getElem? (i := 6) rfl)⟩
theorem lw_p22 : lw_okq (⟨"FiveTouch$Reader", "test", "()LFiveTouch$Test;"⟩, 9) := ⟨⟨by decide +kernel, by decide +kernel⟩, lw_t3 (List.mem_of_getElem? (i := 64) rfl), lw_t4 (List.mem_of_getElem? (i := 51) rfl), lw_t4 (List.mem_of_getElem? (i := 52) rfl)⟩
theorem lw_p23 : lw_okq (⟨"FiveTouch$Reader", "both", "()LFiveTouch$Test;"⟩, 9) := ⟨⟨by decide +kernel, by decide +kernel⟩, lw_t3 (List.mem_of_getElem? (i := 64) rfl), lw_t4 (List.mem_of_getElem? (i := 55) rfl), lw_t4 (List.mem_of_getElem? (i := 56) rfl)⟩
theorem lw_p24 : lw_okq (⟨"FiveTouch$Reader", "plain", "()LFiveTouch$Test;"⟩, 9) := ⟨⟨by decide +kernel, by decide +kernel⟩, lw_t3 (List.mem_of_getElem? (i := 64) rfl), lw_t4 (List.mem_of_getElem? (i := 59) rfl), lw_t4 (List.mem_of_getElem? (i := 60) rfl)⟩
theorem lw_p25 : lw_okq (⟨"FiveTouch$Reader", "add", "(LFiveTouch$Test;)V"⟩, 9) := ⟨⟨by decide +kernel, by decide +kernel⟩, lw_t3 (List.mem_of_getElem? (i := 64) rfl), lw_t4 (List.mem_of_getElem? (i := 98) rfl), lw_t4 (List.mem_of_getElem? (i := 99) rfl)⟩
theorem lw_p26 : lw_okq (⟨"FiveTouch$Reader", "row", "(ZI)LFiveTouch$Test;"⟩, 9) := ⟨⟨by decide +kernel, by decide +kernel⟩, lw_t3 (List.mem_of_getElem? (i := 64) rfl), lw_t4 (List.mem_of_getElem? (i := 103) rfl), lw_t4 (List.mem_of_getElem? (i := 104) rfl)⟩
theorem lw_p27 : lw_okq (⟨"FiveTouch$Scene", "ask", "(ILFiveTouch$Stone;)V"⟩, 6) := ⟨⟨by decide +kernel, by decide +kernel⟩, lw_t1 (List.mem_of_getElem? (i := 150) rfl), lw_t4 (List.mem_of_getElem? (i := 170) rfl), lw_t4 (List.mem_of_getElem? (i := 171) rfl)⟩
theorem lw_p28 : lw_okq (⟨"FiveTouch", "areThere", "(I)Z"⟩, 14) := ⟨⟨by decide +kernel, by decide +kernel⟩, lw_t1 (List.mem_of_getElem? (i := 44) rfl), lw_t5 (List.mem_of_getElem? (i := 43) rfl), lw_t5 (List.mem_of_getElem? (i := 44) rfl)⟩
theorem lw_p29 : lw_okq (⟨"FiveTouch", "weight", "(I)I"⟩, 14) := ⟨⟨by decide +kernel, by decide +kernel⟩, lw_t1 (List.mem_of_getElem? (i := 44) rfl), lw_t5 (List.mem_of_getElem? (i := 54) rfl), lw_t5 (List.mem_of_getElem? (i := 55) rfl)⟩
theorem lw_p30 : lw_okq (⟨"FiveTouch", "isMore", "(II)Z"⟩, 14) := ⟨⟨by decide +kernel, by decide +kernel⟩, lw_t1 (List.mem_of_getElem? (i := 44) rfl), lw_t5 (List.mem_of_getElem? (i := 123) rfl), lw_t5 (List.mem_of_getElem? (i := 124) rfl)⟩
theorem lw_p31 : lw_okq (⟨"FiveTouch", "told", "(LFiveTouch$Search;I)I"⟩, 14) := ⟨⟨by decide +kernel, by decide +kernel⟩, lw_t1 (List.mem_of_getElem? (i := 44) rfl), lw_t5 (List.mem_of_getElem? (i := 165) rfl), lw_t5 (List.mem_of_getElem? (i := 166) rfl)⟩
def lw_privs_2 : List (MethodName × Nat) := [(⟨"FiveTouch$Reader", "part", "()LFiveTouch$Sum;"⟩, 9), (⟨"FiveTouch$Reader", "open", "()V"⟩, 9), (⟨"FiveTouch$Reader", "close", "(Ljava/lang/String;)V"⟩, 9), (⟨"FiveTouch$Reader", "accept", "(Ljava/lang/String;)Z"⟩, 9), (⟨"FiveTouch$Reader", "leaf", "()V"⟩, 9), (⟨"FiveTouch$Reader", "number", "(I)I"⟩, 9), (⟨"FiveTouch$Reader", "test", "()LFiveTouch$Test;"⟩, 9), (⟨"FiveTouch$Reader", "both", "()LFiveTouch$Test;"⟩, 9), (⟨"FiveTouch$Reader", "plain", "()LFiveTouch$Test;"⟩, 9), (⟨"FiveTouch$Reader", "add", "(LFiveTouch$Test;)V"⟩, 9), (⟨"FiveTouch$Reader", "row", "(ZI)LFiveTouch$Test;"⟩, 9), (⟨"FiveTouch$Scene", "ask", "(ILFiveTouch$Stone;)V"⟩, 6), (⟨"FiveTouch", "areThere", "(I)Z"⟩, 14), (⟨"FiveTouch", "weight", "(I)I"⟩, 14), (⟨"FiveTouch", "isMore", "(II)Z"⟩, 14), (⟨"FiveTouch", "told", "(LFiveTouch$Search;I)I"⟩, 14)]
theorem lw_r2 : ∀ q ∈ lw_privs_2, lw_okq q := List.forall_mem_cons.mpr ⟨lw_p16, List.forall_mem_cons.mpr ⟨lw_p17, List.forall_mem_cons.mpr ⟨lw_p18, List.forall_mem_cons.mpr ⟨lw_p19, List.forall_mem_cons.mpr ⟨lw_p20, List.forall_mem_cons.mpr ⟨lw_p21, List.forall_mem_cons.mpr ⟨lw_p22, List.forall_mem_cons.mpr ⟨lw_p23, List.forall_mem_cons.mpr ⟨lw_p24, List.forall_mem_cons.mpr ⟨lw_p25, List.forall_mem_cons.mpr ⟨lw_p26, List.forall_mem_cons.mpr ⟨lw_p27, List.forall_mem_cons.mpr ⟨lw_p28, List.forall_mem_cons.mpr ⟨lw_p29, List.forall_mem_cons.mpr ⟨lw_p30, List.forall_mem_cons.mpr ⟨lw_p31, fun _ h => absurd h List.not_mem_nil⟩⟩⟩⟩⟩⟩⟩⟩⟩⟩⟩⟩⟩⟩⟩⟩
theorem lw_p32 : lw_okq (⟨"FiveTouch$OneByOne", "isComeTo", "(I)Z"⟩, 5) := ⟨⟨by decide +kernel, by decide +kernel⟩, lw_t5 (List.mem_of_getElem? (i := 173) rfl), lw_t5 (List.mem_of_getElem? (i := 180) rfl), lw_t5 (List.mem_of_getElem? (i := 181) rfl)⟩
theorem lw_p33 : lw_okq (⟨"FiveTouch", "asFew", "(LFiveTouch$Search;I)I"⟩, 14) := ⟨⟨by decide +kernel, by decide +kernel⟩, lw_t1 (List.mem_of_getElem? (i := 44) rfl), lw_t5 (List.mem_of_getElem? (i := 222) rfl), lw_t5 (List.mem_of_getElem? (i := 223) rfl)⟩
theorem lw_p34 : lw_okq (⟨"FiveTouch", "winner", "(LFiveTouch$Scene;I)I"⟩, 14) := ⟨⟨by decide +kernel, by decide +kernel⟩, lw_t1 (List.mem_of_getElem? (i := 44) rfl), lw_t6 (List.mem_of_getElem? (i := 13) rfl), lw_t6 (List.mem_of_getElem? (i := 14) rfl)⟩
theorem lw_p35 : lw_okq (⟨"FiveTouch", "putBack", "(LFiveTouch$Scene;I)I"⟩, 14) := ⟨⟨by decide +kernel, by decide +kernel⟩, lw_t1 (List.mem_of_getElem? (i := 44) rfl), lw_t6 (List.mem_of_getElem? (i := 44) rfl), lw_t6 (List.mem_of_getElem? (i := 45) rfl)⟩
theorem lw_p36 : lw_okq (⟨"FiveTouchModel", "refuses", "(I)I"⟩, 39) := ⟨⟨by decide +kernel, by decide +kernel⟩, lw_t6 (List.mem_of_getElem? (i := 83) rfl), lw_t6 (List.mem_of_getElem? (i := 214) rfl), lw_t6 (List.mem_of_getElem? (i := 215) rfl)⟩
theorem lw_p37 : lw_okq (⟨"FiveTouchModel", "good", "(I)I"⟩, 39) := ⟨⟨by decide +kernel, by decide +kernel⟩, lw_t6 (List.mem_of_getElem? (i := 83) rfl), lw_t6 (List.mem_of_getElem? (i := 218) rfl), lw_t6 (List.mem_of_getElem? (i := 219) rfl)⟩
theorem lw_p38 : lw_okq (⟨"FiveTouchModel", "isFree", "(IIII)Z"⟩, 39) := ⟨⟨by decide +kernel, by decide +kernel⟩, lw_t6 (List.mem_of_getElem? (i := 83) rfl), lw_t6 (List.mem_of_getElem? (i := 233) rfl), lw_t6 (List.mem_of_getElem? (i := 234) rfl)⟩
theorem lw_p39 : lw_okq (⟨"FiveTouchModel", "isItem", "(I)Z"⟩, 39) := ⟨⟨by decide +kernel, by decide +kernel⟩, lw_t6 (List.mem_of_getElem? (i := 83) rfl), lw_t6 (List.mem_of_getElem? (i := 237) rfl), lw_t6 (List.mem_of_getElem? (i := 238) rfl)⟩
theorem lw_p40 : lw_okq (⟨"FiveTouchModel", "isStone", "(I)Z"⟩, 39) := ⟨⟨by decide +kernel, by decide +kernel⟩, lw_t6 (List.mem_of_getElem? (i := 83) rfl), lw_t7 (List.mem_of_getElem? (i := 1) rfl), lw_t7 (List.mem_of_getElem? (i := 2) rfl)⟩
theorem lw_p41 : lw_okq (⟨"FiveTouchModel", "stones", "()I"⟩, 39) := ⟨⟨by decide +kernel, by decide +kernel⟩, lw_t6 (List.mem_of_getElem? (i := 83) rfl), lw_t7 (List.mem_of_getElem? (i := 5) rfl), lw_t7 (List.mem_of_getElem? (i := 6) rfl)⟩
theorem lw_p42 : lw_okq (⟨"FiveTouchModel", "spares", "()I"⟩, 39) := ⟨⟨by decide +kernel, by decide +kernel⟩, lw_t6 (List.mem_of_getElem? (i := 83) rfl), lw_t7 (List.mem_of_getElem? (i := 9) rfl), lw_t7 (List.mem_of_getElem? (i := 10) rfl)⟩
theorem lw_p43 : lw_okq (⟨"FiveTouchModel", "covers", "(III)Z"⟩, 39) := ⟨⟨by decide +kernel, by decide +kernel⟩, lw_t6 (List.mem_of_getElem? (i := 83) rfl), lw_t7 (List.mem_of_getElem? (i := 13) rfl), lw_t7 (List.mem_of_getElem? (i := 14) rfl)⟩
theorem lw_p44 : lw_okq (⟨"FiveTouchModel", "factOf", "(II)I"⟩, 39) := ⟨⟨by decide +kernel, by decide +kernel⟩, lw_t6 (List.mem_of_getElem? (i := 83) rfl), lw_t7 (List.mem_of_getElem? (i := 17) rfl), lw_t7 (List.mem_of_getElem? (i := 18) rfl)⟩
theorem lw_p45 : lw_okq (⟨"FiveTouchModel", "adds", "(IIIII)I"⟩, 39) := ⟨⟨by decide +kernel, by decide +kernel⟩, lw_t6 (List.mem_of_getElem? (i := 83) rfl), lw_t7 (List.mem_of_getElem? (i := 21) rfl), lw_t7 (List.mem_of_getElem? (i := 22) rfl)⟩
theorem lw_p46 : lw_okq (⟨"FiveTouchModel", "lays", "(IIIIII)V"⟩, 39) := ⟨⟨by decide +kernel, by decide +kernel⟩, lw_t6 (List.mem_of_getElem? (i := 83) rfl), lw_t7 (List.mem_of_getElem? (i := 25) rfl), lw_t7 (List.mem_of_getElem? (i := 26) rfl)⟩
theorem lw_p47 : lw_okq (⟨"FiveTouchModel", "reads", "()Z"⟩, 39) := ⟨⟨by decide +kernel, by decide +kernel⟩, lw_t6 (List.mem_of_getElem? (i := 83) rfl), lw_t7 (List.mem_of_getElem? (i := 65) rfl), lw_t7 (List.mem_of_getElem? (i := 66) rfl)⟩
def lw_privs_3 : List (MethodName × Nat) := [(⟨"FiveTouch$OneByOne", "isComeTo", "(I)Z"⟩, 5), (⟨"FiveTouch", "asFew", "(LFiveTouch$Search;I)I"⟩, 14), (⟨"FiveTouch", "winner", "(LFiveTouch$Scene;I)I"⟩, 14), (⟨"FiveTouch", "putBack", "(LFiveTouch$Scene;I)I"⟩, 14), (⟨"FiveTouchModel", "refuses", "(I)I"⟩, 39), (⟨"FiveTouchModel", "good", "(I)I"⟩, 39), (⟨"FiveTouchModel", "isFree", "(IIII)Z"⟩, 39), (⟨"FiveTouchModel", "isItem", "(I)Z"⟩, 39), (⟨"FiveTouchModel", "isStone", "(I)Z"⟩, 39), (⟨"FiveTouchModel", "stones", "()I"⟩, 39), (⟨"FiveTouchModel", "spares", "()I"⟩, 39), (⟨"FiveTouchModel", "covers", "(III)Z"⟩, 39), (⟨"FiveTouchModel", "factOf", "(II)I"⟩, 39), (⟨"FiveTouchModel", "adds", "(IIIII)I"⟩, 39), (⟨"FiveTouchModel", "lays", "(IIIIII)V"⟩, 39), (⟨"FiveTouchModel", "reads", "()Z"⟩, 39)]
theorem lw_r3 : ∀ q ∈ lw_privs_3, lw_okq q := List.forall_mem_cons.mpr ⟨lw_p32, List.forall_mem_cons.mpr ⟨lw_p33, List.forall_mem_cons.mpr ⟨lw_p34, List.forall_mem_cons.mpr ⟨lw_p35, List.forall_mem_cons.mpr ⟨lw_p36, List.forall_mem_cons.mpr ⟨lw_p37, List.forall_mem_cons.mpr ⟨lw_p38, List.forall_mem_cons.mpr ⟨lw_p39, List.forall_mem_cons.mpr ⟨lw_p40, List.forall_mem_cons.mpr ⟨lw_p41, List.forall_mem_cons.mpr ⟨lw_p42, List.forall_mem_cons.mpr ⟨lw_p43, List.forall_mem_cons.mpr ⟨lw_p44, List.forall_mem_cons.mpr ⟨lw_p45, List.forall_mem_cons.mpr ⟨lw_p46, List.forall_mem_cons.mpr ⟨lw_p47, fun _ h => absurd h List.not_mem_nil⟩⟩⟩⟩⟩⟩⟩⟩⟩⟩⟩⟩⟩⟩⟩⟩
theorem lw_p48 : lw_okq (⟨"FiveTouchModel", "splits", "(I)V"⟩, 39) := ⟨⟨by decide +kernel, by decide +kernel⟩, lw_t6 (List.mem_of_getElem? (i := 83) rfl), lw_t7 (List.mem_of_getElem? (i := 69) rfl), lw_t7 (List.mem_of_getElem? (i := 70) rfl)⟩
theorem lw_p49 : lw_okq (⟨"FiveTouchModel", "wordOf", "(II)I"⟩, 39) := ⟨⟨by decide +kernel, by decide +kernel⟩, lw_t6 (List.mem_of_getElem? (i := 83) rfl), lw_t7 (List.mem_of_getElem? (i := 79) rfl), lw_t7 (List.mem_of_getElem? (i := 80) rfl)⟩
theorem lw_p50 : lw_okq (⟨"FiveTouchModel", "readClause", "()V"⟩, 39) := ⟨⟨by decide +kernel, by decide +kernel⟩, lw_t6 (List.mem_of_getElem? (i := 83) rfl), lw_t7 (List.mem_of_getElem? (i := 84) rfl), lw_t7 (List.mem_of_getElem? (i := 85) rfl)⟩
theorem lw_p51 : lw_okq (⟨"FiveTouchModel", "takes0", "(I)Z"⟩, 39) := ⟨⟨by decide +kernel, by decide +kernel⟩, lw_t6 (List.mem_of_getElem? (i := 83) rfl), lw_t7 (List.mem_of_getElem? (i := 88) rfl), lw_t7 (List.mem_of_getElem? (i := 89) rfl)⟩
theorem lw_p52 : lw_okq (⟨"FiveTouchModel", "fine", "()Z"⟩, 39) := ⟨⟨by decide +kernel, by decide +kernel⟩, lw_t6 (List.mem_of_getElem? (i := 83) rfl), lw_t7 (List.mem_of_getElem? (i := 92) rfl), lw_t7 (List.mem_of_getElem? (i := 93) rfl)⟩
theorem lw_p53 : lw_okq (⟨"FiveTouchModel", "readSum", "(I)V"⟩, 39) := ⟨⟨by decide +kernel, by decide +kernel⟩, lw_t6 (List.mem_of_getElem? (i := 83) rfl), lw_t7 (List.mem_of_getElem? (i := 96) rfl), lw_t7 (List.mem_of_getElem? (i := 97) rfl)⟩
theorem lw_p54 : lw_okq (⟨"FiveTouchModel", "readTerm", "(I)V"⟩, 39) := ⟨⟨by decide +kernel, by decide +kernel⟩, lw_t6 (List.mem_of_getElem? (i := 83) rfl), lw_t7 (List.mem_of_getElem? (i := 100) rfl), lw_t7 (List.mem_of_getElem? (i := 101) rfl)⟩
theorem lw_p55 : lw_okq (⟨"FiveTouchModel", "readPart", "(I)V"⟩, 39) := ⟨⟨by decide +kernel, by decide +kernel⟩, lw_t6 (List.mem_of_getElem? (i := 83) rfl), lw_t7 (List.mem_of_getElem? (i := 104) rfl), lw_t7 (List.mem_of_getElem? (i := 105) rfl)⟩
theorem lw_p56 : lw_okq (⟨"FiveTouchModel", "faults", "()V"⟩, 39) := ⟨⟨by decide +kernel, by decide +kernel⟩, lw_t6 (List.mem_of_getElem? (i := 83) rfl), lw_t7 (List.mem_of_getElem? (i := 111) rfl), lw_t7 (List.mem_of_getElem? (i := 112) rfl)⟩
theorem lw_p57 : lw_okq (⟨"FiveTouchModel", "must", "(I)V"⟩, 39) := ⟨⟨by decide +kernel, by decide +kernel⟩, lw_t6 (List.mem_of_getElem? (i := 83) rfl), lw_t7 (List.mem_of_getElem? (i := 115) rfl), lw_t7 (List.mem_of_getElem? (i := 116) rfl)⟩
theorem lw_p58 : lw_okq (⟨"FiveTouchModel", "leaf", "()V"⟩, 39) := ⟨⟨by decide +kernel, by decide +kernel⟩, lw_t6 (List.mem_of_getElem? (i := 83) rfl), lw_t7 (List.mem_of_getElem? (i := 119) rfl), lw_t7 (List.mem_of_getElem? (i := 120) rfl)⟩
theorem lw_p59 : lw_okq (⟨"FiveTouchModel", "readTest", "(I)V"⟩, 39) := ⟨⟨by decide +kernel, by decide +kernel⟩, lw_t6 (List.mem_of_getElem? (i := 83) rfl), lw_t7 (List.mem_of_getElem? (i := 123) rfl), lw_t7 (List.mem_of_getElem? (i := 124) rfl)⟩
theorem lw_p60 : lw_okq (⟨"FiveTouchModel", "readBoth", "(I)V"⟩, 39) := ⟨⟨by decide +kernel, by decide +kernel⟩, lw_t6 (List.mem_of_getElem? (i := 83) rfl), lw_t7 (List.mem_of_getElem? (i := 127) rfl), lw_t7 (List.mem_of_getElem? (i := 128) rfl)⟩
theorem lw_p61 : lw_okq (⟨"FiveTouchModel", "readPlain", "(I)V"⟩, 39) := ⟨⟨by decide +kernel, by decide +kernel⟩, lw_t6 (List.mem_of_getElem? (i := 83) rfl), lw_t7 (List.mem_of_getElem? (i := 131) rfl), lw_t7 (List.mem_of_getElem? (i := 132) rfl)⟩
theorem lw_p62 : lw_okq (⟨"FiveTouchModel", "looks", "()V"⟩, 39) := ⟨⟨by decide +kernel, by decide +kernel⟩, lw_t6 (List.mem_of_getElem? (i := 83) rfl), lw_t7 (List.mem_of_getElem? (i := 154) rfl), lw_t7 (List.mem_of_getElem? (i := 155) rfl)⟩
theorem lw_p63 : lw_okq (⟨"FiveTouchModel", "asksOf", "(I)V"⟩, 39) := ⟨⟨by decide +kernel, by decide +kernel⟩, lw_t6 (List.mem_of_getElem? (i := 83) rfl), lw_t7 (List.mem_of_getElem? (i := 158) rfl), lw_t7 (List.mem_of_getElem? (i := 159) rfl)⟩
def lw_privs_4 : List (MethodName × Nat) := [(⟨"FiveTouchModel", "splits", "(I)V"⟩, 39), (⟨"FiveTouchModel", "wordOf", "(II)I"⟩, 39), (⟨"FiveTouchModel", "readClause", "()V"⟩, 39), (⟨"FiveTouchModel", "takes0", "(I)Z"⟩, 39), (⟨"FiveTouchModel", "fine", "()Z"⟩, 39), (⟨"FiveTouchModel", "readSum", "(I)V"⟩, 39), (⟨"FiveTouchModel", "readTerm", "(I)V"⟩, 39), (⟨"FiveTouchModel", "readPart", "(I)V"⟩, 39), (⟨"FiveTouchModel", "faults", "()V"⟩, 39), (⟨"FiveTouchModel", "must", "(I)V"⟩, 39), (⟨"FiveTouchModel", "leaf", "()V"⟩, 39), (⟨"FiveTouchModel", "readTest", "(I)V"⟩, 39), (⟨"FiveTouchModel", "readBoth", "(I)V"⟩, 39), (⟨"FiveTouchModel", "readPlain", "(I)V"⟩, 39), (⟨"FiveTouchModel", "looks", "()V"⟩, 39), (⟨"FiveTouchModel", "asksOf", "(I)V"⟩, 39)]
theorem lw_r4 : ∀ q ∈ lw_privs_4, lw_okq q := List.forall_mem_cons.mpr ⟨lw_p48, List.forall_mem_cons.mpr ⟨lw_p49, List.forall_mem_cons.mpr ⟨lw_p50, List.forall_mem_cons.mpr ⟨lw_p51, List.forall_mem_cons.mpr ⟨lw_p52, List.forall_mem_cons.mpr ⟨lw_p53, List.forall_mem_cons.mpr ⟨lw_p54, List.forall_mem_cons.mpr ⟨lw_p55, List.forall_mem_cons.mpr ⟨lw_p56, List.forall_mem_cons.mpr ⟨lw_p57, List.forall_mem_cons.mpr ⟨lw_p58, List.forall_mem_cons.mpr ⟨lw_p59, List.forall_mem_cons.mpr ⟨lw_p60, List.forall_mem_cons.mpr ⟨lw_p61, List.forall_mem_cons.mpr ⟨lw_p62, List.forall_mem_cons.mpr ⟨lw_p63, fun _ h => absurd h List.not_mem_nil⟩⟩⟩⟩⟩⟩⟩⟩⟩⟩⟩⟩⟩⟩⟩⟩
theorem lw_p64 : lw_okq (⟨"FiveTouchModel", "codeAt", "(I)I"⟩, 39) := ⟨⟨by decide +kernel, by decide +kernel⟩, lw_t6 (List.mem_of_getElem? (i := 83) rfl), lw_t7 (List.mem_of_getElem? (i := 162) rfl), lw_t7 (List.mem_of_getElem? (i := 163) rfl)⟩
theorem lw_p65 : lw_okq (⟨"FiveTouchModel", "sumOf", "(Z)J"⟩, 39) := ⟨⟨by decide +kernel, by decide +kernel⟩, lw_t6 (List.mem_of_getElem? (i := 83) rfl), lw_t7 (List.mem_of_getElem? (i := 166) rfl), lw_t7 (List.mem_of_getElem? (i := 167) rfl)⟩
theorem lw_p66 : lw_okq (⟨"FiveTouchModel", "termOf", "(Z)J"⟩, 39) := ⟨⟨by decide +kernel, by decide +kernel⟩, lw_t6 (List.mem_of_getElem? (i := 83) rfl), lw_t7 (List.mem_of_getElem? (i := 170) rfl), lw_t7 (List.mem_of_getElem? (i := 171) rfl)⟩
theorem lw_p67 : lw_okq (⟨"FiveTouchModel", "partOf", "(Z)J"⟩, 39) := ⟨⟨by decide +kernel, by decide +kernel⟩, lw_t6 (List.mem_of_getElem? (i := 83) rfl), lw_t7 (List.mem_of_getElem? (i := 174) rfl), lw_t7 (List.mem_of_getElem? (i := 175) rfl)⟩
theorem lw_p68 : lw_okq (⟨"FiveTouchModel", "passes0", "(I)Z"⟩, 39) := ⟨⟨by decide +kernel, by decide +kernel⟩, lw_t6 (List.mem_of_getElem? (i := 83) rfl), lw_t7 (List.mem_of_getElem? (i := 178) rfl), lw_t7 (List.mem_of_getElem? (i := 179) rfl)⟩
theorem lw_p69 : lw_okq (⟨"FiveTouchModel", "bounded", "(JZ)J"⟩, 39) := ⟨⟨by decide +kernel, by decide +kernel⟩, lw_t6 (List.mem_of_getElem? (i := 83) rfl), lw_t7 (List.mem_of_getElem? (i := 182) rfl), lw_t7 (List.mem_of_getElem? (i := 183) rfl)⟩
theorem lw_p70 : lw_okq (⟨"FiveTouchModel", "testOf", "(Z)Z"⟩, 39) := ⟨⟨by decide +kernel, by decide +kernel⟩, lw_t6 (List.mem_of_getElem? (i := 83) rfl), lw_t7 (List.mem_of_getElem? (i := 188) rfl), lw_t7 (List.mem_of_getElem? (i := 189) rfl)⟩
theorem lw_p71 : lw_okq (⟨"FiveTouchModel", "bothOf", "(Z)Z"⟩, 39) := ⟨⟨by decide +kernel, by decide +kernel⟩, lw_t6 (List.mem_of_getElem? (i := 83) rfl), lw_t7 (List.mem_of_getElem? (i := 192) rfl), lw_t7 (List.mem_of_getElem? (i := 193) rfl)⟩
theorem lw_p72 : lw_okq (⟨"FiveTouchModel", "plainOf", "(Z)Z"⟩, 39) := ⟨⟨by decide +kernel, by decide +kernel⟩, lw_t6 (List.mem_of_getElem? (i := 83) rfl), lw_t7 (List.mem_of_getElem? (i := 196) rfl), lw_t7 (List.mem_of_getElem? (i := 197) rfl)⟩
theorem lw_p73 : lw_okq (⟨"FiveTouchModel", "positiveOf", "(Z)Z"⟩, 39) := ⟨⟨by decide +kernel, by decide +kernel⟩, lw_t6 (List.mem_of_getElem? (i := 83) rfl), lw_t7 (List.mem_of_getElem? (i := 200) rfl), lw_t7 (List.mem_of_getElem? (i := 201) rfl)⟩
theorem lw_p74 : lw_okq (⟨"FiveTouchModel", "touch", "(II)Z"⟩, 39) := ⟨⟨by decide +kernel, by decide +kernel⟩, lw_t6 (List.mem_of_getElem? (i := 83) rfl), lw_t7 (List.mem_of_getElem? (i := 205) rfl), lw_t7 (List.mem_of_getElem? (i := 206) rfl)⟩
theorem lw_p75 : lw_okq (⟨"FiveTouchModel", "loose", "(I)I"⟩, 39) := ⟨⟨by decide +kernel, by decide +kernel⟩, lw_t6 (List.mem_of_getElem? (i := 83) rfl), lw_t7 (List.mem_of_getElem? (i := 216) rfl), lw_t7 (List.mem_of_getElem? (i := 217) rfl)⟩
theorem lw_p76 : lw_okq (⟨"FiveTouchModel", "stands", "(II)Z"⟩, 39) := ⟨⟨by decide +kernel, by decide +kernel⟩, lw_t6 (List.mem_of_getElem? (i := 83) rfl), lw_t7 (List.mem_of_getElem? (i := 220) rfl), lw_t7 (List.mem_of_getElem? (i := 221) rfl)⟩
theorem lw_p77 : lw_okq (⟨"FiveTouchModel", "areThere", "(I)Z"⟩, 39) := ⟨⟨by decide +kernel, by decide +kernel⟩, lw_t6 (List.mem_of_getElem? (i := 83) rfl), lw_t7 (List.mem_of_getElem? (i := 236) rfl), lw_t7 (List.mem_of_getElem? (i := 237) rfl)⟩
theorem lw_p78 : lw_okq (⟨"FiveTouchModel", "weightOf", "(I)I"⟩, 39) := ⟨⟨by decide +kernel, by decide +kernel⟩, lw_t6 (List.mem_of_getElem? (i := 83) rfl), lw_t8 (List.mem_of_getElem? (i := 0) rfl), lw_t8 (List.mem_of_getElem? (i := 1) rfl)⟩
theorem lw_p79 : lw_okq (⟨"FiveTouchModel", "fall", "(I)I"⟩, 39) := ⟨⟨by decide +kernel, by decide +kernel⟩, lw_t6 (List.mem_of_getElem? (i := 83) rfl), lw_t8 (List.mem_of_getElem? (i := 12) rfl), lw_t8 (List.mem_of_getElem? (i := 13) rfl)⟩
def lw_privs_5 : List (MethodName × Nat) := [(⟨"FiveTouchModel", "codeAt", "(I)I"⟩, 39), (⟨"FiveTouchModel", "sumOf", "(Z)J"⟩, 39), (⟨"FiveTouchModel", "termOf", "(Z)J"⟩, 39), (⟨"FiveTouchModel", "partOf", "(Z)J"⟩, 39), (⟨"FiveTouchModel", "passes0", "(I)Z"⟩, 39), (⟨"FiveTouchModel", "bounded", "(JZ)J"⟩, 39), (⟨"FiveTouchModel", "testOf", "(Z)Z"⟩, 39), (⟨"FiveTouchModel", "bothOf", "(Z)Z"⟩, 39), (⟨"FiveTouchModel", "plainOf", "(Z)Z"⟩, 39), (⟨"FiveTouchModel", "positiveOf", "(Z)Z"⟩, 39), (⟨"FiveTouchModel", "touch", "(II)Z"⟩, 39), (⟨"FiveTouchModel", "loose", "(I)I"⟩, 39), (⟨"FiveTouchModel", "stands", "(II)Z"⟩, 39), (⟨"FiveTouchModel", "areThere", "(I)Z"⟩, 39), (⟨"FiveTouchModel", "weightOf", "(I)I"⟩, 39), (⟨"FiveTouchModel", "fall", "(I)I"⟩, 39)]
theorem lw_r5 : ∀ q ∈ lw_privs_5, lw_okq q := List.forall_mem_cons.mpr ⟨lw_p64, List.forall_mem_cons.mpr ⟨lw_p65, List.forall_mem_cons.mpr ⟨lw_p66, List.forall_mem_cons.mpr ⟨lw_p67, List.forall_mem_cons.mpr ⟨lw_p68, List.forall_mem_cons.mpr ⟨lw_p69, List.forall_mem_cons.mpr ⟨lw_p70, List.forall_mem_cons.mpr ⟨lw_p71, List.forall_mem_cons.mpr ⟨lw_p72, List.forall_mem_cons.mpr ⟨lw_p73, List.forall_mem_cons.mpr ⟨lw_p74, List.forall_mem_cons.mpr ⟨lw_p75, List.forall_mem_cons.mpr ⟨lw_p76, List.forall_mem_cons.mpr ⟨lw_p77, List.forall_mem_cons.mpr ⟨lw_p78, List.forall_mem_cons.mpr ⟨lw_p79, fun _ h => absurd h List.not_mem_nil⟩⟩⟩⟩⟩⟩⟩⟩⟩⟩⟩⟩⟩⟩⟩⟩
theorem lw_p80 : lw_okq (⟨"FiveTouchModel", "takesMost", "(Z)V"⟩, 39) := ⟨⟨by decide +kernel, by decide +kernel⟩, lw_t6 (List.mem_of_getElem? (i := 83) rfl), lw_t8 (List.mem_of_getElem? (i := 24) rfl), lw_t8 (List.mem_of_getElem? (i := 25) rfl)⟩
theorem lw_p81 : lw_okq (⟨"FiveTouchModel", "sets", "()V"⟩, 39) := ⟨⟨by decide +kernel, by decide +kernel⟩, lw_t6 (List.mem_of_getElem? (i := 83) rfl), lw_t8 (List.mem_of_getElem? (i := 28) rfl), lw_t8 (List.mem_of_getElem? (i := 29) rfl)⟩
theorem lw_p82 : lw_okq (⟨"FiveTouchModel", "isBetter", "(II)Z"⟩, 39) := ⟨⟨by decide +kernel, by decide +kernel⟩, lw_t6 (List.mem_of_getElem? (i := 83) rfl), lw_t8 (List.mem_of_getElem? (i := 32) rfl), lw_t8 (List.mem_of_getElem? (i := 33) rfl)⟩
theorem lw_p83 : lw_okq (⟨"FiveTouchModel", "told", "(I)I"⟩, 39) := ⟨⟨by decide +kernel, by decide +kernel⟩, lw_t6 (List.mem_of_getElem? (i := 83) rfl), lw_t8 (List.mem_of_getElem? (i := 36) rfl), lw_t8 (List.mem_of_getElem? (i := 37) rfl)⟩
theorem lw_p84 : lw_okq (⟨"FiveTouchModel", "draws", "(I)I"⟩, 39) := ⟨⟨by decide +kernel, by decide +kernel⟩, lw_t6 (List.mem_of_getElem? (i := 83) rfl), lw_t8 (List.mem_of_getElem? (i := 72) rfl), lw_t8 (List.mem_of_getElem? (i := 73) rfl)⟩
def lw_privs_6 : List (MethodName × Nat) := [(⟨"FiveTouchModel", "takesMost", "(Z)V"⟩, 39), (⟨"FiveTouchModel", "sets", "()V"⟩, 39), (⟨"FiveTouchModel", "isBetter", "(II)Z"⟩, 39), (⟨"FiveTouchModel", "told", "(I)I"⟩, 39), (⟨"FiveTouchModel", "draws", "(I)I"⟩, 39)]
theorem lw_r6 : ∀ q ∈ lw_privs_6, lw_okq q := List.forall_mem_cons.mpr ⟨lw_p80, List.forall_mem_cons.mpr ⟨lw_p81, List.forall_mem_cons.mpr ⟨lw_p82, List.forall_mem_cons.mpr ⟨lw_p83, List.forall_mem_cons.mpr ⟨lw_p84, fun _ h => absurd h List.not_mem_nil⟩⟩⟩⟩⟩
def lw_privs : List (MethodName × Nat) := lw_privs_1 ++ (lw_privs_2 ++ (lw_privs_3 ++ (lw_privs_4 ++ (lw_privs_5 ++ (lw_privs_6)))))
def lw_tbl : List Cond := k2_sels lw_privs ++ tables_1
theorem lw_privs_ok : ∀ q ∈ lw_privs, lw_okq q := by
  show ∀ q ∈ lw_privs_1 ++ (lw_privs_2 ++ (lw_privs_3 ++ (lw_privs_4 ++ (lw_privs_5 ++ (lw_privs_6))))), lw_okq q
  exact List.forall_mem_append.mpr ⟨lw_r1, List.forall_mem_append.mpr ⟨lw_r2, List.forall_mem_append.mpr ⟨lw_r3, List.forall_mem_append.mpr ⟨lw_r4, List.forall_mem_append.mpr ⟨lw_r5, lw_r6⟩⟩⟩⟩⟩
-- ===== ONE list of words for every method: the tables' words that hold all through a run =====
def lw_all : List Cond := lw_tbl.filter goodWord
/-- a word of the tables by its place: claim/WORDS.tsv -/
theorem lw_w {w : Cond} (i : Nat) (h : lw_tbl[i]? = some w) (g : goodWord w = true) : w ∈ lw_all := List.mem_filter.mpr ⟨List.mem_of_getElem? h, g⟩
theorem lw_all_tbl {w : Cond} (h : w ∈ lw_all) : w ∈ lw_tbl := (List.mem_filter.mp h).1
theorem lw_self : GoodIn lw_all lw_all := fun w h => ⟨h, good_of_word (List.mem_filter.mp h).2⟩
/-- a class's field words, by their places -/
theorem lw_in (ws : List Cond) (ps : List Nat) (hp : ws = ps.filterMap (fun i => lw_tbl[i]?)) (hg : ws.all goodWord = true) : ∀ w ∈ ws, w ∈ lw_all := by
  intro w h
  have h1 := List.all_eq_true.mp hg w h
  rw [hp] at h
  obtain ⟨i, -, hi⟩ := List.mem_filterMap.mp h
  exact lw_w i hi h1
/-- the words of a contract for the method y with code b, L locals, answer r -/
abbrev ws_ (y : MethodName) (b : ByteArray) (L : Nat) (r : Option FieldType) : List Cond := Cond.code y b L r :: lw_all
theorem lw_meth {y : MethodName} {b : ByteArray} {L : Nat} {r : Option FieldType} (h : Cond.code y b L r ∈ lw_all) : GoodIn lw_all (ws_ y b L r) := by
  intro w hw
  rcases List.mem_cons.mp hw with e | e
  · rw [e]
    exact lw_self _ h
  · exact lw_self _ e
theorem lw_app {a c : List Cond} (ha : ∀ w ∈ a, w ∈ lw_all) (hc : GoodIn lw_all c) : GoodIn lw_all (a ++ c) := by
  intro w hw
  rcases List.mem_append.mp hw with e | e
  · exact lw_self w (ha w e)
  · exact hc w e
/-- what a call through an object asks: cwV n hts (lw_V ..) -/
theorem lw_V {own : String} {idx : Nat} {C : String} {y : MethodName} {b : ByteArray} {L : Nat} {r : Option FieldType} (h1 : Cond.methodLink own idx y ∈ lw_all) (h2 : Cond.instanceMethod y ∈ lw_all) (h3 : Cond.selects C y y ∈ lw_all) (h4 : Cond.initialized C ∈ lw_all) (h5 : Cond.code y b L r ∈ lw_all) : GoodIn lw_all (wsV own idx C y (ws_ y b L r)) := by
  refine lw_app ?_ (lw_meth h5)
  intro w hw
  simp only [List.mem_cons, List.not_mem_nil, or_false] at hw
  rcases hw with e | e | e | e
  · rw [e]; exact h1
  · rw [e]; exact h2
  · rw [e]; exact h3
  · rw [e]; exact h4
/-- what a static call asks: va_cwS n hts (lw_S ..) -/
theorem lw_S {own : String} {idx : Nat} {y : MethodName} {b : ByteArray} {L : Nat} {r : Option FieldType} (h1 : Cond.methodLink own idx y ∈ lw_all) (h2 : Cond.static y ∈ lw_all) (h3 : Cond.initialized y.cls ∈ lw_all) (h4 : Cond.code y b L r ∈ lw_all) : GoodIn lw_all (va_wsS own idx y (ws_ y b L r)) := by
  refine lw_app ?_ (lw_meth h4)
  intro w hw
  simp only [List.mem_cons, List.not_mem_nil, or_false] at hw
  rcases hw with e | e | e
  · rw [e]; exact h1
  · rw [e]; exact h2
  · rw [e]; exact h3
/-- the words of a contract for a method WITH HANDLERS (hh: its table) -/
abbrev wsW_ (y : MethodName) (b : ByteArray) (L : Nat) (r : Option FieldType) (hh : List (Nat × Nat × Nat × Nat)) : List Cond := Cond.codeWith y b L r hh :: lw_all
theorem lw_methW {y : MethodName} {b : ByteArray} {L : Nat} {r : Option FieldType} {hh : List (Nat × Nat × Nat × Nat)} (h : Cond.codeWith y b L r hh ∈ lw_all) : GoodIn lw_all (wsW_ y b L r hh) := by
  intro w hw
  rcases List.mem_cons.mp hw with e | e
  · rw [e]
    exact lw_self _ h
  · exact lw_self _ e
/-- any list of words by their places (lw_in), good -/
theorem lw_good {ws : List Cond} (h : ∀ w ∈ ws, w ∈ lw_all) : GoodIn lw_all ws := fun w hw => lw_self w (h w hw)
/-- what a call of a method with handlers asks: vx_cwVW n hts (lw_VW ..), vx_cwSW n hts (lw_SW ..) -/
theorem lw_VW {own : String} {idx : Nat} {C : String} {y : MethodName} {b : ByteArray} {L : Nat} {r : Option FieldType} {hh : List (Nat × Nat × Nat × Nat)} (h1 : Cond.methodLink own idx y ∈ lw_all) (h2 : Cond.instanceMethod y ∈ lw_all) (h3 : Cond.selects C y y ∈ lw_all) (h4 : Cond.initialized C ∈ lw_all) (h5 : Cond.codeWith y b L r hh ∈ lw_all) : GoodIn lw_all (wsV own idx C y (wsW_ y b L r hh)) := by
  refine lw_app ?_ (lw_methW h5)
  intro w hw
  simp only [List.mem_cons, List.not_mem_nil, or_false] at hw
  rcases hw with e | e | e | e
  · rw [e]; exact h1
  · rw [e]; exact h2
  · rw [e]; exact h3
  · rw [e]; exact h4
theorem lw_SW {own : String} {idx : Nat} {y : MethodName} {b : ByteArray} {L : Nat} {r : Option FieldType} {hh : List (Nat × Nat × Nat × Nat)} (h1 : Cond.methodLink own idx y ∈ lw_all) (h2 : Cond.static y ∈ lw_all) (h3 : Cond.initialized y.cls ∈ lw_all) (h4 : Cond.codeWith y b L r hh ∈ lw_all) : GoodIn lw_all (va_wsS own idx y (wsW_ y b L r hh)) := by
  refine lw_app ?_ (lw_methW h4)
  intro w hw
  simp only [List.mem_cons, List.not_mem_nil, or_false] at hw
  rcases hw with e | e | e
  · rw [e]; exact h1
  · rw [e]; exact h2
  · rw [e]; exact h3
/-- a word by its place in its run of the tables -/
theorem lw_at {r : List Cond} (hr : ∀ w ∈ r, w ∈ lw_tbl) {w : Cond} (i : Nat) (h : r[i]? = some w) : w ∈ lw_tbl := hr w (List.mem_of_getElem? h)
theorem lw_g {w : Cond} (h : w ∈ lw_tbl) (g : goodWord w = true) : w ∈ lw_all := List.mem_filter.mpr ⟨h, g⟩
theorem lw_ms : ∀ w ∈ k2_sels lw_privs, w ∈ lw_tbl := fun w h => show w ∈ k2_sels lw_privs ++ tables_1 from List.mem_append_left _ h
theorem lw_m1 : ∀ w ∈ tables_1_1, w ∈ lw_tbl := fun w h => show w ∈ k2_sels lw_privs ++ tables_1 from List.mem_append_right (k2_sels lw_privs) (show w ∈ tables_1 from List.mem_append_left _ h)
theorem lw_m2 : ∀ w ∈ tables_1_2, w ∈ lw_tbl := fun w h => show w ∈ k2_sels lw_privs ++ tables_1 from List.mem_append_right (k2_sels lw_privs) (show w ∈ tables_1 from List.mem_append_right _ (List.mem_append_left _ h))
theorem lw_m3 : ∀ w ∈ tables_1_3, w ∈ lw_tbl := fun w h => show w ∈ k2_sels lw_privs ++ tables_1 from List.mem_append_right (k2_sels lw_privs) (show w ∈ tables_1 from List.mem_append_right _ (List.mem_append_right _ (List.mem_append_left _ h)))
theorem lw_m4 : ∀ w ∈ tables_1_4, w ∈ lw_tbl := fun w h => show w ∈ k2_sels lw_privs ++ tables_1 from List.mem_append_right (k2_sels lw_privs) (show w ∈ tables_1 from List.mem_append_right _ (List.mem_append_right _ (List.mem_append_right _ (List.mem_append_left _ h))))
theorem lw_m5 : ∀ w ∈ tables_1_5, w ∈ lw_tbl := fun w h => show w ∈ k2_sels lw_privs ++ tables_1 from List.mem_append_right (k2_sels lw_privs) (show w ∈ tables_1 from List.mem_append_right _ (List.mem_append_right _ (List.mem_append_right _ (List.mem_append_right _ (List.mem_append_left _ h)))))
theorem lw_m6 : ∀ w ∈ tables_1_6, w ∈ lw_tbl := fun w h => show w ∈ k2_sels lw_privs ++ tables_1 from List.mem_append_right (k2_sels lw_privs) (show w ∈ tables_1 from List.mem_append_right _ (List.mem_append_right _ (List.mem_append_right _ (List.mem_append_right _ (List.mem_append_right _ (List.mem_append_left _ h))))))
theorem lw_m7 : ∀ w ∈ tables_1_7, w ∈ lw_tbl := fun w h => show w ∈ k2_sels lw_privs ++ tables_1 from List.mem_append_right (k2_sels lw_privs) (show w ∈ tables_1 from List.mem_append_right _ (List.mem_append_right _ (List.mem_append_right _ (List.mem_append_right _ (List.mem_append_right _ (List.mem_append_right _ (List.mem_append_left _ h)))))))
theorem lw_m8 : ∀ w ∈ tables_1_8, w ∈ lw_tbl := fun w h => show w ∈ k2_sels lw_privs ++ tables_1 from List.mem_append_right (k2_sels lw_privs) (show w ∈ tables_1 from List.mem_append_right _ (List.mem_append_right _ (List.mem_append_right _ (List.mem_append_right _ (List.mem_append_right _ (List.mem_append_right _ (List.mem_append_right _ h)))))))
theorem qs0 : (Cond.selects "FiveTouch" ⟨"FiveTouch", "four", "(I)V"⟩ ⟨"FiveTouch", "four", "(I)V"⟩) ∈ lw_all := lw_g (lw_at lw_ms 0 rfl) rfl
theorem qs1 : (Cond.selects "FiveTouch" ⟨"FiveTouch", "tell", "(I)I"⟩ ⟨"FiveTouch", "tell", "(I)I"⟩) ∈ lw_all := lw_g (lw_at lw_ms 1 rfl) rfl
theorem qs2 : (Cond.selects "java/util/ArrayList" ⟨"java/util/ArrayList", "add", "(Ljava/lang/Object;[Ljava/lang/Object;I)V"⟩ ⟨"java/util/ArrayList", "add", "(Ljava/lang/Object;[Ljava/lang/Object;I)V"⟩) ∈ lw_all := lw_g (lw_at lw_ms 2 rfl) rfl
theorem qs3 : (Cond.selects "java/util/ArrayList" ⟨"java/util/ArrayList", "grow", "()[Ljava/lang/Object;"⟩ ⟨"java/util/ArrayList", "grow", "()[Ljava/lang/Object;"⟩) ∈ lw_all := lw_g (lw_at lw_ms 3 rfl) rfl
theorem qs4 : (Cond.selects "java/util/ArrayList" ⟨"java/util/ArrayList", "grow", "(I)[Ljava/lang/Object;"⟩ ⟨"java/util/ArrayList", "grow", "(I)[Ljava/lang/Object;"⟩) ∈ lw_all := lw_g (lw_at lw_ms 4 rfl) rfl
theorem qs5 : (Cond.selects "FiveTouch" ⟨"FiveTouch", "was", "(I)I"⟩ ⟨"FiveTouch", "was", "(I)I"⟩) ∈ lw_all := lw_g (lw_at lw_ms 5 rfl) rfl
theorem qs6 : (Cond.selects "FiveTouch" ⟨"FiveTouch", "isStone", "(I)Z"⟩ ⟨"FiveTouch", "isStone", "(I)Z"⟩) ∈ lw_all := lw_g (lw_at lw_ms 6 rfl) rfl
theorem qs7 : (Cond.selects "java/lang/Throwable" ⟨"java/lang/Throwable", "fillInStackTrace", "(I)Ljava/lang/Throwable;"⟩ ⟨"java/lang/Throwable", "fillInStackTrace", "(I)Ljava/lang/Throwable;"⟩) ∈ lw_all := lw_g (lw_at lw_ms 7 rfl) rfl
theorem qs8 : (Cond.selects "FiveTouch" ⟨"FiveTouch", "add", "(LFiveTouch$Stone;)Z"⟩ ⟨"FiveTouch", "add", "(LFiveTouch$Stone;)Z"⟩) ∈ lw_all := lw_g (lw_at lw_ms 8 rfl) rfl
theorem qs9 : (Cond.selects "FiveTouch$Reader" ⟨"FiveTouch$Reader", "next", "()V"⟩ ⟨"FiveTouch$Reader", "next", "()V"⟩) ∈ lw_all := lw_g (lw_at lw_ms 9 rfl) rfl
theorem qs10 : (Cond.selects "FiveTouch$Reader" ⟨"FiveTouch$Reader", "must", "(Z)V"⟩ ⟨"FiveTouch$Reader", "must", "(Z)V"⟩) ∈ lw_all := lw_g (lw_at lw_ms 10 rfl) rfl
theorem qs11 : (Cond.selects "FiveTouch$Reader" ⟨"FiveTouch$Reader", "clause", "()LFiveTouch$Clause;"⟩ ⟨"FiveTouch$Reader", "clause", "()LFiveTouch$Clause;"⟩) ∈ lw_all := lw_g (lw_at lw_ms 11 rfl) rfl
theorem qs12 : (Cond.selects "FiveTouch$Reader" ⟨"FiveTouch$Reader", "which", "([Ljava/lang/String;)I"⟩ ⟨"FiveTouch$Reader", "which", "([Ljava/lang/String;)I"⟩) ∈ lw_all := lw_g (lw_at lw_ms 12 rfl) rfl
theorem qs13 : (Cond.selects "FiveTouch$Reader" ⟨"FiveTouch$Reader", "isWord", "(Ljava/lang/String;)Z"⟩ ⟨"FiveTouch$Reader", "isWord", "(Ljava/lang/String;)Z"⟩) ∈ lw_all := lw_g (lw_at lw_ms 13 rfl) rfl
theorem qs14 : (Cond.selects "FiveTouch$Reader" ⟨"FiveTouch$Reader", "sum", "()LFiveTouch$Sum;"⟩ ⟨"FiveTouch$Reader", "sum", "()LFiveTouch$Sum;"⟩) ∈ lw_all := lw_g (lw_at lw_ms 14 rfl) rfl
theorem qs15 : (Cond.selects "FiveTouch$Reader" ⟨"FiveTouch$Reader", "term", "()LFiveTouch$Sum;"⟩ ⟨"FiveTouch$Reader", "term", "()LFiveTouch$Sum;"⟩) ∈ lw_all := lw_g (lw_at lw_ms 15 rfl) rfl
theorem qs16 : (Cond.selects "FiveTouch$Reader" ⟨"FiveTouch$Reader", "part", "()LFiveTouch$Sum;"⟩ ⟨"FiveTouch$Reader", "part", "()LFiveTouch$Sum;"⟩) ∈ lw_all := lw_g (lw_at lw_ms 16 rfl) rfl
theorem qs17 : (Cond.selects "FiveTouch$Reader" ⟨"FiveTouch$Reader", "open", "()V"⟩ ⟨"FiveTouch$Reader", "open", "()V"⟩) ∈ lw_all := lw_g (lw_at lw_ms 17 rfl) rfl
theorem qs18 : (Cond.selects "FiveTouch$Reader" ⟨"FiveTouch$Reader", "close", "(Ljava/lang/String;)V"⟩ ⟨"FiveTouch$Reader", "close", "(Ljava/lang/String;)V"⟩) ∈ lw_all := lw_g (lw_at lw_ms 18 rfl) rfl
theorem qs19 : (Cond.selects "FiveTouch$Reader" ⟨"FiveTouch$Reader", "accept", "(Ljava/lang/String;)Z"⟩ ⟨"FiveTouch$Reader", "accept", "(Ljava/lang/String;)Z"⟩) ∈ lw_all := lw_g (lw_at lw_ms 19 rfl) rfl
theorem qs20 : (Cond.selects "FiveTouch$Reader" ⟨"FiveTouch$Reader", "leaf", "()V"⟩ ⟨"FiveTouch$Reader", "leaf", "()V"⟩) ∈ lw_all := lw_g (lw_at lw_ms 20 rfl) rfl
theorem qs21 : (Cond.selects "FiveTouch$Reader" ⟨"FiveTouch$Reader", "number", "(I)I"⟩ ⟨"FiveTouch$Reader", "number", "(I)I"⟩) ∈ lw_all := lw_g (lw_at lw_ms 21 rfl) rfl
theorem qs22 : (Cond.selects "FiveTouch$Reader" ⟨"FiveTouch$Reader", "test", "()LFiveTouch$Test;"⟩ ⟨"FiveTouch$Reader", "test", "()LFiveTouch$Test;"⟩) ∈ lw_all := lw_g (lw_at lw_ms 22 rfl) rfl
theorem qs23 : (Cond.selects "FiveTouch$Reader" ⟨"FiveTouch$Reader", "both", "()LFiveTouch$Test;"⟩ ⟨"FiveTouch$Reader", "both", "()LFiveTouch$Test;"⟩) ∈ lw_all := lw_g (lw_at lw_ms 23 rfl) rfl
theorem qs24 : (Cond.selects "FiveTouch$Reader" ⟨"FiveTouch$Reader", "plain", "()LFiveTouch$Test;"⟩ ⟨"FiveTouch$Reader", "plain", "()LFiveTouch$Test;"⟩) ∈ lw_all := lw_g (lw_at lw_ms 24 rfl) rfl
theorem qs25 : (Cond.selects "FiveTouch$Reader" ⟨"FiveTouch$Reader", "add", "(LFiveTouch$Test;)V"⟩ ⟨"FiveTouch$Reader", "add", "(LFiveTouch$Test;)V"⟩) ∈ lw_all := lw_g (lw_at lw_ms 25 rfl) rfl
theorem qs26 : (Cond.selects "FiveTouch$Reader" ⟨"FiveTouch$Reader", "row", "(ZI)LFiveTouch$Test;"⟩ ⟨"FiveTouch$Reader", "row", "(ZI)LFiveTouch$Test;"⟩) ∈ lw_all := lw_g (lw_at lw_ms 26 rfl) rfl
theorem qs27 : (Cond.selects "FiveTouch$Scene" ⟨"FiveTouch$Scene", "ask", "(ILFiveTouch$Stone;)V"⟩ ⟨"FiveTouch$Scene", "ask", "(ILFiveTouch$Stone;)V"⟩) ∈ lw_all := lw_g (lw_at lw_ms 27 rfl) rfl
theorem qs28 : (Cond.selects "FiveTouch" ⟨"FiveTouch", "areThere", "(I)Z"⟩ ⟨"FiveTouch", "areThere", "(I)Z"⟩) ∈ lw_all := lw_g (lw_at lw_ms 28 rfl) rfl
theorem qs29 : (Cond.selects "FiveTouch" ⟨"FiveTouch", "weight", "(I)I"⟩ ⟨"FiveTouch", "weight", "(I)I"⟩) ∈ lw_all := lw_g (lw_at lw_ms 29 rfl) rfl
theorem qs30 : (Cond.selects "FiveTouch" ⟨"FiveTouch", "isMore", "(II)Z"⟩ ⟨"FiveTouch", "isMore", "(II)Z"⟩) ∈ lw_all := lw_g (lw_at lw_ms 30 rfl) rfl
theorem qs31 : (Cond.selects "FiveTouch" ⟨"FiveTouch", "told", "(LFiveTouch$Search;I)I"⟩ ⟨"FiveTouch", "told", "(LFiveTouch$Search;I)I"⟩) ∈ lw_all := lw_g (lw_at lw_ms 31 rfl) rfl
theorem qs32 : (Cond.selects "FiveTouch$OneByOne" ⟨"FiveTouch$OneByOne", "isComeTo", "(I)Z"⟩ ⟨"FiveTouch$OneByOne", "isComeTo", "(I)Z"⟩) ∈ lw_all := lw_g (lw_at lw_ms 32 rfl) rfl
theorem qs33 : (Cond.selects "FiveTouch" ⟨"FiveTouch", "asFew", "(LFiveTouch$Search;I)I"⟩ ⟨"FiveTouch", "asFew", "(LFiveTouch$Search;I)I"⟩) ∈ lw_all := lw_g (lw_at lw_ms 33 rfl) rfl
theorem qs34 : (Cond.selects "FiveTouch" ⟨"FiveTouch", "winner", "(LFiveTouch$Scene;I)I"⟩ ⟨"FiveTouch", "winner", "(LFiveTouch$Scene;I)I"⟩) ∈ lw_all := lw_g (lw_at lw_ms 34 rfl) rfl
theorem qs35 : (Cond.selects "FiveTouch" ⟨"FiveTouch", "putBack", "(LFiveTouch$Scene;I)I"⟩ ⟨"FiveTouch", "putBack", "(LFiveTouch$Scene;I)I"⟩) ∈ lw_all := lw_g (lw_at lw_ms 35 rfl) rfl
theorem qs36 : (Cond.selects "FiveTouchModel" ⟨"FiveTouchModel", "refuses", "(I)I"⟩ ⟨"FiveTouchModel", "refuses", "(I)I"⟩) ∈ lw_all := lw_g (lw_at lw_ms 36 rfl) rfl
theorem qs37 : (Cond.selects "FiveTouchModel" ⟨"FiveTouchModel", "good", "(I)I"⟩ ⟨"FiveTouchModel", "good", "(I)I"⟩) ∈ lw_all := lw_g (lw_at lw_ms 37 rfl) rfl
theorem qs38 : (Cond.selects "FiveTouchModel" ⟨"FiveTouchModel", "isFree", "(IIII)Z"⟩ ⟨"FiveTouchModel", "isFree", "(IIII)Z"⟩) ∈ lw_all := lw_g (lw_at lw_ms 38 rfl) rfl
theorem qs39 : (Cond.selects "FiveTouchModel" ⟨"FiveTouchModel", "isItem", "(I)Z"⟩ ⟨"FiveTouchModel", "isItem", "(I)Z"⟩) ∈ lw_all := lw_g (lw_at lw_ms 39 rfl) rfl
theorem qs40 : (Cond.selects "FiveTouchModel" ⟨"FiveTouchModel", "isStone", "(I)Z"⟩ ⟨"FiveTouchModel", "isStone", "(I)Z"⟩) ∈ lw_all := lw_g (lw_at lw_ms 40 rfl) rfl
theorem qs41 : (Cond.selects "FiveTouchModel" ⟨"FiveTouchModel", "stones", "()I"⟩ ⟨"FiveTouchModel", "stones", "()I"⟩) ∈ lw_all := lw_g (lw_at lw_ms 41 rfl) rfl
theorem qs42 : (Cond.selects "FiveTouchModel" ⟨"FiveTouchModel", "spares", "()I"⟩ ⟨"FiveTouchModel", "spares", "()I"⟩) ∈ lw_all := lw_g (lw_at lw_ms 42 rfl) rfl
theorem qs43 : (Cond.selects "FiveTouchModel" ⟨"FiveTouchModel", "covers", "(III)Z"⟩ ⟨"FiveTouchModel", "covers", "(III)Z"⟩) ∈ lw_all := lw_g (lw_at lw_ms 43 rfl) rfl
theorem qs44 : (Cond.selects "FiveTouchModel" ⟨"FiveTouchModel", "factOf", "(II)I"⟩ ⟨"FiveTouchModel", "factOf", "(II)I"⟩) ∈ lw_all := lw_g (lw_at lw_ms 44 rfl) rfl
theorem qs45 : (Cond.selects "FiveTouchModel" ⟨"FiveTouchModel", "adds", "(IIIII)I"⟩ ⟨"FiveTouchModel", "adds", "(IIIII)I"⟩) ∈ lw_all := lw_g (lw_at lw_ms 45 rfl) rfl
theorem qs46 : (Cond.selects "FiveTouchModel" ⟨"FiveTouchModel", "lays", "(IIIIII)V"⟩ ⟨"FiveTouchModel", "lays", "(IIIIII)V"⟩) ∈ lw_all := lw_g (lw_at lw_ms 46 rfl) rfl
theorem qs47 : (Cond.selects "FiveTouchModel" ⟨"FiveTouchModel", "reads", "()Z"⟩ ⟨"FiveTouchModel", "reads", "()Z"⟩) ∈ lw_all := lw_g (lw_at lw_ms 47 rfl) rfl
theorem qs48 : (Cond.selects "FiveTouchModel" ⟨"FiveTouchModel", "splits", "(I)V"⟩ ⟨"FiveTouchModel", "splits", "(I)V"⟩) ∈ lw_all := lw_g (lw_at lw_ms 48 rfl) rfl
theorem qs49 : (Cond.selects "FiveTouchModel" ⟨"FiveTouchModel", "wordOf", "(II)I"⟩ ⟨"FiveTouchModel", "wordOf", "(II)I"⟩) ∈ lw_all := lw_g (lw_at lw_ms 49 rfl) rfl
theorem qs50 : (Cond.selects "FiveTouchModel" ⟨"FiveTouchModel", "readClause", "()V"⟩ ⟨"FiveTouchModel", "readClause", "()V"⟩) ∈ lw_all := lw_g (lw_at lw_ms 50 rfl) rfl
theorem qs51 : (Cond.selects "FiveTouchModel" ⟨"FiveTouchModel", "takes0", "(I)Z"⟩ ⟨"FiveTouchModel", "takes0", "(I)Z"⟩) ∈ lw_all := lw_g (lw_at lw_ms 51 rfl) rfl
theorem qs52 : (Cond.selects "FiveTouchModel" ⟨"FiveTouchModel", "fine", "()Z"⟩ ⟨"FiveTouchModel", "fine", "()Z"⟩) ∈ lw_all := lw_g (lw_at lw_ms 52 rfl) rfl
theorem qs53 : (Cond.selects "FiveTouchModel" ⟨"FiveTouchModel", "readSum", "(I)V"⟩ ⟨"FiveTouchModel", "readSum", "(I)V"⟩) ∈ lw_all := lw_g (lw_at lw_ms 53 rfl) rfl
theorem qs54 : (Cond.selects "FiveTouchModel" ⟨"FiveTouchModel", "readTerm", "(I)V"⟩ ⟨"FiveTouchModel", "readTerm", "(I)V"⟩) ∈ lw_all := lw_g (lw_at lw_ms 54 rfl) rfl
theorem qs55 : (Cond.selects "FiveTouchModel" ⟨"FiveTouchModel", "readPart", "(I)V"⟩ ⟨"FiveTouchModel", "readPart", "(I)V"⟩) ∈ lw_all := lw_g (lw_at lw_ms 55 rfl) rfl
theorem qs56 : (Cond.selects "FiveTouchModel" ⟨"FiveTouchModel", "faults", "()V"⟩ ⟨"FiveTouchModel", "faults", "()V"⟩) ∈ lw_all := lw_g (lw_at lw_ms 56 rfl) rfl
theorem qs57 : (Cond.selects "FiveTouchModel" ⟨"FiveTouchModel", "must", "(I)V"⟩ ⟨"FiveTouchModel", "must", "(I)V"⟩) ∈ lw_all := lw_g (lw_at lw_ms 57 rfl) rfl
theorem qs58 : (Cond.selects "FiveTouchModel" ⟨"FiveTouchModel", "leaf", "()V"⟩ ⟨"FiveTouchModel", "leaf", "()V"⟩) ∈ lw_all := lw_g (lw_at lw_ms 58 rfl) rfl
theorem qs59 : (Cond.selects "FiveTouchModel" ⟨"FiveTouchModel", "readTest", "(I)V"⟩ ⟨"FiveTouchModel", "readTest", "(I)V"⟩) ∈ lw_all := lw_g (lw_at lw_ms 59 rfl) rfl
theorem qs60 : (Cond.selects "FiveTouchModel" ⟨"FiveTouchModel", "readBoth", "(I)V"⟩ ⟨"FiveTouchModel", "readBoth", "(I)V"⟩) ∈ lw_all := lw_g (lw_at lw_ms 60 rfl) rfl
theorem qs61 : (Cond.selects "FiveTouchModel" ⟨"FiveTouchModel", "readPlain", "(I)V"⟩ ⟨"FiveTouchModel", "readPlain", "(I)V"⟩) ∈ lw_all := lw_g (lw_at lw_ms 61 rfl) rfl
theorem qs62 : (Cond.selects "FiveTouchModel" ⟨"FiveTouchModel", "looks", "()V"⟩ ⟨"FiveTouchModel", "looks", "()V"⟩) ∈ lw_all := lw_g (lw_at lw_ms 62 rfl) rfl
theorem qs63 : (Cond.selects "FiveTouchModel" ⟨"FiveTouchModel", "asksOf", "(I)V"⟩ ⟨"FiveTouchModel", "asksOf", "(I)V"⟩) ∈ lw_all := lw_g (lw_at lw_ms 63 rfl) rfl
theorem qs64 : (Cond.selects "FiveTouchModel" ⟨"FiveTouchModel", "codeAt", "(I)I"⟩ ⟨"FiveTouchModel", "codeAt", "(I)I"⟩) ∈ lw_all := lw_g (lw_at lw_ms 64 rfl) rfl
theorem qs65 : (Cond.selects "FiveTouchModel" ⟨"FiveTouchModel", "sumOf", "(Z)J"⟩ ⟨"FiveTouchModel", "sumOf", "(Z)J"⟩) ∈ lw_all := lw_g (lw_at lw_ms 65 rfl) rfl
theorem qs66 : (Cond.selects "FiveTouchModel" ⟨"FiveTouchModel", "termOf", "(Z)J"⟩ ⟨"FiveTouchModel", "termOf", "(Z)J"⟩) ∈ lw_all := lw_g (lw_at lw_ms 66 rfl) rfl
theorem qs67 : (Cond.selects "FiveTouchModel" ⟨"FiveTouchModel", "partOf", "(Z)J"⟩ ⟨"FiveTouchModel", "partOf", "(Z)J"⟩) ∈ lw_all := lw_g (lw_at lw_ms 67 rfl) rfl
theorem qs68 : (Cond.selects "FiveTouchModel" ⟨"FiveTouchModel", "passes0", "(I)Z"⟩ ⟨"FiveTouchModel", "passes0", "(I)Z"⟩) ∈ lw_all := lw_g (lw_at lw_ms 68 rfl) rfl
theorem qs69 : (Cond.selects "FiveTouchModel" ⟨"FiveTouchModel", "bounded", "(JZ)J"⟩ ⟨"FiveTouchModel", "bounded", "(JZ)J"⟩) ∈ lw_all := lw_g (lw_at lw_ms 69 rfl) rfl
theorem qs70 : (Cond.selects "FiveTouchModel" ⟨"FiveTouchModel", "testOf", "(Z)Z"⟩ ⟨"FiveTouchModel", "testOf", "(Z)Z"⟩) ∈ lw_all := lw_g (lw_at lw_ms 70 rfl) rfl
theorem qs71 : (Cond.selects "FiveTouchModel" ⟨"FiveTouchModel", "bothOf", "(Z)Z"⟩ ⟨"FiveTouchModel", "bothOf", "(Z)Z"⟩) ∈ lw_all := lw_g (lw_at lw_ms 71 rfl) rfl
theorem qs72 : (Cond.selects "FiveTouchModel" ⟨"FiveTouchModel", "plainOf", "(Z)Z"⟩ ⟨"FiveTouchModel", "plainOf", "(Z)Z"⟩) ∈ lw_all := lw_g (lw_at lw_ms 72 rfl) rfl
theorem qs73 : (Cond.selects "FiveTouchModel" ⟨"FiveTouchModel", "positiveOf", "(Z)Z"⟩ ⟨"FiveTouchModel", "positiveOf", "(Z)Z"⟩) ∈ lw_all := lw_g (lw_at lw_ms 73 rfl) rfl
theorem qs74 : (Cond.selects "FiveTouchModel" ⟨"FiveTouchModel", "touch", "(II)Z"⟩ ⟨"FiveTouchModel", "touch", "(II)Z"⟩) ∈ lw_all := lw_g (lw_at lw_ms 74 rfl) rfl
theorem qs75 : (Cond.selects "FiveTouchModel" ⟨"FiveTouchModel", "loose", "(I)I"⟩ ⟨"FiveTouchModel", "loose", "(I)I"⟩) ∈ lw_all := lw_g (lw_at lw_ms 75 rfl) rfl
theorem qs76 : (Cond.selects "FiveTouchModel" ⟨"FiveTouchModel", "stands", "(II)Z"⟩ ⟨"FiveTouchModel", "stands", "(II)Z"⟩) ∈ lw_all := lw_g (lw_at lw_ms 76 rfl) rfl
theorem qs77 : (Cond.selects "FiveTouchModel" ⟨"FiveTouchModel", "areThere", "(I)Z"⟩ ⟨"FiveTouchModel", "areThere", "(I)Z"⟩) ∈ lw_all := lw_g (lw_at lw_ms 77 rfl) rfl
theorem qs78 : (Cond.selects "FiveTouchModel" ⟨"FiveTouchModel", "weightOf", "(I)I"⟩ ⟨"FiveTouchModel", "weightOf", "(I)I"⟩) ∈ lw_all := lw_g (lw_at lw_ms 78 rfl) rfl
theorem qs79 : (Cond.selects "FiveTouchModel" ⟨"FiveTouchModel", "fall", "(I)I"⟩ ⟨"FiveTouchModel", "fall", "(I)I"⟩) ∈ lw_all := lw_g (lw_at lw_ms 79 rfl) rfl
theorem qs80 : (Cond.selects "FiveTouchModel" ⟨"FiveTouchModel", "takesMost", "(Z)V"⟩ ⟨"FiveTouchModel", "takesMost", "(Z)V"⟩) ∈ lw_all := lw_g (lw_at lw_ms 80 rfl) rfl
theorem qs81 : (Cond.selects "FiveTouchModel" ⟨"FiveTouchModel", "sets", "()V"⟩ ⟨"FiveTouchModel", "sets", "()V"⟩) ∈ lw_all := lw_g (lw_at lw_ms 81 rfl) rfl
theorem qs82 : (Cond.selects "FiveTouchModel" ⟨"FiveTouchModel", "isBetter", "(II)Z"⟩ ⟨"FiveTouchModel", "isBetter", "(II)Z"⟩) ∈ lw_all := lw_g (lw_at lw_ms 82 rfl) rfl
theorem qs83 : (Cond.selects "FiveTouchModel" ⟨"FiveTouchModel", "told", "(I)I"⟩ ⟨"FiveTouchModel", "told", "(I)I"⟩) ∈ lw_all := lw_g (lw_at lw_ms 83 rfl) rfl
theorem qs84 : (Cond.selects "FiveTouchModel" ⟨"FiveTouchModel", "draws", "(I)I"⟩ ⟨"FiveTouchModel", "draws", "(I)I"⟩) ∈ lw_all := lw_g (lw_at lw_ms 84 rfl) rfl
-- ===== end of PART A; then your names; then what follows =====
