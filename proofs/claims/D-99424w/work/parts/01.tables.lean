-- ===== PART A: goes FIRST, ahead of the names: the tables' words, and 'selects' of the private methods out of them =====
/-- a private method of a class that the tables say can be made, by its rows of tables_1 -/
def lw_okq (q : MethodName × Nat) : Prop := (q.1.cls ≠ "java/lang/invoke/MethodHandle" ∧ q.1.cls ≠ "java/lang/invoke/VarHandle") ∧ Cond.instantiable q.1.cls q.2 ∈ tables_1 ∧ Cond.privateMethod q.1 ∈ tables_1 ∧ Cond.instanceMethod q.1 ∈ tables_1
set_option maxRecDepth 100000
theorem lw_t1 {w : Cond} (h : w ∈ tables_1_1) : w ∈ tables_1 := List.mem_append_left _ h
theorem lw_t2 {w : Cond} (h : w ∈ tables_1_2) : w ∈ tables_1 := List.mem_append_right _ (List.mem_append_left _ h)
theorem lw_t3 {w : Cond} (h : w ∈ tables_1_3) : w ∈ tables_1 := List.mem_append_right _ (List.mem_append_right _ (List.mem_append_left _ h))
theorem lw_t4 {w : Cond} (h : w ∈ tables_1_4) : w ∈ tables_1 := List.mem_append_right _ (List.mem_append_right _ (List.mem_append_right _ (List.mem_append_left _ h)))
theorem lw_t5 {w : Cond} (h : w ∈ tables_1_5) : w ∈ tables_1 := List.mem_append_right _ (List.mem_append_right _ (List.mem_append_right _ (List.mem_append_right _ (List.mem_append_left _ h))))
theorem lw_t6 {w : Cond} (h : w ∈ tables_1_6) : w ∈ tables_1 := List.mem_append_right _ (List.mem_append_right _ (List.mem_append_right _ (List.mem_append_right _ (List.mem_append_right _ (List.mem_append_left _ h)))))
theorem lw_t7 {w : Cond} (h : w ∈ tables_1_7) : w ∈ tables_1 := List.mem_append_right _ (List.mem_append_right _ (List.mem_append_right _ (List.mem_append_right _ (List.mem_append_right _ (List.mem_append_right _ (List.mem_append_left _ h))))))
theorem lw_t8 {w : Cond} (h : w ∈ tables_1_8) : w ∈ tables_1 := List.mem_append_right _ (List.mem_append_right _ (List.mem_append_right _ (List.mem_append_right _ (List.mem_append_right _ (List.mem_append_right _ (List.mem_append_right _ (List.mem_append_left _ h)))))))
theorem lw_t9 {w : Cond} (h : w ∈ tables_1_9) : w ∈ tables_1 := List.mem_append_right _ (List.mem_append_right _ (List.mem_append_right _ (List.mem_append_right _ (List.mem_append_right _ (List.mem_append_right _ (List.mem_append_right _ (List.mem_append_right _ h)))))))
theorem lw_p0 : lw_okq (⟨"LuckCrates", "refuse", "(I)I"⟩, 15) := ⟨⟨by decide +kernel, by decide +kernel⟩, lw_t1 (List.mem_of_getElem? (i := 36) rfl), lw_t1 (List.mem_of_getElem? (i := 231) rfl), lw_t1 (List.mem_of_getElem? (i := 232) rfl)⟩
theorem lw_p1 : lw_okq (⟨"LuckCrates", "keep", "()V"⟩, 15) := ⟨⟨by decide +kernel, by decide +kernel⟩, lw_t1 (List.mem_of_getElem? (i := 36) rfl), lw_t1 (List.mem_of_getElem? (i := 235) rfl), lw_t1 (List.mem_of_getElem? (i := 236) rfl)⟩
theorem lw_p2 : lw_okq (⟨"java/util/ArrayList", "add", "(Ljava/lang/Object;[Ljava/lang/Object;I)V"⟩, 3) := ⟨⟨by decide +kernel, by decide +kernel⟩, lw_t1 (List.mem_of_getElem? (i := 50) rfl), lw_t2 (List.mem_of_getElem? (i := 19) rfl), lw_t2 (List.mem_of_getElem? (i := 20) rfl)⟩
theorem lw_p3 : lw_okq (⟨"java/util/ArrayList", "grow", "()[Ljava/lang/Object;"⟩, 3) := ⟨⟨by decide +kernel, by decide +kernel⟩, lw_t1 (List.mem_of_getElem? (i := 50) rfl), lw_t2 (List.mem_of_getElem? (i := 23) rfl), lw_t2 (List.mem_of_getElem? (i := 24) rfl)⟩
theorem lw_p4 : lw_okq (⟨"java/util/ArrayList", "grow", "(I)[Ljava/lang/Object;"⟩, 3) := ⟨⟨by decide +kernel, by decide +kernel⟩, lw_t1 (List.mem_of_getElem? (i := 50) rfl), lw_t2 (List.mem_of_getElem? (i := 27) rfl), lw_t2 (List.mem_of_getElem? (i := 28) rfl)⟩
theorem lw_p5 : lw_okq (⟨"java/util/ArrayList", "fastRemove", "([Ljava/lang/Object;I)V"⟩, 3) := ⟨⟨by decide +kernel, by decide +kernel⟩, lw_t1 (List.mem_of_getElem? (i := 50) rfl), lw_t2 (List.mem_of_getElem? (i := 102) rfl), lw_t2 (List.mem_of_getElem? (i := 103) rfl)⟩
theorem lw_p6 : lw_okq (⟨"LuckCrates$Coast", "ship", "(I)V"⟩, 12) := ⟨⟨by decide +kernel, by decide +kernel⟩, lw_t1 (List.mem_of_getElem? (i := 104) rfl), lw_t2 (List.mem_of_getElem? (i := 119) rfl), lw_t2 (List.mem_of_getElem? (i := 120) rfl)⟩
theorem lw_p7 : lw_okq (⟨"LuckCrates", "draw", "(I)I"⟩, 15) := ⟨⟨by decide +kernel, by decide +kernel⟩, lw_t1 (List.mem_of_getElem? (i := 36) rfl), lw_t2 (List.mem_of_getElem? (i := 153) rfl), lw_t2 (List.mem_of_getElem? (i := 154) rfl)⟩
theorem lw_p8 : lw_okq (⟨"LuckCrates$Coast", "fares", "(IZ)V"⟩, 12) := ⟨⟨by decide +kernel, by decide +kernel⟩, lw_t1 (List.mem_of_getElem? (i := 104) rfl), lw_t3 (List.mem_of_getElem? (i := 3) rfl), lw_t3 (List.mem_of_getElem? (i := 4) rfl)⟩
theorem lw_p9 : lw_okq (⟨"LuckCrates", "wonIn", "(LLuckCrates$Coast;I)I"⟩, 15) := ⟨⟨by decide +kernel, by decide +kernel⟩, lw_t1 (List.mem_of_getElem? (i := 36) rfl), lw_t3 (List.mem_of_getElem? (i := 38) rfl), lw_t3 (List.mem_of_getElem? (i := 39) rfl)⟩
theorem lw_p10 : lw_okq (⟨"java/lang/Throwable", "fillInStackTrace", "(I)Ljava/lang/Throwable;"⟩, 6) := ⟨⟨by decide +kernel, by decide +kernel⟩, lw_t3 (List.mem_of_getElem? (i := 154) rfl), lw_t3 (List.mem_of_getElem? (i := 152) rfl), lw_t3 (List.mem_of_getElem? (i := 153) rfl)⟩
theorem lw_p11 : lw_okq (⟨"LuckCrates$Reader", "next", "()V"⟩, 10) := ⟨⟨by decide +kernel, by decide +kernel⟩, lw_t3 (List.mem_of_getElem? (i := 180) rfl), lw_t3 (List.mem_of_getElem? (i := 235) rfl), lw_t3 (List.mem_of_getElem? (i := 236) rfl)⟩
theorem lw_p12 : lw_okq (⟨"LuckCrates$Reader", "here", "()I"⟩, 10) := ⟨⟨by decide +kernel, by decide +kernel⟩, lw_t3 (List.mem_of_getElem? (i := 180) rfl), lw_t3 (List.mem_of_getElem? (i := 239) rfl), lw_t4 (List.mem_of_getElem? (i := 0) rfl)⟩
theorem lw_p13 : lw_okq (⟨"LuckCrates$Reader", "isLetter", "()Z"⟩, 10) := ⟨⟨by decide +kernel, by decide +kernel⟩, lw_t3 (List.mem_of_getElem? (i := 180) rfl), lw_t4 (List.mem_of_getElem? (i := 3) rfl), lw_t4 (List.mem_of_getElem? (i := 4) rfl)⟩
theorem lw_p14 : lw_okq (⟨"LuckCrates$Reader", "isDigit", "()Z"⟩, 10) := ⟨⟨by decide +kernel, by decide +kernel⟩, lw_t3 (List.mem_of_getElem? (i := 180) rfl), lw_t4 (List.mem_of_getElem? (i := 8) rfl), lw_t4 (List.mem_of_getElem? (i := 9) rfl)⟩
theorem lw_p15 : lw_okq (⟨"LuckCrates$Reader", "line", "()V"⟩, 10) := ⟨⟨by decide +kernel, by decide +kernel⟩, lw_t3 (List.mem_of_getElem? (i := 180) rfl), lw_t4 (List.mem_of_getElem? (i := 84) rfl), lw_t4 (List.mem_of_getElem? (i := 85) rfl)⟩
def lw_privs_1 : List (MethodName × Nat) := [(⟨"LuckCrates", "refuse", "(I)I"⟩, 15), (⟨"LuckCrates", "keep", "()V"⟩, 15), (⟨"java/util/ArrayList", "add", "(Ljava/lang/Object;[Ljava/lang/Object;I)V"⟩, 3), (⟨"java/util/ArrayList", "grow", "()[Ljava/lang/Object;"⟩, 3), (⟨"java/util/ArrayList", "grow", "(I)[Ljava/lang/Object;"⟩, 3), (⟨"java/util/ArrayList", "fastRemove", "([Ljava/lang/Object;I)V"⟩, 3), (⟨"LuckCrates$Coast", "ship", "(I)V"⟩, 12), (⟨"LuckCrates", "draw", "(I)I"⟩, 15), (⟨"LuckCrates$Coast", "fares", "(IZ)V"⟩, 12), (⟨"LuckCrates", "wonIn", "(LLuckCrates$Coast;I)I"⟩, 15), (⟨"java/lang/Throwable", "fillInStackTrace", "(I)Ljava/lang/Throwable;"⟩, 6), (⟨"LuckCrates$Reader", "next", "()V"⟩, 10), (⟨"LuckCrates$Reader", "here", "()I"⟩, 10), (⟨"LuckCrates$Reader", "isLetter", "()Z"⟩, 10), (⟨"LuckCrates$Reader", "isDigit", "()Z"⟩, 10), (⟨"LuckCrates$Reader", "line", "()V"⟩, 10)]
theorem lw_r1 : ∀ q ∈ lw_privs_1, lw_okq q := List.forall_mem_cons.mpr ⟨lw_p0, List.forall_mem_cons.mpr ⟨lw_p1, List.forall_mem_cons.mpr ⟨lw_p2, List.forall_mem_cons.mpr ⟨lw_p3, List.forall_mem_cons.mpr ⟨lw_p4, List.forall_mem_cons.mpr ⟨lw_p5, List.forall_mem_cons.mpr ⟨lw_p6, List.forall_mem_cons.mpr ⟨lw_p7, List.forall_mem_cons.mpr ⟨lw_p8, List.forall_mem_cons.mpr ⟨lw_p9, List.forall_mem_cons.mpr ⟨lw_p10, List.forall_mem_cons.mpr ⟨lw_p11, List.forall_mem_cons.mpr ⟨lw_p12, List.forall_mem_cons.mpr ⟨lw_p13, List.forall_mem_cons.mpr ⟨lw_p14, List.forall_mem_cons.mpr ⟨lw_p15, fun _ h => absurd h List.not_mem_nil⟩⟩⟩⟩⟩⟩⟩⟩⟩⟩⟩⟩⟩⟩⟩⟩
theorem lw_p16 : lw_okq (⟨"LuckCrates$Reader", "is", "(Ljava/lang/String;)Z"⟩, 10) := ⟨⟨by decide +kernel, by decide +kernel⟩, lw_t3 (List.mem_of_getElem? (i := 180) rfl), lw_t4 (List.mem_of_getElem? (i := 89) rfl), lw_t4 (List.mem_of_getElem? (i := 90) rfl)⟩
theorem lw_p17 : lw_okq (⟨"LuckCrates$Reader", "town", "()V"⟩, 10) := ⟨⟨by decide +kernel, by decide +kernel⟩, lw_t3 (List.mem_of_getElem? (i := 180) rfl), lw_t4 (List.mem_of_getElem? (i := 109) rfl), lw_t4 (List.mem_of_getElem? (i := 110) rfl)⟩
theorem lw_p18 : lw_okq (⟨"LuckCrates$Reader", "want", "(ZI)V"⟩, 10) := ⟨⟨by decide +kernel, by decide +kernel⟩, lw_t3 (List.mem_of_getElem? (i := 180) rfl), lw_t4 (List.mem_of_getElem? (i := 114) rfl), lw_t4 (List.mem_of_getElem? (i := 115) rfl)⟩
theorem lw_p19 : lw_okq (⟨"LuckCrates$Reader", "number", "(II)I"⟩, 10) := ⟨⟨by decide +kernel, by decide +kernel⟩, lw_t3 (List.mem_of_getElem? (i := 180) rfl), lw_t4 (List.mem_of_getElem? (i := 142) rfl), lw_t4 (List.mem_of_getElem? (i := 143) rfl)⟩
theorem lw_p20 : lw_okq (⟨"LuckCrates$Reader", "numberNow", "(II)I"⟩, 10) := ⟨⟨by decide +kernel, by decide +kernel⟩, lw_t3 (List.mem_of_getElem? (i := 180) rfl), lw_t4 (List.mem_of_getElem? (i := 146) rfl), lw_t4 (List.mem_of_getElem? (i := 147) rfl)⟩
theorem lw_p21 : lw_okq (⟨"LuckCrates$Reader", "way", "()V"⟩, 10) := ⟨⟨by decide +kernel, by decide +kernel⟩, lw_t3 (List.mem_of_getElem? (i := 180) rfl), lw_t4 (List.mem_of_getElem? (i := 173) rfl), lw_t4 (List.mem_of_getElem? (i := 174) rfl)⟩
theorem lw_p22 : lw_okq (⟨"LuckCrates$Reader", "townNow", "()I"⟩, 10) := ⟨⟨by decide +kernel, by decide +kernel⟩, lw_t3 (List.mem_of_getElem? (i := 180) rfl), lw_t4 (List.mem_of_getElem? (i := 179) rfl), lw_t4 (List.mem_of_getElem? (i := 180) rfl)⟩
theorem lw_p23 : lw_okq (⟨"LuckCrates$Reader", "crate", "(Z)V"⟩, 10) := ⟨⟨by decide +kernel, by decide +kernel⟩, lw_t3 (List.mem_of_getElem? (i := 180) rfl), lw_t4 (List.mem_of_getElem? (i := 220) rfl), lw_t4 (List.mem_of_getElem? (i := 221) rfl)⟩
theorem lw_p24 : lw_okq (⟨"LuckCrates$Reader", "passes", "(Ljava/lang/String;)Z"⟩, 10) := ⟨⟨by decide +kernel, by decide +kernel⟩, lw_t3 (List.mem_of_getElem? (i := 180) rfl), lw_t4 (List.mem_of_getElem? (i := 225) rfl), lw_t4 (List.mem_of_getElem? (i := 226) rfl)⟩
theorem lw_p25 : lw_okq (⟨"LuckCrates$Reader", "expression", "(I)LLuckCrates$Form;"⟩, 10) := ⟨⟨by decide +kernel, by decide +kernel⟩, lw_t3 (List.mem_of_getElem? (i := 180) rfl), lw_t4 (List.mem_of_getElem? (i := 230) rfl), lw_t4 (List.mem_of_getElem? (i := 231) rfl)⟩
theorem lw_p26 : lw_okq (⟨"LuckCrates$Reader", "isSign", "(C)Z"⟩, 10) := ⟨⟨by decide +kernel, by decide +kernel⟩, lw_t3 (List.mem_of_getElem? (i := 180) rfl), lw_t4 (List.mem_of_getElem? (i := 234) rfl), lw_t4 (List.mem_of_getElem? (i := 235) rfl)⟩
theorem lw_p27 : lw_okq (⟨"LuckCrates$Reader", "and", "(I)LLuckCrates$Form;"⟩, 10) := ⟨⟨by decide +kernel, by decide +kernel⟩, lw_t3 (List.mem_of_getElem? (i := 180) rfl), lw_t5 (List.mem_of_getElem? (i := 0) rfl), lw_t5 (List.mem_of_getElem? (i := 1) rfl)⟩
theorem lw_p28 : lw_okq (⟨"LuckCrates$Reader", "not", "(I)LLuckCrates$Form;"⟩, 10) := ⟨⟨by decide +kernel, by decide +kernel⟩, lw_t3 (List.mem_of_getElem? (i := 180) rfl), lw_t5 (List.mem_of_getElem? (i := 4) rfl), lw_t5 (List.mem_of_getElem? (i := 5) rfl)⟩
theorem lw_p29 : lw_okq (⟨"LuckCrates$Reader", "sum", "(I)LLuckCrates$Form;"⟩, 10) := ⟨⟨by decide +kernel, by decide +kernel⟩, lw_t3 (List.mem_of_getElem? (i := 180) rfl), lw_t5 (List.mem_of_getElem? (i := 9) rfl), lw_t5 (List.mem_of_getElem? (i := 10) rfl)⟩
theorem lw_p30 : lw_okq (⟨"LuckCrates$Reader", "product", "(I)LLuckCrates$Form;"⟩, 10) := ⟨⟨by decide +kernel, by decide +kernel⟩, lw_t3 (List.mem_of_getElem? (i := 180) rfl), lw_t5 (List.mem_of_getElem? (i := 13) rfl), lw_t5 (List.mem_of_getElem? (i := 14) rfl)⟩
theorem lw_p31 : lw_okq (⟨"LuckCrates$Reader", "part", "(I)LLuckCrates$Form;"⟩, 10) := ⟨⟨by decide +kernel, by decide +kernel⟩, lw_t3 (List.mem_of_getElem? (i := 180) rfl), lw_t5 (List.mem_of_getElem? (i := 17) rfl), lw_t5 (List.mem_of_getElem? (i := 18) rfl)⟩
def lw_privs_2 : List (MethodName × Nat) := [(⟨"LuckCrates$Reader", "is", "(Ljava/lang/String;)Z"⟩, 10), (⟨"LuckCrates$Reader", "town", "()V"⟩, 10), (⟨"LuckCrates$Reader", "want", "(ZI)V"⟩, 10), (⟨"LuckCrates$Reader", "number", "(II)I"⟩, 10), (⟨"LuckCrates$Reader", "numberNow", "(II)I"⟩, 10), (⟨"LuckCrates$Reader", "way", "()V"⟩, 10), (⟨"LuckCrates$Reader", "townNow", "()I"⟩, 10), (⟨"LuckCrates$Reader", "crate", "(Z)V"⟩, 10), (⟨"LuckCrates$Reader", "passes", "(Ljava/lang/String;)Z"⟩, 10), (⟨"LuckCrates$Reader", "expression", "(I)LLuckCrates$Form;"⟩, 10), (⟨"LuckCrates$Reader", "isSign", "(C)Z"⟩, 10), (⟨"LuckCrates$Reader", "and", "(I)LLuckCrates$Form;"⟩, 10), (⟨"LuckCrates$Reader", "not", "(I)LLuckCrates$Form;"⟩, 10), (⟨"LuckCrates$Reader", "sum", "(I)LLuckCrates$Form;"⟩, 10), (⟨"LuckCrates$Reader", "product", "(I)LLuckCrates$Form;"⟩, 10), (⟨"LuckCrates$Reader", "part", "(I)LLuckCrates$Form;"⟩, 10)]
theorem lw_r2 : ∀ q ∈ lw_privs_2, lw_okq q := List.forall_mem_cons.mpr ⟨lw_p16, List.forall_mem_cons.mpr ⟨lw_p17, List.forall_mem_cons.mpr ⟨lw_p18, List.forall_mem_cons.mpr ⟨lw_p19, List.forall_mem_cons.mpr ⟨lw_p20, List.forall_mem_cons.mpr ⟨lw_p21, List.forall_mem_cons.mpr ⟨lw_p22, List.forall_mem_cons.mpr ⟨lw_p23, List.forall_mem_cons.mpr ⟨lw_p24, List.forall_mem_cons.mpr ⟨lw_p25, List.forall_mem_cons.mpr ⟨lw_p26, List.forall_mem_cons.mpr ⟨lw_p27, List.forall_mem_cons.mpr ⟨lw_p28, List.forall_mem_cons.mpr ⟨lw_p29, List.forall_mem_cons.mpr ⟨lw_p30, List.forall_mem_cons.mpr ⟨lw_p31, fun _ h => absurd h List.not_mem_nil⟩⟩⟩⟩⟩⟩⟩⟩⟩⟩⟩⟩⟩⟩⟩⟩
theorem lw_p32 : lw_okq (⟨"LuckCrates$Reader", "which", "([Ljava/lang/String;)I"⟩, 10) := ⟨⟨by decide +kernel, by decide +kernel⟩, lw_t3 (List.mem_of_getElem? (i := 180) rfl), lw_t5 (List.mem_of_getElem? (i := 31) rfl), lw_t5 (List.mem_of_getElem? (i := 32) rfl)⟩
theorem lw_p33 : lw_okq (⟨"LuckCrates$Reader", "sign", "()C"⟩, 10) := ⟨⟨by decide +kernel, by decide +kernel⟩, lw_t3 (List.mem_of_getElem? (i := 180) rfl), lw_t5 (List.mem_of_getElem? (i := 88) rfl), lw_t5 (List.mem_of_getElem? (i := 89) rfl)⟩
theorem lw_p34 : lw_okq (⟨"LuckCrates", "aTown", "(I)V"⟩, 15) := ⟨⟨by decide +kernel, by decide +kernel⟩, lw_t1 (List.mem_of_getElem? (i := 36) rfl), lw_t5 (List.mem_of_getElem? (i := 206) rfl), lw_t5 (List.mem_of_getElem? (i := 207) rfl)⟩
theorem lw_p35 : lw_okq (⟨"LuckCrates", "aCrate", "(I)V"⟩, 15) := ⟨⟨by decide +kernel, by decide +kernel⟩, lw_t1 (List.mem_of_getElem? (i := 36) rfl), lw_t5 (List.mem_of_getElem? (i := 222) rfl), lw_t5 (List.mem_of_getElem? (i := 223) rfl)⟩
theorem lw_p36 : lw_okq (⟨"LuckCrates", "harms", "(I)[[I"⟩, 15) := ⟨⟨by decide +kernel, by decide +kernel⟩, lw_t1 (List.mem_of_getElem? (i := 36) rfl), lw_t6 (List.mem_of_getElem? (i := 87) rfl), lw_t6 (List.mem_of_getElem? (i := 88) rfl)⟩
theorem lw_p37 : lw_okq (⟨"LuckCrates", "harm", "(II)I"⟩, 15) := ⟨⟨by decide +kernel, by decide +kernel⟩, lw_t1 (List.mem_of_getElem? (i := 36) rfl), lw_t6 (List.mem_of_getElem? (i := 93) rfl), lw_t6 (List.mem_of_getElem? (i := 94) rfl)⟩
theorem lw_p38 : lw_okq (⟨"LuckCrates", "isSoBy", "(II)Z"⟩, 15) := ⟨⟨by decide +kernel, by decide +kernel⟩, lw_t1 (List.mem_of_getElem? (i := 36) rfl), lw_t6 (List.mem_of_getElem? (i := 137) rfl), lw_t6 (List.mem_of_getElem? (i := 138) rfl)⟩
theorem lw_p39 : lw_okq (⟨"LuckCrates", "openings", "()Ljava/util/List;"⟩, 15) := ⟨⟨by decide +kernel, by decide +kernel⟩, lw_t1 (List.mem_of_getElem? (i := 36) rfl), lw_t6 (List.mem_of_getElem? (i := 143) rfl), lw_t6 (List.mem_of_getElem? (i := 144) rfl)⟩
theorem lw_p40 : lw_okq (⟨"LuckCrates", "gains", "(IIII)[I"⟩, 15) := ⟨⟨by decide +kernel, by decide +kernel⟩, lw_t1 (List.mem_of_getElem? (i := 36) rfl), lw_t6 (List.mem_of_getElem? (i := 172) rfl), lw_t6 (List.mem_of_getElem? (i := 173) rfl)⟩
theorem lw_p41 : lw_okq (⟨"LuckCrates", "grains", "(II)I"⟩, 15) := ⟨⟨by decide +kernel, by decide +kernel⟩, lw_t1 (List.mem_of_getElem? (i := 36) rfl), lw_t6 (List.mem_of_getElem? (i := 191) rfl), lw_t6 (List.mem_of_getElem? (i := 192) rfl)⟩
theorem lw_p42 : lw_okq (⟨"LuckCrates", "hasBallast", "(I)Z"⟩, 15) := ⟨⟨by decide +kernel, by decide +kernel⟩, lw_t1 (List.mem_of_getElem? (i := 36) rfl), lw_t6 (List.mem_of_getElem? (i := 195) rfl), lw_t6 (List.mem_of_getElem? (i := 196) rfl)⟩
theorem lw_p43 : lw_okq (⟨"LuckCrates", "nextOf", "(I[I)I"⟩, 15) := ⟨⟨by decide +kernel, by decide +kernel⟩, lw_t1 (List.mem_of_getElem? (i := 36) rfl), lw_t6 (List.mem_of_getElem? (i := 209) rfl), lw_t6 (List.mem_of_getElem? (i := 210) rfl)⟩
theorem lw_p44 : lw_okq (⟨"LuckCrates", "unlevel", "(II)I"⟩, 15) := ⟨⟨by decide +kernel, by decide +kernel⟩, lw_t1 (List.mem_of_getElem? (i := 36) rfl), lw_t7 (List.mem_of_getElem? (i := 2) rfl), lw_t7 (List.mem_of_getElem? (i := 3) rfl)⟩
theorem lw_p45 : lw_okq (⟨"LuckCratesModel", "lays", "(I)V"⟩, 63) := ⟨⟨by decide +kernel, by decide +kernel⟩, lw_t7 (List.mem_of_getElem? (i := 13) rfl), lw_t7 (List.mem_of_getElem? (i := 218) rfl), lw_t7 (List.mem_of_getElem? (i := 219) rfl)⟩
theorem lw_p46 : lw_okq (⟨"LuckCratesModel", "right", "(ZI)Z"⟩, 63) := ⟨⟨by decide +kernel, by decide +kernel⟩, lw_t7 (List.mem_of_getElem? (i := 13) rfl), lw_t7 (List.mem_of_getElem? (i := 226) rfl), lw_t7 (List.mem_of_getElem? (i := 227) rfl)⟩
theorem lw_p47 : lw_okq (⟨"LuckCratesModel", "goes", "()V"⟩, 63) := ⟨⟨by decide +kernel, by decide +kernel⟩, lw_t7 (List.mem_of_getElem? (i := 13) rfl), lw_t7 (List.mem_of_getElem? (i := 230) rfl), lw_t7 (List.mem_of_getElem? (i := 231) rfl)⟩
def lw_privs_3 : List (MethodName × Nat) := [(⟨"LuckCrates$Reader", "which", "([Ljava/lang/String;)I"⟩, 10), (⟨"LuckCrates$Reader", "sign", "()C"⟩, 10), (⟨"LuckCrates", "aTown", "(I)V"⟩, 15), (⟨"LuckCrates", "aCrate", "(I)V"⟩, 15), (⟨"LuckCrates", "harms", "(I)[[I"⟩, 15), (⟨"LuckCrates", "harm", "(II)I"⟩, 15), (⟨"LuckCrates", "isSoBy", "(II)Z"⟩, 15), (⟨"LuckCrates", "openings", "()Ljava/util/List;"⟩, 15), (⟨"LuckCrates", "gains", "(IIII)[I"⟩, 15), (⟨"LuckCrates", "grains", "(II)I"⟩, 15), (⟨"LuckCrates", "hasBallast", "(I)Z"⟩, 15), (⟨"LuckCrates", "nextOf", "(I[I)I"⟩, 15), (⟨"LuckCrates", "unlevel", "(II)I"⟩, 15), (⟨"LuckCratesModel", "lays", "(I)V"⟩, 63), (⟨"LuckCratesModel", "right", "(ZI)Z"⟩, 63), (⟨"LuckCratesModel", "goes", "()V"⟩, 63)]
theorem lw_r3 : ∀ q ∈ lw_privs_3, lw_okq q := List.forall_mem_cons.mpr ⟨lw_p32, List.forall_mem_cons.mpr ⟨lw_p33, List.forall_mem_cons.mpr ⟨lw_p34, List.forall_mem_cons.mpr ⟨lw_p35, List.forall_mem_cons.mpr ⟨lw_p36, List.forall_mem_cons.mpr ⟨lw_p37, List.forall_mem_cons.mpr ⟨lw_p38, List.forall_mem_cons.mpr ⟨lw_p39, List.forall_mem_cons.mpr ⟨lw_p40, List.forall_mem_cons.mpr ⟨lw_p41, List.forall_mem_cons.mpr ⟨lw_p42, List.forall_mem_cons.mpr ⟨lw_p43, List.forall_mem_cons.mpr ⟨lw_p44, List.forall_mem_cons.mpr ⟨lw_p45, List.forall_mem_cons.mpr ⟨lw_p46, List.forall_mem_cons.mpr ⟨lw_p47, fun _ h => absurd h List.not_mem_nil⟩⟩⟩⟩⟩⟩⟩⟩⟩⟩⟩⟩⟩⟩⟩⟩
theorem lw_p48 : lw_okq (⟨"LuckCratesModel", "byteAt", "(I)I"⟩, 63) := ⟨⟨by decide +kernel, by decide +kernel⟩, lw_t7 (List.mem_of_getElem? (i := 13) rfl), lw_t7 (List.mem_of_getElem? (i := 234) rfl), lw_t7 (List.mem_of_getElem? (i := 235) rfl)⟩
theorem lw_p49 : lw_okq (⟨"LuckCratesModel", "isGood", "()Z"⟩, 63) := ⟨⟨by decide +kernel, by decide +kernel⟩, lw_t7 (List.mem_of_getElem? (i := 13) rfl), lw_t8 (List.mem_of_getElem? (i := 4) rfl), lw_t8 (List.mem_of_getElem? (i := 5) rfl)⟩
theorem lw_p50 : lw_okq (⟨"LuckCratesModel", "line", "()V"⟩, 63) := ⟨⟨by decide +kernel, by decide +kernel⟩, lw_t7 (List.mem_of_getElem? (i := 13) rfl), lw_t8 (List.mem_of_getElem? (i := 8) rfl), lw_t8 (List.mem_of_getElem? (i := 9) rfl)⟩
theorem lw_p51 : lw_okq (⟨"LuckCratesModel", "knownWord", "()I"⟩, 63) := ⟨⟨by decide +kernel, by decide +kernel⟩, lw_t7 (List.mem_of_getElem? (i := 13) rfl), lw_t8 (List.mem_of_getElem? (i := 12) rfl), lw_t8 (List.mem_of_getElem? (i := 13) rfl)⟩
theorem lw_p52 : lw_okq (⟨"LuckCratesModel", "readsTown", "()V"⟩, 63) := ⟨⟨by decide +kernel, by decide +kernel⟩, lw_t7 (List.mem_of_getElem? (i := 13) rfl), lw_t8 (List.mem_of_getElem? (i := 23) rfl), lw_t8 (List.mem_of_getElem? (i := 24) rfl)⟩
theorem lw_p53 : lw_okq (⟨"LuckCratesModel", "wrong", "(I)V"⟩, 63) := ⟨⟨by decide +kernel, by decide +kernel⟩, lw_t7 (List.mem_of_getElem? (i := 13) rfl), lw_t8 (List.mem_of_getElem? (i := 27) rfl), lw_t8 (List.mem_of_getElem? (i := 28) rfl)⟩
theorem lw_p54 : lw_okq (⟨"LuckCratesModel", "number", "(II)I"⟩, 63) := ⟨⟨by decide +kernel, by decide +kernel⟩, lw_t7 (List.mem_of_getElem? (i := 13) rfl), lw_t8 (List.mem_of_getElem? (i := 31) rfl), lw_t8 (List.mem_of_getElem? (i := 32) rfl)⟩
theorem lw_p55 : lw_okq (⟨"LuckCratesModel", "readsWay", "()V"⟩, 63) := ⟨⟨by decide +kernel, by decide +kernel⟩, lw_t7 (List.mem_of_getElem? (i := 13) rfl), lw_t8 (List.mem_of_getElem? (i := 35) rfl), lw_t8 (List.mem_of_getElem? (i := 36) rfl)⟩
theorem lw_p56 : lw_okq (⟨"LuckCratesModel", "among", "(I)I"⟩, 63) := ⟨⟨by decide +kernel, by decide +kernel⟩, lw_t7 (List.mem_of_getElem? (i := 13) rfl), lw_t8 (List.mem_of_getElem? (i := 39) rfl), lw_t8 (List.mem_of_getElem? (i := 40) rfl)⟩
theorem lw_p57 : lw_okq (⟨"LuckCratesModel", "amongHere", "(I)Z"⟩, 63) := ⟨⟨by decide +kernel, by decide +kernel⟩, lw_t7 (List.mem_of_getElem? (i := 13) rfl), lw_t8 (List.mem_of_getElem? (i := 43) rfl), lw_t8 (List.mem_of_getElem? (i := 44) rfl)⟩
theorem lw_p58 : lw_okq (⟨"LuckCratesModel", "hasWay", "(II)Z"⟩, 63) := ⟨⟨by decide +kernel, by decide +kernel⟩, lw_t7 (List.mem_of_getElem? (i := 13) rfl), lw_t8 (List.mem_of_getElem? (i := 47) rfl), lw_t8 (List.mem_of_getElem? (i := 48) rfl)⟩
theorem lw_p59 : lw_okq (⟨"LuckCratesModel", "readsCrate", "(I)V"⟩, 63) := ⟨⟨by decide +kernel, by decide +kernel⟩, lw_t7 (List.mem_of_getElem? (i := 13) rfl), lw_t8 (List.mem_of_getElem? (i := 51) rfl), lw_t8 (List.mem_of_getElem? (i := 52) rfl)⟩
theorem lw_p60 : lw_okq (⟨"LuckCratesModel", "expression", "()V"⟩, 63) := ⟨⟨by decide +kernel, by decide +kernel⟩, lw_t7 (List.mem_of_getElem? (i := 13) rfl), lw_t8 (List.mem_of_getElem? (i := 55) rfl), lw_t8 (List.mem_of_getElem? (i := 56) rfl)⟩
theorem lw_p61 : lw_okq (⟨"LuckCratesModel", "deeper", "()V"⟩, 63) := ⟨⟨by decide +kernel, by decide +kernel⟩, lw_t7 (List.mem_of_getElem? (i := 13) rfl), lw_t8 (List.mem_of_getElem? (i := 59) rfl), lw_t8 (List.mem_of_getElem? (i := 60) rfl)⟩
theorem lw_p62 : lw_okq (⟨"LuckCratesModel", "isSign", "(I)Z"⟩, 63) := ⟨⟨by decide +kernel, by decide +kernel⟩, lw_t7 (List.mem_of_getElem? (i := 13) rfl), lw_t8 (List.mem_of_getElem? (i := 63) rfl), lw_t8 (List.mem_of_getElem? (i := 64) rfl)⟩
theorem lw_p63 : lw_okq (⟨"LuckCratesModel", "operand", "(Z)V"⟩, 63) := ⟨⟨by decide +kernel, by decide +kernel⟩, lw_t7 (List.mem_of_getElem? (i := 13) rfl), lw_t8 (List.mem_of_getElem? (i := 67) rfl), lw_t8 (List.mem_of_getElem? (i := 68) rfl)⟩
def lw_privs_4 : List (MethodName × Nat) := [(⟨"LuckCratesModel", "byteAt", "(I)I"⟩, 63), (⟨"LuckCratesModel", "isGood", "()Z"⟩, 63), (⟨"LuckCratesModel", "line", "()V"⟩, 63), (⟨"LuckCratesModel", "knownWord", "()I"⟩, 63), (⟨"LuckCratesModel", "readsTown", "()V"⟩, 63), (⟨"LuckCratesModel", "wrong", "(I)V"⟩, 63), (⟨"LuckCratesModel", "number", "(II)I"⟩, 63), (⟨"LuckCratesModel", "readsWay", "()V"⟩, 63), (⟨"LuckCratesModel", "among", "(I)I"⟩, 63), (⟨"LuckCratesModel", "amongHere", "(I)Z"⟩, 63), (⟨"LuckCratesModel", "hasWay", "(II)Z"⟩, 63), (⟨"LuckCratesModel", "readsCrate", "(I)V"⟩, 63), (⟨"LuckCratesModel", "expression", "()V"⟩, 63), (⟨"LuckCratesModel", "deeper", "()V"⟩, 63), (⟨"LuckCratesModel", "isSign", "(I)Z"⟩, 63), (⟨"LuckCratesModel", "operand", "(Z)V"⟩, 63)]
theorem lw_r4 : ∀ q ∈ lw_privs_4, lw_okq q := List.forall_mem_cons.mpr ⟨lw_p48, List.forall_mem_cons.mpr ⟨lw_p49, List.forall_mem_cons.mpr ⟨lw_p50, List.forall_mem_cons.mpr ⟨lw_p51, List.forall_mem_cons.mpr ⟨lw_p52, List.forall_mem_cons.mpr ⟨lw_p53, List.forall_mem_cons.mpr ⟨lw_p54, List.forall_mem_cons.mpr ⟨lw_p55, List.forall_mem_cons.mpr ⟨lw_p56, List.forall_mem_cons.mpr ⟨lw_p57, List.forall_mem_cons.mpr ⟨lw_p58, List.forall_mem_cons.mpr ⟨lw_p59, List.forall_mem_cons.mpr ⟨lw_p60, List.forall_mem_cons.mpr ⟨lw_p61, List.forall_mem_cons.mpr ⟨lw_p62, List.forall_mem_cons.mpr ⟨lw_p63, fun _ h => absurd h List.not_mem_nil⟩⟩⟩⟩⟩⟩⟩⟩⟩⟩⟩⟩⟩⟩⟩⟩
theorem lw_p64 : lw_okq (⟨"LuckCratesModel", "waitsFor", "(I)V"⟩, 63) := ⟨⟨by decide +kernel, by decide +kernel⟩, lw_t7 (List.mem_of_getElem? (i := 13) rfl), lw_t8 (List.mem_of_getElem? (i := 71) rfl), lw_t8 (List.mem_of_getElem? (i := 72) rfl)⟩
theorem lw_p65 : lw_okq (⟨"LuckCratesModel", "part", "()V"⟩, 63) := ⟨⟨by decide +kernel, by decide +kernel⟩, lw_t7 (List.mem_of_getElem? (i := 13) rfl), lw_t8 (List.mem_of_getElem? (i := 75) rfl), lw_t8 (List.mem_of_getElem? (i := 76) rfl)⟩
theorem lw_p66 : lw_okq (⟨"LuckCratesModel", "puts", "(I)V"⟩, 63) := ⟨⟨by decide +kernel, by decide +kernel⟩, lw_t7 (List.mem_of_getElem? (i := 13) rfl), lw_t8 (List.mem_of_getElem? (i := 79) rfl), lw_t8 (List.mem_of_getElem? (i := 80) rfl)⟩
theorem lw_p67 : lw_okq (⟨"LuckCratesModel", "drops", "(I)V"⟩, 63) := ⟨⟨by decide +kernel, by decide +kernel⟩, lw_t7 (List.mem_of_getElem? (i := 13) rfl), lw_t8 (List.mem_of_getElem? (i := 83) rfl), lw_t8 (List.mem_of_getElem? (i := 84) rfl)⟩
theorem lw_p68 : lw_okq (⟨"LuckCratesModel", "isOpened", "()Z"⟩, 63) := ⟨⟨by decide +kernel, by decide +kernel⟩, lw_t7 (List.mem_of_getElem? (i := 13) rfl), lw_t8 (List.mem_of_getElem? (i := 93) rfl), lw_t8 (List.mem_of_getElem? (i := 94) rfl)⟩
theorem lw_p69 : lw_okq (⟨"LuckCratesModel", "closes", "()V"⟩, 63) := ⟨⟨by decide +kernel, by decide +kernel⟩, lw_t7 (List.mem_of_getElem? (i := 13) rfl), lw_t8 (List.mem_of_getElem? (i := 97) rfl), lw_t8 (List.mem_of_getElem? (i := 98) rfl)⟩
theorem lw_p70 : lw_okq (⟨"LuckCratesModel", "need", "(Z)V"⟩, 63) := ⟨⟨by decide +kernel, by decide +kernel⟩, lw_t7 (List.mem_of_getElem? (i := 13) rfl), lw_t8 (List.mem_of_getElem? (i := 101) rfl), lw_t8 (List.mem_of_getElem? (i := 102) rfl)⟩
theorem lw_p71 : lw_okq (⟨"LuckCratesModel", "copies", "([I[I)V"⟩, 63) := ⟨⟨by decide +kernel, by decide +kernel⟩, lw_t7 (List.mem_of_getElem? (i := 13) rfl), lw_t8 (List.mem_of_getElem? (i := 105) rfl), lw_t8 (List.mem_of_getElem? (i := 106) rfl)⟩
theorem lw_p72 : lw_okq (⟨"LuckCratesModel", "allOf", "(I)I"⟩, 63) := ⟨⟨by decide +kernel, by decide +kernel⟩, lw_t7 (List.mem_of_getElem? (i := 13) rfl), lw_t8 (List.mem_of_getElem? (i := 124) rfl), lw_t8 (List.mem_of_getElem? (i := 125) rfl)⟩
theorem lw_p73 : lw_okq (⟨"LuckCratesModel", "lyingAll", "()I"⟩, 63) := ⟨⟨by decide +kernel, by decide +kernel⟩, lw_t7 (List.mem_of_getElem? (i := 13) rfl), lw_t8 (List.mem_of_getElem? (i := 128) rfl), lw_t8 (List.mem_of_getElem? (i := 129) rfl)⟩
theorem lw_p74 : lw_okq (⟨"LuckCratesModel", "lies", "(II)Z"⟩, 63) := ⟨⟨by decide +kernel, by decide +kernel⟩, lw_t7 (List.mem_of_getElem? (i := 13) rfl), lw_t8 (List.mem_of_getElem? (i := 132) rfl), lw_t8 (List.mem_of_getElem? (i := 133) rfl)⟩
theorem lw_p75 : lw_okq (⟨"LuckCratesModel", "goingAll", "()I"⟩, 63) := ⟨⟨by decide +kernel, by decide +kernel⟩, lw_t7 (List.mem_of_getElem? (i := 13) rfl), lw_t8 (List.mem_of_getElem? (i := 136) rfl), lw_t8 (List.mem_of_getElem? (i := 137) rfl)⟩
theorem lw_p76 : lw_okq (⟨"LuckCratesModel", "goneIn", "(I)I"⟩, 63) := ⟨⟨by decide +kernel, by decide +kernel⟩, lw_t7 (List.mem_of_getElem? (i := 13) rfl), lw_t8 (List.mem_of_getElem? (i := 140) rfl), lw_t8 (List.mem_of_getElem? (i := 141) rfl)⟩
theorem lw_p77 : lw_okq (⟨"LuckCratesModel", "isTown", "(I)Z"⟩, 63) := ⟨⟨by decide +kernel, by decide +kernel⟩, lw_t7 (List.mem_of_getElem? (i := 13) rfl), lw_t8 (List.mem_of_getElem? (i := 148) rfl), lw_t8 (List.mem_of_getElem? (i := 149) rfl)⟩
theorem lw_p78 : lw_okq (⟨"LuckCratesModel", "isWhat", "(II)Z"⟩, 63) := ⟨⟨by decide +kernel, by decide +kernel⟩, lw_t7 (List.mem_of_getElem? (i := 13) rfl), lw_t8 (List.mem_of_getElem? (i := 152) rfl), lw_t8 (List.mem_of_getElem? (i := 153) rfl)⟩
theorem lw_p79 : lw_okq (⟨"LuckCratesModel", "oddsOf", "(II)I"⟩, 63) := ⟨⟨by decide +kernel, by decide +kernel⟩, lw_t7 (List.mem_of_getElem? (i := 13) rfl), lw_t8 (List.mem_of_getElem? (i := 156) rfl), lw_t8 (List.mem_of_getElem? (i := 157) rfl)⟩
def lw_privs_5 : List (MethodName × Nat) := [(⟨"LuckCratesModel", "waitsFor", "(I)V"⟩, 63), (⟨"LuckCratesModel", "part", "()V"⟩, 63), (⟨"LuckCratesModel", "puts", "(I)V"⟩, 63), (⟨"LuckCratesModel", "drops", "(I)V"⟩, 63), (⟨"LuckCratesModel", "isOpened", "()Z"⟩, 63), (⟨"LuckCratesModel", "closes", "()V"⟩, 63), (⟨"LuckCratesModel", "need", "(Z)V"⟩, 63), (⟨"LuckCratesModel", "copies", "([I[I)V"⟩, 63), (⟨"LuckCratesModel", "allOf", "(I)I"⟩, 63), (⟨"LuckCratesModel", "lyingAll", "()I"⟩, 63), (⟨"LuckCratesModel", "lies", "(II)Z"⟩, 63), (⟨"LuckCratesModel", "goingAll", "()I"⟩, 63), (⟨"LuckCratesModel", "goneIn", "(I)I"⟩, 63), (⟨"LuckCratesModel", "isTown", "(I)Z"⟩, 63), (⟨"LuckCratesModel", "isWhat", "(II)Z"⟩, 63), (⟨"LuckCratesModel", "oddsOf", "(II)I"⟩, 63)]
theorem lw_r5 : ∀ q ∈ lw_privs_5, lw_okq q := List.forall_mem_cons.mpr ⟨lw_p64, List.forall_mem_cons.mpr ⟨lw_p65, List.forall_mem_cons.mpr ⟨lw_p66, List.forall_mem_cons.mpr ⟨lw_p67, List.forall_mem_cons.mpr ⟨lw_p68, List.forall_mem_cons.mpr ⟨lw_p69, List.forall_mem_cons.mpr ⟨lw_p70, List.forall_mem_cons.mpr ⟨lw_p71, List.forall_mem_cons.mpr ⟨lw_p72, List.forall_mem_cons.mpr ⟨lw_p73, List.forall_mem_cons.mpr ⟨lw_p74, List.forall_mem_cons.mpr ⟨lw_p75, List.forall_mem_cons.mpr ⟨lw_p76, List.forall_mem_cons.mpr ⟨lw_p77, List.forall_mem_cons.mpr ⟨lw_p78, List.forall_mem_cons.mpr ⟨lw_p79, fun _ h => absurd h List.not_mem_nil⟩⟩⟩⟩⟩⟩⟩⟩⟩⟩⟩⟩⟩⟩⟩⟩
theorem lw_p80 : lw_okq (⟨"LuckCratesModel", "lyingIn", "(II)I"⟩, 63) := ⟨⟨by decide +kernel, by decide +kernel⟩, lw_t7 (List.mem_of_getElem? (i := 13) rfl), lw_t8 (List.mem_of_getElem? (i := 163) rfl), lw_t8 (List.mem_of_getElem? (i := 164) rfl)⟩
theorem lw_p81 : lw_okq (⟨"LuckCratesModel", "reckons", "(I)I"⟩, 63) := ⟨⟨by decide +kernel, by decide +kernel⟩, lw_t7 (List.mem_of_getElem? (i := 13) rfl), lw_t8 (List.mem_of_getElem? (i := 170) rfl), lw_t8 (List.mem_of_getElem? (i := 171) rfl)⟩
theorem lw_p82 : lw_okq (⟨"LuckCratesModel", "isCrate", "(I)Z"⟩, 63) := ⟨⟨by decide +kernel, by decide +kernel⟩, lw_t7 (List.mem_of_getElem? (i := 13) rfl), lw_t8 (List.mem_of_getElem? (i := 181) rfl), lw_t8 (List.mem_of_getElem? (i := 182) rfl)⟩
theorem lw_p83 : lw_okq (⟨"LuckCratesModel", "refuses", "(I)I"⟩, 63) := ⟨⟨by decide +kernel, by decide +kernel⟩, lw_t7 (List.mem_of_getElem? (i := 13) rfl), lw_t8 (List.mem_of_getElem? (i := 189) rfl), lw_t8 (List.mem_of_getElem? (i := 190) rfl)⟩
theorem lw_p84 : lw_okq (⟨"LuckCratesModel", "keeps", "()V"⟩, 63) := ⟨⟨by decide +kernel, by decide +kernel⟩, lw_t7 (List.mem_of_getElem? (i := 13) rfl), lw_t8 (List.mem_of_getElem? (i := 193) rfl), lw_t8 (List.mem_of_getElem? (i := 194) rfl)⟩
theorem lw_p85 : lw_okq (⟨"LuckCratesModel", "dayGoes", "(I)V"⟩, 63) := ⟨⟨by decide +kernel, by decide +kernel⟩, lw_t7 (List.mem_of_getElem? (i := 13) rfl), lw_t8 (List.mem_of_getElem? (i := 197) rfl), lw_t8 (List.mem_of_getElem? (i := 198) rfl)⟩
theorem lw_p86 : lw_okq (⟨"LuckCratesModel", "cratesGo", "(I)V"⟩, 63) := ⟨⟨by decide +kernel, by decide +kernel⟩, lw_t7 (List.mem_of_getElem? (i := 13) rfl), lw_t8 (List.mem_of_getElem? (i := 201) rfl), lw_t8 (List.mem_of_getElem? (i := 202) rfl)⟩
theorem lw_p87 : lw_okq (⟨"LuckCratesModel", "makesLuck", "(II)V"⟩, 63) := ⟨⟨by decide +kernel, by decide +kernel⟩, lw_t7 (List.mem_of_getElem? (i := 13) rfl), lw_t8 (List.mem_of_getElem? (i := 205) rfl), lw_t8 (List.mem_of_getElem? (i := 206) rfl)⟩
theorem lw_p88 : lw_okq (⟨"LuckCratesModel", "stakes", "(IIZ)V"⟩, 63) := ⟨⟨by decide +kernel, by decide +kernel⟩, lw_t7 (List.mem_of_getElem? (i := 13) rfl), lw_t8 (List.mem_of_getElem? (i := 209) rfl), lw_t8 (List.mem_of_getElem? (i := 210) rfl)⟩
theorem lw_p89 : lw_okq (⟨"LuckCratesModel", "isWay", "(I)Z"⟩, 63) := ⟨⟨by decide +kernel, by decide +kernel⟩, lw_t7 (List.mem_of_getElem? (i := 13) rfl), lw_t8 (List.mem_of_getElem? (i := 220) rfl), lw_t8 (List.mem_of_getElem? (i := 221) rfl)⟩
theorem lw_p90 : lw_okq (⟨"LuckCratesModel", "leads", "(II)I"⟩, 63) := ⟨⟨by decide +kernel, by decide +kernel⟩, lw_t7 (List.mem_of_getElem? (i := 13) rfl), lw_t8 (List.mem_of_getElem? (i := 224) rfl), lw_t8 (List.mem_of_getElem? (i := 225) rfl)⟩
theorem lw_p91 : lw_okq (⟨"LuckCratesModel", "opens", "(II)V"⟩, 63) := ⟨⟨by decide +kernel, by decide +kernel⟩, lw_t7 (List.mem_of_getElem? (i := 13) rfl), lw_t8 (List.mem_of_getElem? (i := 232) rfl), lw_t8 (List.mem_of_getElem? (i := 233) rfl)⟩
theorem lw_p92 : lw_okq (⟨"LuckCratesModel", "isDays", "(III)Z"⟩, 63) := ⟨⟨by decide +kernel, by decide +kernel⟩, lw_t7 (List.mem_of_getElem? (i := 13) rfl), lw_t9 (List.mem_of_getElem? (i := 8) rfl), lw_t9 (List.mem_of_getElem? (i := 9) rfl)⟩
theorem lw_p93 : lw_okq (⟨"LuckCratesModel", "tries", "()V"⟩, 63) := ⟨⟨by decide +kernel, by decide +kernel⟩, lw_t7 (List.mem_of_getElem? (i := 13) rfl), lw_t9 (List.mem_of_getElem? (i := 12) rfl), lw_t9 (List.mem_of_getElem? (i := 13) rfl)⟩
theorem lw_p94 : lw_okq (⟨"LuckCratesModel", "daysGo", "(I)V"⟩, 63) := ⟨⟨by decide +kernel, by decide +kernel⟩, lw_t7 (List.mem_of_getElem? (i := 13) rfl), lw_t9 (List.mem_of_getElem? (i := 16) rfl), lw_t9 (List.mem_of_getElem? (i := 17) rfl)⟩
theorem lw_p95 : lw_okq (⟨"LuckCratesModel", "measures", "(I)V"⟩, 63) := ⟨⟨by decide +kernel, by decide +kernel⟩, lw_t7 (List.mem_of_getElem? (i := 13) rfl), lw_t9 (List.mem_of_getElem? (i := 44) rfl), lw_t9 (List.mem_of_getElem? (i := 45) rfl)⟩
def lw_privs_6 : List (MethodName × Nat) := [(⟨"LuckCratesModel", "lyingIn", "(II)I"⟩, 63), (⟨"LuckCratesModel", "reckons", "(I)I"⟩, 63), (⟨"LuckCratesModel", "isCrate", "(I)Z"⟩, 63), (⟨"LuckCratesModel", "refuses", "(I)I"⟩, 63), (⟨"LuckCratesModel", "keeps", "()V"⟩, 63), (⟨"LuckCratesModel", "dayGoes", "(I)V"⟩, 63), (⟨"LuckCratesModel", "cratesGo", "(I)V"⟩, 63), (⟨"LuckCratesModel", "makesLuck", "(II)V"⟩, 63), (⟨"LuckCratesModel", "stakes", "(IIZ)V"⟩, 63), (⟨"LuckCratesModel", "isWay", "(I)Z"⟩, 63), (⟨"LuckCratesModel", "leads", "(II)I"⟩, 63), (⟨"LuckCratesModel", "opens", "(II)V"⟩, 63), (⟨"LuckCratesModel", "isDays", "(III)Z"⟩, 63), (⟨"LuckCratesModel", "tries", "()V"⟩, 63), (⟨"LuckCratesModel", "daysGo", "(I)V"⟩, 63), (⟨"LuckCratesModel", "measures", "(I)V"⟩, 63)]
theorem lw_r6 : ∀ q ∈ lw_privs_6, lw_okq q := List.forall_mem_cons.mpr ⟨lw_p80, List.forall_mem_cons.mpr ⟨lw_p81, List.forall_mem_cons.mpr ⟨lw_p82, List.forall_mem_cons.mpr ⟨lw_p83, List.forall_mem_cons.mpr ⟨lw_p84, List.forall_mem_cons.mpr ⟨lw_p85, List.forall_mem_cons.mpr ⟨lw_p86, List.forall_mem_cons.mpr ⟨lw_p87, List.forall_mem_cons.mpr ⟨lw_p88, List.forall_mem_cons.mpr ⟨lw_p89, List.forall_mem_cons.mpr ⟨lw_p90, List.forall_mem_cons.mpr ⟨lw_p91, List.forall_mem_cons.mpr ⟨lw_p92, List.forall_mem_cons.mpr ⟨lw_p93, List.forall_mem_cons.mpr ⟨lw_p94, List.forall_mem_cons.mpr ⟨lw_p95, fun _ h => absurd h List.not_mem_nil⟩⟩⟩⟩⟩⟩⟩⟩⟩⟩⟩⟩⟩⟩⟩⟩
theorem lw_p96 : lw_okq (⟨"LuckCratesModel", "comesTo", "(II)I"⟩, 63) := ⟨⟨by decide +kernel, by decide +kernel⟩, lw_t7 (List.mem_of_getElem? (i := 13) rfl), lw_t9 (List.mem_of_getElem? (i := 60) rfl), lw_t9 (List.mem_of_getElem? (i := 61) rfl)⟩
theorem lw_p97 : lw_okq (⟨"LuckCratesModel", "nextOn", "(II)I"⟩, 63) := ⟨⟨by decide +kernel, by decide +kernel⟩, lw_t7 (List.mem_of_getElem? (i := 13) rfl), lw_t9 (List.mem_of_getElem? (i := 68) rfl), lw_t9 (List.mem_of_getElem? (i := 69) rfl)⟩
theorem lw_p98 : lw_okq (⟨"LuckCratesModel", "laysHold", "(I)V"⟩, 63) := ⟨⟨by decide +kernel, by decide +kernel⟩, lw_t7 (List.mem_of_getElem? (i := 13) rfl), lw_t9 (List.mem_of_getElem? (i := 88) rfl), lw_t9 (List.mem_of_getElem? (i := 89) rfl)⟩
theorem lw_p99 : lw_okq (⟨"LuckCratesModel", "harms", "(II)I"⟩, 63) := ⟨⟨by decide +kernel, by decide +kernel⟩, lw_t7 (List.mem_of_getElem? (i := 13) rfl), lw_t9 (List.mem_of_getElem? (i := 92) rfl), lw_t9 (List.mem_of_getElem? (i := 93) rfl)⟩
theorem lw_p100 : lw_okq (⟨"LuckCratesModel", "isSeen", "(II)Z"⟩, 63) := ⟨⟨by decide +kernel, by decide +kernel⟩, lw_t7 (List.mem_of_getElem? (i := 13) rfl), lw_t9 (List.mem_of_getElem? (i := 119) rfl), lw_t9 (List.mem_of_getElem? (i := 120) rfl)⟩
theorem lw_p101 : lw_okq (⟨"LuckCratesModel", "isGuess", "(I)Z"⟩, 63) := ⟨⟨by decide +kernel, by decide +kernel⟩, lw_t7 (List.mem_of_getElem? (i := 13) rfl), lw_t9 (List.mem_of_getElem? (i := 123) rfl), lw_t9 (List.mem_of_getElem? (i := 124) rfl)⟩
theorem lw_p102 : lw_okq (⟨"LuckCratesModel", "areLike", "(III)Z"⟩, 63) := ⟨⟨by decide +kernel, by decide +kernel⟩, lw_t7 (List.mem_of_getElem? (i := 13) rfl), lw_t9 (List.mem_of_getElem? (i := 131) rfl), lw_t9 (List.mem_of_getElem? (i := 132) rfl)⟩
theorem lw_p103 : lw_okq (⟨"LuckCratesModel", "gains", "(IIII)I"⟩, 63) := ⟨⟨by decide +kernel, by decide +kernel⟩, lw_t7 (List.mem_of_getElem? (i := 13) rfl), lw_t9 (List.mem_of_getElem? (i := 147) rfl), lw_t9 (List.mem_of_getElem? (i := 148) rfl)⟩
theorem lw_p104 : lw_okq (⟨"LuckCratesModel", "steals", "()V"⟩, 63) := ⟨⟨by decide +kernel, by decide +kernel⟩, lw_t7 (List.mem_of_getElem? (i := 13) rfl), lw_t9 (List.mem_of_getElem? (i := 155) rfl), lw_t9 (List.mem_of_getElem? (i := 156) rfl)⟩
theorem lw_p105 : lw_okq (⟨"LuckCratesModel", "draw", "(I)I"⟩, 63) := ⟨⟨by decide +kernel, by decide +kernel⟩, lw_t7 (List.mem_of_getElem? (i := 13) rfl), lw_t9 (List.mem_of_getElem? (i := 159) rfl), lw_t9 (List.mem_of_getElem? (i := 160) rfl)⟩
theorem lw_p106 : lw_okq (⟨"LuckCratesModel", "grainsOf", "(II)I"⟩, 63) := ⟨⟨by decide +kernel, by decide +kernel⟩, lw_t7 (List.mem_of_getElem? (i := 13) rfl), lw_t9 (List.mem_of_getElem? (i := 168) rfl), lw_t9 (List.mem_of_getElem? (i := 169) rfl)⟩
theorem lw_p107 : lw_okq (⟨"LuckCratesModel", "offBy", "(II)I"⟩, 63) := ⟨⟨by decide +kernel, by decide +kernel⟩, lw_t7 (List.mem_of_getElem? (i := 13) rfl), lw_t9 (List.mem_of_getElem? (i := 176) rfl), lw_t9 (List.mem_of_getElem? (i := 177) rfl)⟩
def lw_privs_7 : List (MethodName × Nat) := [(⟨"LuckCratesModel", "comesTo", "(II)I"⟩, 63), (⟨"LuckCratesModel", "nextOn", "(II)I"⟩, 63), (⟨"LuckCratesModel", "laysHold", "(I)V"⟩, 63), (⟨"LuckCratesModel", "harms", "(II)I"⟩, 63), (⟨"LuckCratesModel", "isSeen", "(II)Z"⟩, 63), (⟨"LuckCratesModel", "isGuess", "(I)Z"⟩, 63), (⟨"LuckCratesModel", "areLike", "(III)Z"⟩, 63), (⟨"LuckCratesModel", "gains", "(IIII)I"⟩, 63), (⟨"LuckCratesModel", "steals", "()V"⟩, 63), (⟨"LuckCratesModel", "draw", "(I)I"⟩, 63), (⟨"LuckCratesModel", "grainsOf", "(II)I"⟩, 63), (⟨"LuckCratesModel", "offBy", "(II)I"⟩, 63)]
theorem lw_r7 : ∀ q ∈ lw_privs_7, lw_okq q := List.forall_mem_cons.mpr ⟨lw_p96, List.forall_mem_cons.mpr ⟨lw_p97, List.forall_mem_cons.mpr ⟨lw_p98, List.forall_mem_cons.mpr ⟨lw_p99, List.forall_mem_cons.mpr ⟨lw_p100, List.forall_mem_cons.mpr ⟨lw_p101, List.forall_mem_cons.mpr ⟨lw_p102, List.forall_mem_cons.mpr ⟨lw_p103, List.forall_mem_cons.mpr ⟨lw_p104, List.forall_mem_cons.mpr ⟨lw_p105, List.forall_mem_cons.mpr ⟨lw_p106, List.forall_mem_cons.mpr ⟨lw_p107, fun _ h => absurd h List.not_mem_nil⟩⟩⟩⟩⟩⟩⟩⟩⟩⟩⟩⟩
def lw_privs : List (MethodName × Nat) := lw_privs_1 ++ (lw_privs_2 ++ (lw_privs_3 ++ (lw_privs_4 ++ (lw_privs_5 ++ (lw_privs_6 ++ (lw_privs_7))))))
def lw_tbl : List Cond := k2_sels lw_privs ++ tables_1
theorem lw_privs_ok : ∀ q ∈ lw_privs, lw_okq q := by
  show ∀ q ∈ lw_privs_1 ++ (lw_privs_2 ++ (lw_privs_3 ++ (lw_privs_4 ++ (lw_privs_5 ++ (lw_privs_6 ++ (lw_privs_7)))))), lw_okq q
  exact List.forall_mem_append.mpr ⟨lw_r1, List.forall_mem_append.mpr ⟨lw_r2, List.forall_mem_append.mpr ⟨lw_r3, List.forall_mem_append.mpr ⟨lw_r4, List.forall_mem_append.mpr ⟨lw_r5, List.forall_mem_append.mpr ⟨lw_r6, lw_r7⟩⟩⟩⟩⟩⟩
-- ===== ONE list of words for every method: the tables' words that hold all through a run =====
def lw_all : List Cond := lw_tbl.filter goodWord
/-- a word of the tables by its place: claim/WORDS.tsv -/
theorem lw_w {w : Cond} (i : Nat) (h : lw_tbl[i]? = some w) (g : goodWord w = true) : w ∈ lw_all := List.mem_filter.mpr ⟨List.mem_of_getElem? h, g⟩
theorem lw_all_tbl {w : Cond} (h : w ∈ lw_all) : w ∈ lw_tbl := (List.mem_filter.mp h).1
theorem lw_self : GoodIn lw_all lw_all := fun w h => ⟨h, good_of_word (List.mem_filter.mp h).2⟩
/-- a class's field words, by their places -/
theorem lw_in (ws : List Cond) (ps : List Nat) (hp : ws = ps.filterMap (fun i => lw_tbl[i]?)) (hg : ws.all goodWord = true) : ∀ w ∈ ws, w ∈ lw_all := by
  intro w h
  have h1 := List.all_eq_true.mp hg w h
  rw [hp] at h
  obtain ⟨i, -, hi⟩ := List.mem_filterMap.mp h
  exact lw_w i hi h1
/-- the words of a contract for the method y with code b, L locals, answer r -/
abbrev ws_ (y : MethodName) (b : ByteArray) (L : Nat) (r : Option FieldType) : List Cond := Cond.code y b L r :: lw_all
theorem lw_meth {y : MethodName} {b : ByteArray} {L : Nat} {r : Option FieldType} (h : Cond.code y b L r ∈ lw_all) : GoodIn lw_all (ws_ y b L r) := by
  intro w hw
  rcases List.mem_cons.mp hw with e | e
  · rw [e]
    exact lw_self _ h
  · exact lw_self _ e
theorem lw_app {a c : List Cond} (ha : ∀ w ∈ a, w ∈ lw_all) (hc : GoodIn lw_all c) : GoodIn lw_all (a ++ c) := by
  intro w hw
  rcases List.mem_append.mp hw with e | e
  · exact lw_self w (ha w e)
  · exact hc w e
/-- what a call through an object asks: cwV n hts (lw_V ..) -/
theorem lw_V {own : String} {idx : Nat} {C : String} {y : MethodName} {b : ByteArray} {L : Nat} {r : Option FieldType} (h1 : Cond.methodLink own idx y ∈ lw_all) (h2 : Cond.instanceMethod y ∈ lw_all) (h3 : Cond.selects C y y ∈ lw_all) (h4 : Cond.initialized C ∈ lw_all) (h5 : Cond.code y b L r ∈ lw_all) : GoodIn lw_all (wsV own idx C y (ws_ y b L r)) := by
  refine lw_app ?_ (lw_meth h5)
  intro w hw
  simp only [List.mem_cons, List.not_mem_nil, or_false] at hw
  rcases hw with e | e | e | e
  · rw [e]; exact h1
  · rw [e]; exact h2
  · rw [e]; exact h3
  · rw [e]; exact h4
/-- what a static call asks: va_cwS n hts (lw_S ..) -/
theorem lw_S {own : String} {idx : Nat} {y : MethodName} {b : ByteArray} {L : Nat} {r : Option FieldType} (h1 : Cond.methodLink own idx y ∈ lw_all) (h2 : Cond.static y ∈ lw_all) (h3 : Cond.initialized y.cls ∈ lw_all) (h4 : Cond.code y b L r ∈ lw_all) : GoodIn lw_all (va_wsS own idx y (ws_ y b L r)) := by
  refine lw_app ?_ (lw_meth h4)
  intro w hw
  simp only [List.mem_cons, List.not_mem_nil, or_false] at hw
  rcases hw with e | e | e
  · rw [e]; exact h1
  · rw [e]; exact h2
  · rw [e]; exact h3
/-- the words of a contract for a method WITH HANDLERS (hh: its table) -/
abbrev wsW_ (y : MethodName) (b : ByteArray) (L : Nat) (r : Option FieldType) (hh : List (Nat × Nat × Nat × Nat)) : List Cond := Cond.codeWith y b L r hh :: lw_all
theorem lw_methW {y : MethodName} {b : ByteArray} {L : Nat} {r : Option FieldType} {hh : List (Nat × Nat × Nat × Nat)} (h : Cond.codeWith y b L r hh ∈ lw_all) : GoodIn lw_all (wsW_ y b L r hh) := by
  intro w hw
  rcases List.mem_cons.mp hw with e | e
  · rw [e]
    exact lw_self _ h
  · exact lw_self _ e
/-- any list of words by their places (lw_in), good -/
theorem lw_good {ws : List Cond} (h : ∀ w ∈ ws, w ∈ lw_all) : GoodIn lw_all ws := fun w hw => lw_self w (h w hw)
/-- what a call of a method with handlers asks: vx_cwVW n hts (lw_VW ..), vx_cwSW n hts (lw_SW ..) -/
theorem lw_VW {own : String} {idx : Nat} {C : String} {y : MethodName} {b : ByteArray} {L : Nat} {r : Option FieldType} {hh : List (Nat × Nat × Nat × Nat)} (h1 : Cond.methodLink own idx y ∈ lw_all) (h2 : Cond.instanceMethod y ∈ lw_all) (h3 : Cond.selects C y y ∈ lw_all) (h4 : Cond.initialized C ∈ lw_all) (h5 : Cond.codeWith y b L r hh ∈ lw_all) : GoodIn lw_all (wsV own idx C y (wsW_ y b L r hh)) := by
  refine lw_app ?_ (lw_methW h5)
  intro w hw
  simp only [List.mem_cons, List.not_mem_nil, or_false] at hw
  rcases hw with e | e | e | e
  · rw [e]; exact h1
  · rw [e]; exact h2
  · rw [e]; exact h3
  · rw [e]; exact h4
theorem lw_SW {own : String} {idx : Nat} {y : MethodName} {b : ByteArray} {L : Nat} {r : Option FieldType} {hh : List (Nat × Nat × Nat × Nat)} (h1 : Cond.methodLink own idx y ∈ lw_all) (h2 : Cond.static y ∈ lw_all) (h3 : Cond.initialized y.cls ∈ lw_all) (h4 : Cond.codeWith y b L r hh ∈ lw_all) : GoodIn lw_all (va_wsS own idx y (wsW_ y b L r hh)) := by
  refine lw_app ?_ (lw_methW h4)
  intro w hw
  simp only [List.mem_cons, List.not_mem_nil, or_false] at hw
  rcases hw with e | e | e
  · rw [e]; exact h1
  · rw [e]; exact h2
  · rw [e]; exact h3
/-- a word by its place in its run of the tables -/
theorem lw_at {r : List Cond} (hr : ∀ w ∈ r, w ∈ lw_tbl) {w : Cond} (i : Nat) (h : r[i]? = some w) : w ∈ lw_tbl := hr w (List.mem_of_getElem? h)
theorem lw_g {w : Cond} (h : w ∈ lw_tbl) (g : goodWord w = true) : w ∈ lw_all := List.mem_filter.mpr ⟨h, g⟩
theorem lw_ms : ∀ w ∈ k2_sels lw_privs, w ∈ lw_tbl := fun w h => show w ∈ k2_sels lw_privs ++ tables_1 from List.mem_append_left _ h
theorem lw_m1 : ∀ w ∈ tables_1_1, w ∈ lw_tbl := fun w h => show w ∈ k2_sels lw_privs ++ tables_1 from List.mem_append_right (k2_sels lw_privs) (show w ∈ tables_1 from List.mem_append_left _ h)
theorem lw_m2 : ∀ w ∈ tables_1_2, w ∈ lw_tbl := fun w h => show w ∈ k2_sels lw_privs ++ tables_1 from List.mem_append_right (k2_sels lw_privs) (show w ∈ tables_1 from List.mem_append_right _ (List.mem_append_left _ h))
theorem lw_m3 : ∀ w ∈ tables_1_3, w ∈ lw_tbl := fun w h => show w ∈ k2_sels lw_privs ++ tables_1 from List.mem_append_right (k2_sels lw_privs) (show w ∈ tables_1 from List.mem_append_right _ (List.mem_append_right _ (List.mem_append_left _ h)))
theorem lw_m4 : ∀ w ∈ tables_1_4, w ∈ lw_tbl := fun w h => show w ∈ k2_sels lw_privs ++ tables_1 from List.mem_append_right (k2_sels lw_privs) (show w ∈ tables_1 from List.mem_append_right _ (List.mem_append_right _ (List.mem_append_right _ (List.mem_append_left _ h))))
theorem lw_m5 : ∀ w ∈ tables_1_5, w ∈ lw_tbl := fun w h => show w ∈ k2_sels lw_privs ++ tables_1 from List.mem_append_right (k2_sels lw_privs) (show w ∈ tables_1 from List.mem_append_right _ (List.mem_append_right _ (List.mem_append_right _ (List.mem_append_right _ (List.mem_append_left _ h)))))
theorem lw_m6 : ∀ w ∈ tables_1_6, w ∈ lw_tbl := fun w h => show w ∈ k2_sels lw_privs ++ tables_1 from List.mem_append_right (k2_sels lw_privs) (show w ∈ tables_1 from List.mem_append_right _ (List.mem_append_right _ (List.mem_append_right _ (List.mem_append_right _ (List.mem_append_right _ (List.mem_append_left _ h))))))
theorem lw_m7 : ∀ w ∈ tables_1_7, w ∈ lw_tbl := fun w h => show w ∈ k2_sels lw_privs ++ tables_1 from List.mem_append_right (k2_sels lw_privs) (show w ∈ tables_1 from List.mem_append_right _ (List.mem_append_right _ (List.mem_append_right _ (List.mem_append_right _ (List.mem_append_right _ (List.mem_append_right _ (List.mem_append_left _ h)))))))
theorem lw_m8 : ∀ w ∈ tables_1_8, w ∈ lw_tbl := fun w h => show w ∈ k2_sels lw_privs ++ tables_1 from List.mem_append_right (k2_sels lw_privs) (show w ∈ tables_1 from List.mem_append_right _ (List.mem_append_right _ (List.mem_append_right _ (List.mem_append_right _ (List.mem_append_right _ (List.mem_append_right _ (List.mem_append_right _ (List.mem_append_left _ h))))))))
theorem lw_m9 : ∀ w ∈ tables_1_9, w ∈ lw_tbl := fun w h => show w ∈ k2_sels lw_privs ++ tables_1 from List.mem_append_right (k2_sels lw_privs) (show w ∈ tables_1 from List.mem_append_right _ (List.mem_append_right _ (List.mem_append_right _ (List.mem_append_right _ (List.mem_append_right _ (List.mem_append_right _ (List.mem_append_right _ (List.mem_append_right _ h))))))))
theorem qs0 : (Cond.selects "LuckCrates" ⟨"LuckCrates", "refuse", "(I)I"⟩ ⟨"LuckCrates", "refuse", "(I)I"⟩) ∈ lw_all := lw_g (lw_at lw_ms 0 rfl) rfl
theorem qs1 : (Cond.selects "LuckCrates" ⟨"LuckCrates", "keep", "()V"⟩ ⟨"LuckCrates", "keep", "()V"⟩) ∈ lw_all := lw_g (lw_at lw_ms 1 rfl) rfl
theorem qs2 : (Cond.selects "java/util/ArrayList" ⟨"java/util/ArrayList", "add", "(Ljava/lang/Object;[Ljava/lang/Object;I)V"⟩ ⟨"java/util/ArrayList", "add", "(Ljava/lang/Object;[Ljava/lang/Object;I)V"⟩) ∈ lw_all := lw_g (lw_at lw_ms 2 rfl) rfl
theorem qs3 : (Cond.selects "java/util/ArrayList" ⟨"java/util/ArrayList", "grow", "()[Ljava/lang/Object;"⟩ ⟨"java/util/ArrayList", "grow", "()[Ljava/lang/Object;"⟩) ∈ lw_all := lw_g (lw_at lw_ms 3 rfl) rfl
theorem qs4 : (Cond.selects "java/util/ArrayList" ⟨"java/util/ArrayList", "grow", "(I)[Ljava/lang/Object;"⟩ ⟨"java/util/ArrayList", "grow", "(I)[Ljava/lang/Object;"⟩) ∈ lw_all := lw_g (lw_at lw_ms 4 rfl) rfl
theorem qs5 : (Cond.selects "java/util/ArrayList" ⟨"java/util/ArrayList", "fastRemove", "([Ljava/lang/Object;I)V"⟩ ⟨"java/util/ArrayList", "fastRemove", "([Ljava/lang/Object;I)V"⟩) ∈ lw_all := lw_g (lw_at lw_ms 5 rfl) rfl
theorem qs6 : (Cond.selects "LuckCrates$Coast" ⟨"LuckCrates$Coast", "ship", "(I)V"⟩ ⟨"LuckCrates$Coast", "ship", "(I)V"⟩) ∈ lw_all := lw_g (lw_at lw_ms 6 rfl) rfl
theorem qs7 : (Cond.selects "LuckCrates" ⟨"LuckCrates", "draw", "(I)I"⟩ ⟨"LuckCrates", "draw", "(I)I"⟩) ∈ lw_all := lw_g (lw_at lw_ms 7 rfl) rfl
theorem qs8 : (Cond.selects "LuckCrates$Coast" ⟨"LuckCrates$Coast", "fares", "(IZ)V"⟩ ⟨"LuckCrates$Coast", "fares", "(IZ)V"⟩) ∈ lw_all := lw_g (lw_at lw_ms 8 rfl) rfl
theorem qs9 : (Cond.selects "LuckCrates" ⟨"LuckCrates", "wonIn", "(LLuckCrates$Coast;I)I"⟩ ⟨"LuckCrates", "wonIn", "(LLuckCrates$Coast;I)I"⟩) ∈ lw_all := lw_g (lw_at lw_ms 9 rfl) rfl
theorem qs10 : (Cond.selects "java/lang/Throwable" ⟨"java/lang/Throwable", "fillInStackTrace", "(I)Ljava/lang/Throwable;"⟩ ⟨"java/lang/Throwable", "fillInStackTrace", "(I)Ljava/lang/Throwable;"⟩) ∈ lw_all := lw_g (lw_at lw_ms 10 rfl) rfl
theorem qs11 : (Cond.selects "LuckCrates$Reader" ⟨"LuckCrates$Reader", "next", "()V"⟩ ⟨"LuckCrates$Reader", "next", "()V"⟩) ∈ lw_all := lw_g (lw_at lw_ms 11 rfl) rfl
theorem qs12 : (Cond.selects "LuckCrates$Reader" ⟨"LuckCrates$Reader", "here", "()I"⟩ ⟨"LuckCrates$Reader", "here", "()I"⟩) ∈ lw_all := lw_g (lw_at lw_ms 12 rfl) rfl
theorem qs13 : (Cond.selects "LuckCrates$Reader" ⟨"LuckCrates$Reader", "isLetter", "()Z"⟩ ⟨"LuckCrates$Reader", "isLetter", "()Z"⟩) ∈ lw_all := lw_g (lw_at lw_ms 13 rfl) rfl
theorem qs14 : (Cond.selects "LuckCrates$Reader" ⟨"LuckCrates$Reader", "isDigit", "()Z"⟩ ⟨"LuckCrates$Reader", "isDigit", "()Z"⟩) ∈ lw_all := lw_g (lw_at lw_ms 14 rfl) rfl
theorem qs15 : (Cond.selects "LuckCrates$Reader" ⟨"LuckCrates$Reader", "line", "()V"⟩ ⟨"LuckCrates$Reader", "line", "()V"⟩) ∈ lw_all := lw_g (lw_at lw_ms 15 rfl) rfl
theorem qs16 : (Cond.selects "LuckCrates$Reader" ⟨"LuckCrates$Reader", "is", "(Ljava/lang/String;)Z"⟩ ⟨"LuckCrates$Reader", "is", "(Ljava/lang/String;)Z"⟩) ∈ lw_all := lw_g (lw_at lw_ms 16 rfl) rfl
theorem qs17 : (Cond.selects "LuckCrates$Reader" ⟨"LuckCrates$Reader", "town", "()V"⟩ ⟨"LuckCrates$Reader", "town", "()V"⟩) ∈ lw_all := lw_g (lw_at lw_ms 17 rfl) rfl
theorem qs18 : (Cond.selects "LuckCrates$Reader" ⟨"LuckCrates$Reader", "want", "(ZI)V"⟩ ⟨"LuckCrates$Reader", "want", "(ZI)V"⟩) ∈ lw_all := lw_g (lw_at lw_ms 18 rfl) rfl
theorem qs19 : (Cond.selects "LuckCrates$Reader" ⟨"LuckCrates$Reader", "number", "(II)I"⟩ ⟨"LuckCrates$Reader", "number", "(II)I"⟩) ∈ lw_all := lw_g (lw_at lw_ms 19 rfl) rfl
theorem qs20 : (Cond.selects "LuckCrates$Reader" ⟨"LuckCrates$Reader", "numberNow", "(II)I"⟩ ⟨"LuckCrates$Reader", "numberNow", "(II)I"⟩) ∈ lw_all := lw_g (lw_at lw_ms 20 rfl) rfl
theorem qs21 : (Cond.selects "LuckCrates$Reader" ⟨"LuckCrates$Reader", "way", "()V"⟩ ⟨"LuckCrates$Reader", "way", "()V"⟩) ∈ lw_all := lw_g (lw_at lw_ms 21 rfl) rfl
theorem qs22 : (Cond.selects "LuckCrates$Reader" ⟨"LuckCrates$Reader", "townNow", "()I"⟩ ⟨"LuckCrates$Reader", "townNow", "()I"⟩) ∈ lw_all := lw_g (lw_at lw_ms 22 rfl) rfl
theorem qs23 : (Cond.selects "LuckCrates$Reader" ⟨"LuckCrates$Reader", "crate", "(Z)V"⟩ ⟨"LuckCrates$Reader", "crate", "(Z)V"⟩) ∈ lw_all := lw_g (lw_at lw_ms 23 rfl) rfl
theorem qs24 : (Cond.selects "LuckCrates$Reader" ⟨"LuckCrates$Reader", "passes", "(Ljava/lang/String;)Z"⟩ ⟨"LuckCrates$Reader", "passes", "(Ljava/lang/String;)Z"⟩) ∈ lw_all := lw_g (lw_at lw_ms 24 rfl) rfl
theorem qs25 : (Cond.selects "LuckCrates$Reader" ⟨"LuckCrates$Reader", "expression", "(I)LLuckCrates$Form;"⟩ ⟨"LuckCrates$Reader", "expression", "(I)LLuckCrates$Form;"⟩) ∈ lw_all := lw_g (lw_at lw_ms 25 rfl) rfl
theorem qs26 : (Cond.selects "LuckCrates$Reader" ⟨"LuckCrates$Reader", "isSign", "(C)Z"⟩ ⟨"LuckCrates$Reader", "isSign", "(C)Z"⟩) ∈ lw_all := lw_g (lw_at lw_ms 26 rfl) rfl
theorem qs27 : (Cond.selects "LuckCrates$Reader" ⟨"LuckCrates$Reader", "and", "(I)LLuckCrates$Form;"⟩ ⟨"LuckCrates$Reader", "and", "(I)LLuckCrates$Form;"⟩) ∈ lw_all := lw_g (lw_at lw_ms 27 rfl) rfl
theorem qs28 : (Cond.selects "LuckCrates$Reader" ⟨"LuckCrates$Reader", "not", "(I)LLuckCrates$Form;"⟩ ⟨"LuckCrates$Reader", "not", "(I)LLuckCrates$Form;"⟩) ∈ lw_all := lw_g (lw_at lw_ms 28 rfl) rfl
theorem qs29 : (Cond.selects "LuckCrates$Reader" ⟨"LuckCrates$Reader", "sum", "(I)LLuckCrates$Form;"⟩ ⟨"LuckCrates$Reader", "sum", "(I)LLuckCrates$Form;"⟩) ∈ lw_all := lw_g (lw_at lw_ms 29 rfl) rfl
theorem qs30 : (Cond.selects "LuckCrates$Reader" ⟨"LuckCrates$Reader", "product", "(I)LLuckCrates$Form;"⟩ ⟨"LuckCrates$Reader", "product", "(I)LLuckCrates$Form;"⟩) ∈ lw_all := lw_g (lw_at lw_ms 30 rfl) rfl
theorem qs31 : (Cond.selects "LuckCrates$Reader" ⟨"LuckCrates$Reader", "part", "(I)LLuckCrates$Form;"⟩ ⟨"LuckCrates$Reader", "part", "(I)LLuckCrates$Form;"⟩) ∈ lw_all := lw_g (lw_at lw_ms 31 rfl) rfl
theorem qs32 : (Cond.selects "LuckCrates$Reader" ⟨"LuckCrates$Reader", "which", "([Ljava/lang/String;)I"⟩ ⟨"LuckCrates$Reader", "which", "([Ljava/lang/String;)I"⟩) ∈ lw_all := lw_g (lw_at lw_ms 32 rfl) rfl
theorem qs33 : (Cond.selects "LuckCrates$Reader" ⟨"LuckCrates$Reader", "sign", "()C"⟩ ⟨"LuckCrates$Reader", "sign", "()C"⟩) ∈ lw_all := lw_g (lw_at lw_ms 33 rfl) rfl
theorem qs34 : (Cond.selects "LuckCrates" ⟨"LuckCrates", "aTown", "(I)V"⟩ ⟨"LuckCrates", "aTown", "(I)V"⟩) ∈ lw_all := lw_g (lw_at lw_ms 34 rfl) rfl
theorem qs35 : (Cond.selects "LuckCrates" ⟨"LuckCrates", "aCrate", "(I)V"⟩ ⟨"LuckCrates", "aCrate", "(I)V"⟩) ∈ lw_all := lw_g (lw_at lw_ms 35 rfl) rfl
theorem qs36 : (Cond.selects "LuckCrates" ⟨"LuckCrates", "harms", "(I)[[I"⟩ ⟨"LuckCrates", "harms", "(I)[[I"⟩) ∈ lw_all := lw_g (lw_at lw_ms 36 rfl) rfl
theorem qs37 : (Cond.selects "LuckCrates" ⟨"LuckCrates", "harm", "(II)I"⟩ ⟨"LuckCrates", "harm", "(II)I"⟩) ∈ lw_all := lw_g (lw_at lw_ms 37 rfl) rfl
theorem qs38 : (Cond.selects "LuckCrates" ⟨"LuckCrates", "isSoBy", "(II)Z"⟩ ⟨"LuckCrates", "isSoBy", "(II)Z"⟩) ∈ lw_all := lw_g (lw_at lw_ms 38 rfl) rfl
theorem qs39 : (Cond.selects "LuckCrates" ⟨"LuckCrates", "openings", "()Ljava/util/List;"⟩ ⟨"LuckCrates", "openings", "()Ljava/util/List;"⟩) ∈ lw_all := lw_g (lw_at lw_ms 39 rfl) rfl
theorem qs40 : (Cond.selects "LuckCrates" ⟨"LuckCrates", "gains", "(IIII)[I"⟩ ⟨"LuckCrates", "gains", "(IIII)[I"⟩) ∈ lw_all := lw_g (lw_at lw_ms 40 rfl) rfl
theorem qs41 : (Cond.selects "LuckCrates" ⟨"LuckCrates", "grains", "(II)I"⟩ ⟨"LuckCrates", "grains", "(II)I"⟩) ∈ lw_all := lw_g (lw_at lw_ms 41 rfl) rfl
theorem qs42 : (Cond.selects "LuckCrates" ⟨"LuckCrates", "hasBallast", "(I)Z"⟩ ⟨"LuckCrates", "hasBallast", "(I)Z"⟩) ∈ lw_all := lw_g (lw_at lw_ms 42 rfl) rfl
theorem qs43 : (Cond.selects "LuckCrates" ⟨"LuckCrates", "nextOf", "(I[I)I"⟩ ⟨"LuckCrates", "nextOf", "(I[I)I"⟩) ∈ lw_all := lw_g (lw_at lw_ms 43 rfl) rfl
theorem qs44 : (Cond.selects "LuckCrates" ⟨"LuckCrates", "unlevel", "(II)I"⟩ ⟨"LuckCrates", "unlevel", "(II)I"⟩) ∈ lw_all := lw_g (lw_at lw_ms 44 rfl) rfl
theorem qs45 : (Cond.selects "LuckCratesModel" ⟨"LuckCratesModel", "lays", "(I)V"⟩ ⟨"LuckCratesModel", "lays", "(I)V"⟩) ∈ lw_all := lw_g (lw_at lw_ms 45 rfl) rfl
theorem qs46 : (Cond.selects "LuckCratesModel" ⟨"LuckCratesModel", "right", "(ZI)Z"⟩ ⟨"LuckCratesModel", "right", "(ZI)Z"⟩) ∈ lw_all := lw_g (lw_at lw_ms 46 rfl) rfl
theorem qs47 : (Cond.selects "LuckCratesModel" ⟨"LuckCratesModel", "goes", "()V"⟩ ⟨"LuckCratesModel", "goes", "()V"⟩) ∈ lw_all := lw_g (lw_at lw_ms 47 rfl) rfl
theorem qs48 : (Cond.selects "LuckCratesModel" ⟨"LuckCratesModel", "byteAt", "(I)I"⟩ ⟨"LuckCratesModel", "byteAt", "(I)I"⟩) ∈ lw_all := lw_g (lw_at lw_ms 48 rfl) rfl
theorem qs49 : (Cond.selects "LuckCratesModel" ⟨"LuckCratesModel", "isGood", "()Z"⟩ ⟨"LuckCratesModel", "isGood", "()Z"⟩) ∈ lw_all := lw_g (lw_at lw_ms 49 rfl) rfl
theorem qs50 : (Cond.selects "LuckCratesModel" ⟨"LuckCratesModel", "line", "()V"⟩ ⟨"LuckCratesModel", "line", "()V"⟩) ∈ lw_all := lw_g (lw_at lw_ms 50 rfl) rfl
theorem qs51 : (Cond.selects "LuckCratesModel" ⟨"LuckCratesModel", "knownWord", "()I"⟩ ⟨"LuckCratesModel", "knownWord", "()I"⟩) ∈ lw_all := lw_g (lw_at lw_ms 51 rfl) rfl
theorem qs52 : (Cond.selects "LuckCratesModel" ⟨"LuckCratesModel", "readsTown", "()V"⟩ ⟨"LuckCratesModel", "readsTown", "()V"⟩) ∈ lw_all := lw_g (lw_at lw_ms 52 rfl) rfl
theorem qs53 : (Cond.selects "LuckCratesModel" ⟨"LuckCratesModel", "wrong", "(I)V"⟩ ⟨"LuckCratesModel", "wrong", "(I)V"⟩) ∈ lw_all := lw_g (lw_at lw_ms 53 rfl) rfl
theorem qs54 : (Cond.selects "LuckCratesModel" ⟨"LuckCratesModel", "number", "(II)I"⟩ ⟨"LuckCratesModel", "number", "(II)I"⟩) ∈ lw_all := lw_g (lw_at lw_ms 54 rfl) rfl
theorem qs55 : (Cond.selects "LuckCratesModel" ⟨"LuckCratesModel", "readsWay", "()V"⟩ ⟨"LuckCratesModel", "readsWay", "()V"⟩) ∈ lw_all := lw_g (lw_at lw_ms 55 rfl) rfl
theorem qs56 : (Cond.selects "LuckCratesModel" ⟨"LuckCratesModel", "among", "(I)I"⟩ ⟨"LuckCratesModel", "among", "(I)I"⟩) ∈ lw_all := lw_g (lw_at lw_ms 56 rfl) rfl
theorem qs57 : (Cond.selects "LuckCratesModel" ⟨"LuckCratesModel", "amongHere", "(I)Z"⟩ ⟨"LuckCratesModel", "amongHere", "(I)Z"⟩) ∈ lw_all := lw_g (lw_at lw_ms 57 rfl) rfl
theorem qs58 : (Cond.selects "LuckCratesModel" ⟨"LuckCratesModel", "hasWay", "(II)Z"⟩ ⟨"LuckCratesModel", "hasWay", "(II)Z"⟩) ∈ lw_all := lw_g (lw_at lw_ms 58 rfl) rfl
theorem qs59 : (Cond.selects "LuckCratesModel" ⟨"LuckCratesModel", "readsCrate", "(I)V"⟩ ⟨"LuckCratesModel", "readsCrate", "(I)V"⟩) ∈ lw_all := lw_g (lw_at lw_ms 59 rfl) rfl
theorem qs60 : (Cond.selects "LuckCratesModel" ⟨"LuckCratesModel", "expression", "()V"⟩ ⟨"LuckCratesModel", "expression", "()V"⟩) ∈ lw_all := lw_g (lw_at lw_ms 60 rfl) rfl
theorem qs61 : (Cond.selects "LuckCratesModel" ⟨"LuckCratesModel", "deeper", "()V"⟩ ⟨"LuckCratesModel", "deeper", "()V"⟩) ∈ lw_all := lw_g (lw_at lw_ms 61 rfl) rfl
theorem qs62 : (Cond.selects "LuckCratesModel" ⟨"LuckCratesModel", "isSign", "(I)Z"⟩ ⟨"LuckCratesModel", "isSign", "(I)Z"⟩) ∈ lw_all := lw_g (lw_at lw_ms 62 rfl) rfl
theorem qs63 : (Cond.selects "LuckCratesModel" ⟨"LuckCratesModel", "operand", "(Z)V"⟩ ⟨"LuckCratesModel", "operand", "(Z)V"⟩) ∈ lw_all := lw_g (lw_at lw_ms 63 rfl) rfl
theorem qs64 : (Cond.selects "LuckCratesModel" ⟨"LuckCratesModel", "waitsFor", "(I)V"⟩ ⟨"LuckCratesModel", "waitsFor", "(I)V"⟩) ∈ lw_all := lw_g (lw_at lw_ms 64 rfl) rfl
theorem qs65 : (Cond.selects "LuckCratesModel" ⟨"LuckCratesModel", "part", "()V"⟩ ⟨"LuckCratesModel", "part", "()V"⟩) ∈ lw_all := lw_g (lw_at lw_ms 65 rfl) rfl
theorem qs66 : (Cond.selects "LuckCratesModel" ⟨"LuckCratesModel", "puts", "(I)V"⟩ ⟨"LuckCratesModel", "puts", "(I)V"⟩) ∈ lw_all := lw_g (lw_at lw_ms 66 rfl) rfl
theorem qs67 : (Cond.selects "LuckCratesModel" ⟨"LuckCratesModel", "drops", "(I)V"⟩ ⟨"LuckCratesModel", "drops", "(I)V"⟩) ∈ lw_all := lw_g (lw_at lw_ms 67 rfl) rfl
theorem qs68 : (Cond.selects "LuckCratesModel" ⟨"LuckCratesModel", "isOpened", "()Z"⟩ ⟨"LuckCratesModel", "isOpened", "()Z"⟩) ∈ lw_all := lw_g (lw_at lw_ms 68 rfl) rfl
theorem qs69 : (Cond.selects "LuckCratesModel" ⟨"LuckCratesModel", "closes", "()V"⟩ ⟨"LuckCratesModel", "closes", "()V"⟩) ∈ lw_all := lw_g (lw_at lw_ms 69 rfl) rfl
theorem qs70 : (Cond.selects "LuckCratesModel" ⟨"LuckCratesModel", "need", "(Z)V"⟩ ⟨"LuckCratesModel", "need", "(Z)V"⟩) ∈ lw_all := lw_g (lw_at lw_ms 70 rfl) rfl
theorem qs71 : (Cond.selects "LuckCratesModel" ⟨"LuckCratesModel", "copies", "([I[I)V"⟩ ⟨"LuckCratesModel", "copies", "([I[I)V"⟩) ∈ lw_all := lw_g (lw_at lw_ms 71 rfl) rfl
theorem qs72 : (Cond.selects "LuckCratesModel" ⟨"LuckCratesModel", "allOf", "(I)I"⟩ ⟨"LuckCratesModel", "allOf", "(I)I"⟩) ∈ lw_all := lw_g (lw_at lw_ms 72 rfl) rfl
theorem qs73 : (Cond.selects "LuckCratesModel" ⟨"LuckCratesModel", "lyingAll", "()I"⟩ ⟨"LuckCratesModel", "lyingAll", "()I"⟩) ∈ lw_all := lw_g (lw_at lw_ms 73 rfl) rfl
theorem qs74 : (Cond.selects "LuckCratesModel" ⟨"LuckCratesModel", "lies", "(II)Z"⟩ ⟨"LuckCratesModel", "lies", "(II)Z"⟩) ∈ lw_all := lw_g (lw_at lw_ms 74 rfl) rfl
theorem qs75 : (Cond.selects "LuckCratesModel" ⟨"LuckCratesModel", "goingAll", "()I"⟩ ⟨"LuckCratesModel", "goingAll", "()I"⟩) ∈ lw_all := lw_g (lw_at lw_ms 75 rfl) rfl
theorem qs76 : (Cond.selects "LuckCratesModel" ⟨"LuckCratesModel", "goneIn", "(I)I"⟩ ⟨"LuckCratesModel", "goneIn", "(I)I"⟩) ∈ lw_all := lw_g (lw_at lw_ms 76 rfl) rfl
theorem qs77 : (Cond.selects "LuckCratesModel" ⟨"LuckCratesModel", "isTown", "(I)Z"⟩ ⟨"LuckCratesModel", "isTown", "(I)Z"⟩) ∈ lw_all := lw_g (lw_at lw_ms 77 rfl) rfl
theorem qs78 : (Cond.selects "LuckCratesModel" ⟨"LuckCratesModel", "isWhat", "(II)Z"⟩ ⟨"LuckCratesModel", "isWhat", "(II)Z"⟩) ∈ lw_all := lw_g (lw_at lw_ms 78 rfl) rfl
theorem qs79 : (Cond.selects "LuckCratesModel" ⟨"LuckCratesModel", "oddsOf", "(II)I"⟩ ⟨"LuckCratesModel", "oddsOf", "(II)I"⟩) ∈ lw_all := lw_g (lw_at lw_ms 79 rfl) rfl
theorem qs80 : (Cond.selects "LuckCratesModel" ⟨"LuckCratesModel", "lyingIn", "(II)I"⟩ ⟨"LuckCratesModel", "lyingIn", "(II)I"⟩) ∈ lw_all := lw_g (lw_at lw_ms 80 rfl) rfl
theorem qs81 : (Cond.selects "LuckCratesModel" ⟨"LuckCratesModel", "reckons", "(I)I"⟩ ⟨"LuckCratesModel", "reckons", "(I)I"⟩) ∈ lw_all := lw_g (lw_at lw_ms 81 rfl) rfl
theorem qs82 : (Cond.selects "LuckCratesModel" ⟨"LuckCratesModel", "isCrate", "(I)Z"⟩ ⟨"LuckCratesModel", "isCrate", "(I)Z"⟩) ∈ lw_all := lw_g (lw_at lw_ms 82 rfl) rfl
theorem qs83 : (Cond.selects "LuckCratesModel" ⟨"LuckCratesModel", "refuses", "(I)I"⟩ ⟨"LuckCratesModel", "refuses", "(I)I"⟩) ∈ lw_all := lw_g (lw_at lw_ms 83 rfl) rfl
theorem qs84 : (Cond.selects "LuckCratesModel" ⟨"LuckCratesModel", "keeps", "()V"⟩ ⟨"LuckCratesModel", "keeps", "()V"⟩) ∈ lw_all := lw_g (lw_at lw_ms 84 rfl) rfl
theorem qs85 : (Cond.selects "LuckCratesModel" ⟨"LuckCratesModel", "dayGoes", "(I)V"⟩ ⟨"LuckCratesModel", "dayGoes", "(I)V"⟩) ∈ lw_all := lw_g (lw_at lw_ms 85 rfl) rfl
theorem qs86 : (Cond.selects "LuckCratesModel" ⟨"LuckCratesModel", "cratesGo", "(I)V"⟩ ⟨"LuckCratesModel", "cratesGo", "(I)V"⟩) ∈ lw_all := lw_g (lw_at lw_ms 86 rfl) rfl
theorem qs87 : (Cond.selects "LuckCratesModel" ⟨"LuckCratesModel", "makesLuck", "(II)V"⟩ ⟨"LuckCratesModel", "makesLuck", "(II)V"⟩) ∈ lw_all := lw_g (lw_at lw_ms 87 rfl) rfl
theorem qs88 : (Cond.selects "LuckCratesModel" ⟨"LuckCratesModel", "stakes", "(IIZ)V"⟩ ⟨"LuckCratesModel", "stakes", "(IIZ)V"⟩) ∈ lw_all := lw_g (lw_at lw_ms 88 rfl) rfl
theorem qs89 : (Cond.selects "LuckCratesModel" ⟨"LuckCratesModel", "isWay", "(I)Z"⟩ ⟨"LuckCratesModel", "isWay", "(I)Z"⟩) ∈ lw_all := lw_g (lw_at lw_ms 89 rfl) rfl
theorem qs90 : (Cond.selects "LuckCratesModel" ⟨"LuckCratesModel", "leads", "(II)I"⟩ ⟨"LuckCratesModel", "leads", "(II)I"⟩) ∈ lw_all := lw_g (lw_at lw_ms 90 rfl) rfl
theorem qs91 : (Cond.selects "LuckCratesModel" ⟨"LuckCratesModel", "opens", "(II)V"⟩ ⟨"LuckCratesModel", "opens", "(II)V"⟩) ∈ lw_all := lw_g (lw_at lw_ms 91 rfl) rfl
theorem qs92 : (Cond.selects "LuckCratesModel" ⟨"LuckCratesModel", "isDays", "(III)Z"⟩ ⟨"LuckCratesModel", "isDays", "(III)Z"⟩) ∈ lw_all := lw_g (lw_at lw_ms 92 rfl) rfl
theorem qs93 : (Cond.selects "LuckCratesModel" ⟨"LuckCratesModel", "tries", "()V"⟩ ⟨"LuckCratesModel", "tries", "()V"⟩) ∈ lw_all := lw_g (lw_at lw_ms 93 rfl) rfl
theorem qs94 : (Cond.selects "LuckCratesModel" ⟨"LuckCratesModel", "daysGo", "(I)V"⟩ ⟨"LuckCratesModel", "daysGo", "(I)V"⟩) ∈ lw_all := lw_g (lw_at lw_ms 94 rfl) rfl
theorem qs95 : (Cond.selects "LuckCratesModel" ⟨"LuckCratesModel", "measures", "(I)V"⟩ ⟨"LuckCratesModel", "measures", "(I)V"⟩) ∈ lw_all := lw_g (lw_at lw_ms 95 rfl) rfl
theorem qs96 : (Cond.selects "LuckCratesModel" ⟨"LuckCratesModel", "comesTo", "(II)I"⟩ ⟨"LuckCratesModel", "comesTo", "(II)I"⟩) ∈ lw_all := lw_g (lw_at lw_ms 96 rfl) rfl
theorem qs97 : (Cond.selects "LuckCratesModel" ⟨"LuckCratesModel", "nextOn", "(II)I"⟩ ⟨"LuckCratesModel", "nextOn", "(II)I"⟩) ∈ lw_all := lw_g (lw_at lw_ms 97 rfl) rfl
theorem qs98 : (Cond.selects "LuckCratesModel" ⟨"LuckCratesModel", "laysHold", "(I)V"⟩ ⟨"LuckCratesModel", "laysHold", "(I)V"⟩) ∈ lw_all := lw_g (lw_at lw_ms 98 rfl) rfl
theorem qs99 : (Cond.selects "LuckCratesModel" ⟨"LuckCratesModel", "harms", "(II)I"⟩ ⟨"LuckCratesModel", "harms", "(II)I"⟩) ∈ lw_all := lw_g (lw_at lw_ms 99 rfl) rfl
theorem qs100 : (Cond.selects "LuckCratesModel" ⟨"LuckCratesModel", "isSeen", "(II)Z"⟩ ⟨"LuckCratesModel", "isSeen", "(II)Z"⟩) ∈ lw_all := lw_g (lw_at lw_ms 100 rfl) rfl
theorem qs101 : (Cond.selects "LuckCratesModel" ⟨"LuckCratesModel", "isGuess", "(I)Z"⟩ ⟨"LuckCratesModel", "isGuess", "(I)Z"⟩) ∈ lw_all := lw_g (lw_at lw_ms 101 rfl) rfl
theorem qs102 : (Cond.selects "LuckCratesModel" ⟨"LuckCratesModel", "areLike", "(III)Z"⟩ ⟨"LuckCratesModel", "areLike", "(III)Z"⟩) ∈ lw_all := lw_g (lw_at lw_ms 102 rfl) rfl
theorem qs103 : (Cond.selects "LuckCratesModel" ⟨"LuckCratesModel", "gains", "(IIII)I"⟩ ⟨"LuckCratesModel", "gains", "(IIII)I"⟩) ∈ lw_all := lw_g (lw_at lw_ms 103 rfl) rfl
theorem qs104 : (Cond.selects "LuckCratesModel" ⟨"LuckCratesModel", "steals", "()V"⟩ ⟨"LuckCratesModel", "steals", "()V"⟩) ∈ lw_all := lw_g (lw_at lw_ms 104 rfl) rfl
theorem qs105 : (Cond.selects "LuckCratesModel" ⟨"LuckCratesModel", "draw", "(I)I"⟩ ⟨"LuckCratesModel", "draw", "(I)I"⟩) ∈ lw_all := lw_g (lw_at lw_ms 105 rfl) rfl
theorem qs106 : (Cond.selects "LuckCratesModel" ⟨"LuckCratesModel", "grainsOf", "(II)I"⟩ ⟨"LuckCratesModel", "grainsOf", "(II)I"⟩) ∈ lw_all := lw_g (lw_at lw_ms 106 rfl) rfl
theorem qs107 : (Cond.selects "LuckCratesModel" ⟨"LuckCratesModel", "offBy", "(II)I"⟩ ⟨"LuckCratesModel", "offBy", "(II)I"⟩) ∈ lw_all := lw_g (lw_at lw_ms 107 rfl) rfl
