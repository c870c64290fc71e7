/-- a private method of a class that the tables say can be made, by its rows of tables_1 -/
def lw_okq (q : MethodName × Nat) : Prop := (q.1.cls ≠ "java/lang/invoke/MethodHandle" ∧ q.1.cls ≠ "java/lang/invoke/VarHandle") ∧ Cond.instantiable q.1.cls q.2 ∈ tables_1 ∧ Cond.privateMethod q.1 ∈ tables_1 ∧ Cond.instanceMethod q.1 ∈ tables_1
set_option maxRecDepth 100000
theorem lw_t1 {w : Cond} (h : w ∈ tables_1_1) : w ∈ tables_1 := List.mem_append_left _ h
theorem lw_t2 {w : Cond} (h : w ∈ tables_1_2) : w ∈ tables_1 := List.mem_append_right _ (List.mem_append_left _ h)
theorem lw_t3 {w : Cond} (h : w ∈ tables_1_3) : w ∈ tables_1 := List.mem_append_right _ (List.mem_append_right _ (List.mem_append_left _ h))
theorem lw_t4 {w : Cond} (h : w ∈ tables_1_4) : w ∈ tables_1 := List.mem_append_right _ (List.mem_append_right _ (List.mem_append_right _ (List.mem_append_left _ h)))
theorem lw_t5 {w : Cond} (h : w ∈ tables_1_5) : w ∈ tables_1 := List.mem_append_right _ (List.mem_append_right _ (List.mem_append_right _ (List.mem_append_right _ (List.mem_append_left _ h))))
theorem lw_t6 {w : Cond} (h : w ∈ tables_1_6) : w ∈ tables_1 := List.mem_append_right _ (List.mem_append_right _ (List.mem_append_right _ (List.mem_append_right _ (List.mem_append_right _ (List.mem_append_left _ h)))))
theorem lw_t7 {w : Cond} (h : w ∈ tables_1_7) : w ∈ tables_1 := List.mem_append_right _ (List.mem_append_right _ (List.mem_append_right _ (List.mem_append_right _ (List.mem_append_right _ (List.mem_append_right _ (List.mem_append_left _ h))))))
theorem lw_t8 {w : Cond} (h : w ∈ tables_1_8) : w ∈ tables_1 := List.mem_append_right _ (List.mem_append_right _ (List.mem_append_right _ (List.mem_append_right _ (List.mem_append_right _ (List.mem_append_right _ (List.mem_append_right _ (List.mem_append_left _ h)))))))
theorem lw_t9 {w : Cond} (h : w ∈ tables_1_9) : w ∈ tables_1 := List.mem_append_right _ (List.mem_append_right _ (List.mem_append_right _ (List.mem_append_right _ (List.mem_append_right _ (List.mem_append_right _ (List.mem_append_right _ (List.mem_append_right _ (List.mem_append_left _ h))))))))
theorem lw_t10 {w : Cond} (h : w ∈ tables_1_10) : w ∈ tables_1 := List.mem_append_right _ (List.mem_append_right _ (List.mem_append_right _ (List.mem_append_right _ (List.mem_append_right _ (List.mem_append_right _ (List.mem_append_right _ (List.mem_append_right _ (List.mem_append_right _ h))))))))
theorem lw_p0 : lw_okq (⟨"TwinInk", "refuse", "(I)I"⟩, 14) := ⟨⟨by decide +kernel, by decide +kernel⟩, lw_t1 (List.mem_of_getElem? (i := 35) rfl), lw_t1 (List.mem_of_getElem? (i := 203) rfl), lw_t1 (List.mem_of_getElem? (i := 204) rfl)⟩
theorem lw_p1 : lw_okq (⟨"TwinInk", "keep", "()V"⟩, 14) := ⟨⟨by decide +kernel, by decide +kernel⟩, lw_t1 (List.mem_of_getElem? (i := 35) rfl), lw_t1 (List.mem_of_getElem? (i := 207) rfl), lw_t1 (List.mem_of_getElem? (i := 208) rfl)⟩
theorem lw_p2 : lw_okq (⟨"java/util/ArrayList", "add", "(Ljava/lang/Object;[Ljava/lang/Object;I)V"⟩, 3) := ⟨⟨by decide +kernel, by decide +kernel⟩, lw_t1 (List.mem_of_getElem? (i := 49) rfl), lw_t1 (List.mem_of_getElem? (i := 231) rfl), lw_t1 (List.mem_of_getElem? (i := 232) rfl)⟩
theorem lw_p3 : lw_okq (⟨"java/util/ArrayList", "grow", "()[Ljava/lang/Object;"⟩, 3) := ⟨⟨by decide +kernel, by decide +kernel⟩, lw_t1 (List.mem_of_getElem? (i := 49) rfl), lw_t1 (List.mem_of_getElem? (i := 235) rfl), lw_t1 (List.mem_of_getElem? (i := 236) rfl)⟩
theorem lw_p4 : lw_okq (⟨"java/util/ArrayList", "grow", "(I)[Ljava/lang/Object;"⟩, 3) := ⟨⟨by decide +kernel, by decide +kernel⟩, lw_t1 (List.mem_of_getElem? (i := 49) rfl), lw_t1 (List.mem_of_getElem? (i := 239) rfl), lw_t2 (List.mem_of_getElem? (i := 0) rfl)⟩
theorem lw_p5 : lw_okq (⟨"java/util/ArrayList", "fastRemove", "([Ljava/lang/Object;I)V"⟩, 3) := ⟨⟨by decide +kernel, by decide +kernel⟩, lw_t1 (List.mem_of_getElem? (i := 49) rfl), lw_t2 (List.mem_of_getElem? (i := 73) rfl), lw_t2 (List.mem_of_getElem? (i := 74) rfl)⟩
theorem lw_p6 : lw_okq (⟨"TwinInk$Service", "lays", "(II)Z"⟩, 6) := ⟨⟨by decide +kernel, by decide +kernel⟩, lw_t1 (List.mem_of_getElem? (i := 106) rfl), lw_t2 (List.mem_of_getElem? (i := 123) rfl), lw_t2 (List.mem_of_getElem? (i := 124) rfl)⟩
theorem lw_p7 : lw_okq (⟨"TwinInk$Service", "learn", "(II)V"⟩, 6) := ⟨⟨by decide +kernel, by decide +kernel⟩, lw_t1 (List.mem_of_getElem? (i := 106) rfl), lw_t3 (List.mem_of_getElem? (i := 0) rfl), lw_t3 (List.mem_of_getElem? (i := 1) rfl)⟩
theorem lw_p8 : lw_okq (⟨"TwinInk$Service", "grow", "(I)V"⟩, 6) := ⟨⟨by decide +kernel, by decide +kernel⟩, lw_t1 (List.mem_of_getElem? (i := 106) rfl), lw_t3 (List.mem_of_getElem? (i := 4) rfl), lw_t3 (List.mem_of_getElem? (i := 5) rfl)⟩
theorem lw_p9 : lw_okq (⟨"java/lang/Throwable", "fillInStackTrace", "(I)Ljava/lang/Throwable;"⟩, 6) := ⟨⟨by decide +kernel, by decide +kernel⟩, lw_t3 (List.mem_of_getElem? (i := 119) rfl), lw_t3 (List.mem_of_getElem? (i := 117) rfl), lw_t3 (List.mem_of_getElem? (i := 118) rfl)⟩
theorem lw_p10 : lw_okq (⟨"TwinInk$Reader", "next", "()V"⟩, 14) := ⟨⟨by decide +kernel, by decide +kernel⟩, lw_t3 (List.mem_of_getElem? (i := 145) rfl), lw_t3 (List.mem_of_getElem? (i := 218) rfl), lw_t3 (List.mem_of_getElem? (i := 219) rfl)⟩
theorem lw_p11 : lw_okq (⟨"TwinInk$Reader", "here", "()I"⟩, 14) := ⟨⟨by decide +kernel, by decide +kernel⟩, lw_t3 (List.mem_of_getElem? (i := 145) rfl), lw_t3 (List.mem_of_getElem? (i := 222) rfl), lw_t3 (List.mem_of_getElem? (i := 223) rfl)⟩
theorem lw_p12 : lw_okq (⟨"TwinInk$Reader", "isLetter", "()Z"⟩, 14) := ⟨⟨by decide +kernel, by decide +kernel⟩, lw_t3 (List.mem_of_getElem? (i := 145) rfl), lw_t3 (List.mem_of_getElem? (i := 226) rfl), lw_t3 (List.mem_of_getElem? (i := 227) rfl)⟩
theorem lw_p13 : lw_okq (⟨"TwinInk$Reader", "isDigit", "()Z"⟩, 14) := ⟨⟨by decide +kernel, by decide +kernel⟩, lw_t3 (List.mem_of_getElem? (i := 145) rfl), lw_t3 (List.mem_of_getElem? (i := 231) rfl), lw_t3 (List.mem_of_getElem? (i := 232) rfl)⟩
theorem lw_p14 : lw_okq (⟨"TwinInk$Reader", "line", "()V"⟩, 14) := ⟨⟨by decide +kernel, by decide +kernel⟩, lw_t3 (List.mem_of_getElem? (i := 145) rfl), lw_t4 (List.mem_of_getElem? (i := 67) rfl), lw_t4 (List.mem_of_getElem? (i := 68) rfl)⟩
theorem lw_p15 : lw_okq (⟨"TwinInk$Reader", "which", "([Ljava/lang/String;)I"⟩, 14) := ⟨⟨by decide +kernel, by decide +kernel⟩, lw_t3 (List.mem_of_getElem? (i := 145) rfl), lw_t4 (List.mem_of_getElem? (i := 71) rfl), lw_t4 (List.mem_of_getElem? (i := 72) rfl)⟩
def lw_privs_1 : List (MethodName × Nat) := [(⟨"TwinInk", "refuse", "(I)I"⟩, 14), (⟨"TwinInk", "keep", "()V"⟩, 14), (⟨"java/util/ArrayList", "add", "(Ljava/lang/Object;[Ljava/lang/Object;I)V"⟩, 3), (⟨"java/util/ArrayList", "grow", "()[Ljava/lang/Object;"⟩, 3), (⟨"java/util/ArrayList", "grow", "(I)[Ljava/lang/Object;"⟩, 3), (⟨"java/util/ArrayList", "fastRemove", "([Ljava/lang/Object;I)V"⟩, 3), (⟨"TwinInk$Service", "lays", "(II)Z"⟩, 6), (⟨"TwinInk$Service", "learn", "(II)V"⟩, 6), (⟨"TwinInk$Service", "grow", "(I)V"⟩, 6), (⟨"java/lang/Throwable", "fillInStackTrace", "(I)Ljava/lang/Throwable;"⟩, 6), (⟨"TwinInk$Reader", "next", "()V"⟩, 14), (⟨"TwinInk$Reader", "here", "()I"⟩, 14), (⟨"TwinInk$Reader", "isLetter", "()Z"⟩, 14), (⟨"TwinInk$Reader", "isDigit", "()Z"⟩, 14), (⟨"TwinInk$Reader", "line", "()V"⟩, 14), (⟨"TwinInk$Reader", "which", "([Ljava/lang/String;)I"⟩, 14)]
theorem lw_r1 : ∀ q ∈ lw_privs_1, lw_okq q := List.forall_mem_cons.mpr ⟨lw_p0, List.forall_mem_cons.mpr ⟨lw_p1, List.forall_mem_cons.mpr ⟨lw_p2, List.forall_mem_cons.mpr ⟨lw_p3, List.forall_mem_cons.mpr ⟨lw_p4, List.forall_mem_cons.mpr ⟨lw_p5, List.forall_mem_cons.mpr ⟨lw_p6, List.forall_mem_cons.mpr ⟨lw_p7, List.forall_mem_cons.mpr ⟨lw_p8, List.forall_mem_cons.mpr ⟨lw_p9, List.forall_mem_cons.mpr ⟨lw_p10, List.forall_mem_cons.mpr ⟨lw_p11, List.forall_mem_cons.mpr ⟨lw_p12, List.forall_mem_cons.mpr ⟨lw_p13, List.forall_mem_cons.mpr ⟨lw_p14, List.forall_mem_cons.mpr ⟨lw_p15, fun _ h => absurd h List.not_mem_nil⟩⟩⟩⟩⟩⟩⟩⟩⟩⟩⟩⟩⟩⟩⟩⟩
theorem lw_p16 : lw_okq (⟨"TwinInk$Reader", "is", "(Ljava/lang/String;)Z"⟩, 14) := ⟨⟨by decide +kernel, by decide +kernel⟩, lw_t3 (List.mem_of_getElem? (i := 145) rfl), lw_t4 (List.mem_of_getElem? (i := 75) rfl), lw_t4 (List.mem_of_getElem? (i := 76) rfl)⟩
theorem lw_p17 : lw_okq (⟨"TwinInk$Reader", "only", "(I)V"⟩, 14) := ⟨⟨by decide +kernel, by decide +kernel⟩, lw_t3 (List.mem_of_getElem? (i := 145) rfl), lw_t4 (List.mem_of_getElem? (i := 95) rfl), lw_t4 (List.mem_of_getElem? (i := 96) rfl)⟩
theorem lw_p18 : lw_okq (⟨"TwinInk$Reader", "want", "(ZI)V"⟩, 14) := ⟨⟨by decide +kernel, by decide +kernel⟩, lw_t3 (List.mem_of_getElem? (i := 145) rfl), lw_t4 (List.mem_of_getElem? (i := 100) rfl), lw_t4 (List.mem_of_getElem? (i := 101) rfl)⟩
theorem lw_p19 : lw_okq (⟨"TwinInk$Reader", "number", "(II)I"⟩, 14) := ⟨⟨by decide +kernel, by decide +kernel⟩, lw_t3 (List.mem_of_getElem? (i := 145) rfl), lw_t4 (List.mem_of_getElem? (i := 128) rfl), lw_t4 (List.mem_of_getElem? (i := 129) rfl)⟩
theorem lw_p20 : lw_okq (⟨"TwinInk$Reader", "numberNow", "(II)I"⟩, 14) := ⟨⟨by decide +kernel, by decide +kernel⟩, lw_t3 (List.mem_of_getElem? (i := 145) rfl), lw_t4 (List.mem_of_getElem? (i := 132) rfl), lw_t4 (List.mem_of_getElem? (i := 133) rfl)⟩
theorem lw_p21 : lw_okq (⟨"TwinInk$Reader", "expression", "(I)LTwinInk$Form;"⟩, 14) := ⟨⟨by decide +kernel, by decide +kernel⟩, lw_t3 (List.mem_of_getElem? (i := 145) rfl), lw_t4 (List.mem_of_getElem? (i := 136) rfl), lw_t4 (List.mem_of_getElem? (i := 137) rfl)⟩
theorem lw_p22 : lw_okq (⟨"TwinInk$Reader", "isSign", "(C)Z"⟩, 14) := ⟨⟨by decide +kernel, by decide +kernel⟩, lw_t3 (List.mem_of_getElem? (i := 145) rfl), lw_t4 (List.mem_of_getElem? (i := 140) rfl), lw_t4 (List.mem_of_getElem? (i := 141) rfl)⟩
theorem lw_p23 : lw_okq (⟨"TwinInk$Reader", "and", "(I)LTwinInk$Form;"⟩, 14) := ⟨⟨by decide +kernel, by decide +kernel⟩, lw_t3 (List.mem_of_getElem? (i := 145) rfl), lw_t4 (List.mem_of_getElem? (i := 146) rfl), lw_t4 (List.mem_of_getElem? (i := 147) rfl)⟩
theorem lw_p24 : lw_okq (⟨"TwinInk$Reader", "not", "(I)LTwinInk$Form;"⟩, 14) := ⟨⟨by decide +kernel, by decide +kernel⟩, lw_t3 (List.mem_of_getElem? (i := 145) rfl), lw_t4 (List.mem_of_getElem? (i := 150) rfl), lw_t4 (List.mem_of_getElem? (i := 151) rfl)⟩
theorem lw_p25 : lw_okq (⟨"TwinInk$Reader", "sum", "(I)LTwinInk$Form;"⟩, 14) := ⟨⟨by decide +kernel, by decide +kernel⟩, lw_t3 (List.mem_of_getElem? (i := 145) rfl), lw_t4 (List.mem_of_getElem? (i := 155) rfl), lw_t4 (List.mem_of_getElem? (i := 156) rfl)⟩
theorem lw_p26 : lw_okq (⟨"TwinInk$Reader", "product", "(I)LTwinInk$Form;"⟩, 14) := ⟨⟨by decide +kernel, by decide +kernel⟩, lw_t3 (List.mem_of_getElem? (i := 145) rfl), lw_t4 (List.mem_of_getElem? (i := 159) rfl), lw_t4 (List.mem_of_getElem? (i := 160) rfl)⟩
theorem lw_p27 : lw_okq (⟨"TwinInk$Reader", "part", "(I)LTwinInk$Form;"⟩, 14) := ⟨⟨by decide +kernel, by decide +kernel⟩, lw_t3 (List.mem_of_getElem? (i := 145) rfl), lw_t4 (List.mem_of_getElem? (i := 163) rfl), lw_t4 (List.mem_of_getElem? (i := 164) rfl)⟩
theorem lw_p28 : lw_okq (⟨"TwinInk$Reader", "sign", "()C"⟩, 14) := ⟨⟨by decide +kernel, by decide +kernel⟩, lw_t3 (List.mem_of_getElem? (i := 145) rfl), lw_t4 (List.mem_of_getElem? (i := 230) rfl), lw_t4 (List.mem_of_getElem? (i := 231) rfl)⟩
theorem lw_p29 : lw_okq (⟨"TwinInk$Reader", "passes", "(Ljava/lang/String;)Z"⟩, 14) := ⟨⟨by decide +kernel, by decide +kernel⟩, lw_t3 (List.mem_of_getElem? (i := 145) rfl), lw_t5 (List.mem_of_getElem? (i := 73) rfl), lw_t5 (List.mem_of_getElem? (i := 74) rfl)⟩
theorem lw_p30 : lw_okq (⟨"TwinInk$Reader", "sheet", "()V"⟩, 14) := ⟨⟨by decide +kernel, by decide +kernel⟩, lw_t3 (List.mem_of_getElem? (i := 145) rfl), lw_t5 (List.mem_of_getElem? (i := 78) rfl), lw_t5 (List.mem_of_getElem? (i := 79) rfl)⟩
theorem lw_p31 : lw_okq (⟨"TwinInk$Reader", "clerk", "()V"⟩, 14) := ⟨⟨by decide +kernel, by decide +kernel⟩, lw_t3 (List.mem_of_getElem? (i := 145) rfl), lw_t5 (List.mem_of_getElem? (i := 83) rfl), lw_t5 (List.mem_of_getElem? (i := 84) rfl)⟩
def lw_privs_2 : List (MethodName × Nat) := [(⟨"TwinInk$Reader", "is", "(Ljava/lang/String;)Z"⟩, 14), (⟨"TwinInk$Reader", "only", "(I)V"⟩, 14), (⟨"TwinInk$Reader", "want", "(ZI)V"⟩, 14), (⟨"TwinInk$Reader", "number", "(II)I"⟩, 14), (⟨"TwinInk$Reader", "numberNow", "(II)I"⟩, 14), (⟨"TwinInk$Reader", "expression", "(I)LTwinInk$Form;"⟩, 14), (⟨"TwinInk$Reader", "isSign", "(C)Z"⟩, 14), (⟨"TwinInk$Reader", "and", "(I)LTwinInk$Form;"⟩, 14), (⟨"TwinInk$Reader", "not", "(I)LTwinInk$Form;"⟩, 14), (⟨"TwinInk$Reader", "sum", "(I)LTwinInk$Form;"⟩, 14), (⟨"TwinInk$Reader", "product", "(I)LTwinInk$Form;"⟩, 14), (⟨"TwinInk$Reader", "part", "(I)LTwinInk$Form;"⟩, 14), (⟨"TwinInk$Reader", "sign", "()C"⟩, 14), (⟨"TwinInk$Reader", "passes", "(Ljava/lang/String;)Z"⟩, 14), (⟨"TwinInk$Reader", "sheet", "()V"⟩, 14), (⟨"TwinInk$Reader", "clerk", "()V"⟩, 14)]
theorem lw_r2 : ∀ q ∈ lw_privs_2, lw_okq q := List.forall_mem_cons.mpr ⟨lw_p16, List.forall_mem_cons.mpr ⟨lw_p17, List.forall_mem_cons.mpr ⟨lw_p18, List.forall_mem_cons.mpr ⟨lw_p19, List.forall_mem_cons.mpr ⟨lw_p20, List.forall_mem_cons.mpr ⟨lw_p21, List.forall_mem_cons.mpr ⟨lw_p22, List.forall_mem_cons.mpr ⟨lw_p23, List.forall_mem_cons.mpr ⟨lw_p24, List.forall_mem_cons.mpr ⟨lw_p25, List.forall_mem_cons.mpr ⟨lw_p26, List.forall_mem_cons.mpr ⟨lw_p27, List.forall_mem_cons.mpr ⟨lw_p28, List.forall_mem_cons.mpr ⟨lw_p29, List.forall_mem_cons.mpr ⟨lw_p30, List.forall_mem_cons.mpr ⟨lw_p31, fun _ h => absurd h List.not_mem_nil⟩⟩⟩⟩⟩⟩⟩⟩⟩⟩⟩⟩⟩⟩⟩⟩
theorem lw_p32 : lw_okq (⟨"TwinInk$Reader", "word", "()V"⟩, 14) := ⟨⟨by decide +kernel, by decide +kernel⟩, lw_t3 (List.mem_of_getElem? (i := 145) rfl), lw_t5 (List.mem_of_getElem? (i := 115) rfl), lw_t5 (List.mem_of_getElem? (i := 116) rfl)⟩
theorem lw_p33 : lw_okq (⟨"TwinInk$Reader", "sheetNow", "()I"⟩, 14) := ⟨⟨by decide +kernel, by decide +kernel⟩, lw_t3 (List.mem_of_getElem? (i := 145) rfl), lw_t5 (List.mem_of_getElem? (i := 119) rfl), lw_t5 (List.mem_of_getElem? (i := 120) rfl)⟩
theorem lw_p34 : lw_okq (⟨"TwinInk$Reader", "hasWord", "(II)Z"⟩, 14) := ⟨⟨by decide +kernel, by decide +kernel⟩, lw_t3 (List.mem_of_getElem? (i := 145) rfl), lw_t5 (List.mem_of_getElem? (i := 123) rfl), lw_t5 (List.mem_of_getElem? (i := 124) rfl)⟩
theorem lw_p35 : lw_okq (⟨"TwinInk", "couples", "(I)I"⟩, 14) := ⟨⟨by decide +kernel, by decide +kernel⟩, lw_t1 (List.mem_of_getElem? (i := 35) rfl), lw_t5 (List.mem_of_getElem? (i := 151) rfl), lw_t5 (List.mem_of_getElem? (i := 152) rfl)⟩
theorem lw_p36 : lw_okq (⟨"TwinInk", "aSheet", "(I)V"⟩, 14) := ⟨⟨by decide +kernel, by decide +kernel⟩, lw_t1 (List.mem_of_getElem? (i := 35) rfl), lw_t5 (List.mem_of_getElem? (i := 186) rfl), lw_t5 (List.mem_of_getElem? (i := 187) rfl)⟩
theorem lw_p37 : lw_okq (⟨"TwinInk", "aClerk", "(I)V"⟩, 14) := ⟨⟨by decide +kernel, by decide +kernel⟩, lw_t1 (List.mem_of_getElem? (i := 35) rfl), lw_t5 (List.mem_of_getElem? (i := 206) rfl), lw_t5 (List.mem_of_getElem? (i := 207) rfl)⟩
theorem lw_p38 : lw_okq (⟨"TwinInk", "aWord", "(I)V"⟩, 14) := ⟨⟨by decide +kernel, by decide +kernel⟩, lw_t1 (List.mem_of_getElem? (i := 35) rfl), lw_t5 (List.mem_of_getElem? (i := 223) rfl), lw_t5 (List.mem_of_getElem? (i := 224) rfl)⟩
theorem lw_p39 : lw_okq (⟨"TwinInk", "showsAt", "(I)I"⟩, 14) := ⟨⟨by decide +kernel, by decide +kernel⟩, lw_t1 (List.mem_of_getElem? (i := 35) rfl), lw_t5 (List.mem_of_getElem? (i := 227) rfl), lw_t5 (List.mem_of_getElem? (i := 228) rfl)⟩
theorem lw_p40 : lw_okq (⟨"TwinInk", "knowers", "(I)I"⟩, 14) := ⟨⟨by decide +kernel, by decide +kernel⟩, lw_t1 (List.mem_of_getElem? (i := 35) rfl), lw_t5 (List.mem_of_getElem? (i := 232) rfl), lw_t5 (List.mem_of_getElem? (i := 233) rfl)⟩
theorem lw_p41 : lw_okq (⟨"TwinInk", "lost", "(I)I"⟩, 14) := ⟨⟨by decide +kernel, by decide +kernel⟩, lw_t1 (List.mem_of_getElem? (i := 35) rfl), lw_t6 (List.mem_of_getElem? (i := 12) rfl), lw_t6 (List.mem_of_getElem? (i := 13) rfl)⟩
theorem lw_p42 : lw_okq (⟨"TwinInk", "dead", "(I)I"⟩, 14) := ⟨⟨by decide +kernel, by decide +kernel⟩, lw_t1 (List.mem_of_getElem? (i := 35) rfl), lw_t6 (List.mem_of_getElem? (i := 16) rfl), lw_t6 (List.mem_of_getElem? (i := 17) rfl)⟩
theorem lw_p43 : lw_okq (⟨"TwinInk", "isDead", "(II)Z"⟩, 14) := ⟨⟨by decide +kernel, by decide +kernel⟩, lw_t1 (List.mem_of_getElem? (i := 35) rfl), lw_t6 (List.mem_of_getElem? (i := 20) rfl), lw_t6 (List.mem_of_getElem? (i := 21) rfl)⟩
theorem lw_p44 : lw_okq (⟨"TwinInk", "later", "(I)LTwinInk$Service;"⟩, 14) := ⟨⟨by decide +kernel, by decide +kernel⟩, lw_t1 (List.mem_of_getElem? (i := 35) rfl), lw_t6 (List.mem_of_getElem? (i := 69) rfl), lw_t6 (List.mem_of_getElem? (i := 70) rfl)⟩
theorem lw_p45 : lw_okq (⟨"TwinInk", "knows", "(IIZ)I"⟩, 14) := ⟨⟨by decide +kernel, by decide +kernel⟩, lw_t1 (List.mem_of_getElem? (i := 35) rfl), lw_t6 (List.mem_of_getElem? (i := 88) rfl), lw_t6 (List.mem_of_getElem? (i := 89) rfl)⟩
theorem lw_p46 : lw_okq (⟨"TwinInk", "rows", "()[[I"⟩, 14) := ⟨⟨by decide +kernel, by decide +kernel⟩, lw_t1 (List.mem_of_getElem? (i := 35) rfl), lw_t6 (List.mem_of_getElem? (i := 133) rfl), lw_t6 (List.mem_of_getElem? (i := 134) rfl)⟩
theorem lw_p47 : lw_okq (⟨"TwinInk", "isSo", "()Z"⟩, 14) := ⟨⟨by decide +kernel, by decide +kernel⟩, lw_t1 (List.mem_of_getElem? (i := 35) rfl), lw_t6 (List.mem_of_getElem? (i := 175) rfl), lw_t6 (List.mem_of_getElem? (i := 176) rfl)⟩
def lw_privs_3 : List (MethodName × Nat) := [(⟨"TwinInk$Reader", "word", "()V"⟩, 14), (⟨"TwinInk$Reader", "sheetNow", "()I"⟩, 14), (⟨"TwinInk$Reader", "hasWord", "(II)Z"⟩, 14), (⟨"TwinInk", "couples", "(I)I"⟩, 14), (⟨"TwinInk", "aSheet", "(I)V"⟩, 14), (⟨"TwinInk", "aClerk", "(I)V"⟩, 14), (⟨"TwinInk", "aWord", "(I)V"⟩, 14), (⟨"TwinInk", "showsAt", "(I)I"⟩, 14), (⟨"TwinInk", "knowers", "(I)I"⟩, 14), (⟨"TwinInk", "lost", "(I)I"⟩, 14), (⟨"TwinInk", "dead", "(I)I"⟩, 14), (⟨"TwinInk", "isDead", "(II)Z"⟩, 14), (⟨"TwinInk", "later", "(I)LTwinInk$Service;"⟩, 14), (⟨"TwinInk", "knows", "(IIZ)I"⟩, 14), (⟨"TwinInk", "rows", "()[[I"⟩, 14), (⟨"TwinInk", "isSo", "()Z"⟩, 14)]
theorem lw_r3 : ∀ q ∈ lw_privs_3, lw_okq q := List.forall_mem_cons.mpr ⟨lw_p32, List.forall_mem_cons.mpr ⟨lw_p33, List.forall_mem_cons.mpr ⟨lw_p34, List.forall_mem_cons.mpr ⟨lw_p35, List.forall_mem_cons.mpr ⟨lw_p36, List.forall_mem_cons.mpr ⟨lw_p37, List.forall_mem_cons.mpr ⟨lw_p38, List.forall_mem_cons.mpr ⟨lw_p39, List.forall_mem_cons.mpr ⟨lw_p40, List.forall_mem_cons.mpr ⟨lw_p41, List.forall_mem_cons.mpr ⟨lw_p42, List.forall_mem_cons.mpr ⟨lw_p43, List.forall_mem_cons.mpr ⟨lw_p44, List.forall_mem_cons.mpr ⟨lw_p45, List.forall_mem_cons.mpr ⟨lw_p46, List.forall_mem_cons.mpr ⟨lw_p47, fun _ h => absurd h List.not_mem_nil⟩⟩⟩⟩⟩⟩⟩⟩⟩⟩⟩⟩⟩⟩⟩⟩
theorem lw_p48 : lw_okq (⟨"TwinInk", "others", "()Ljava/util/List;"⟩, 14) := ⟨⟨by decide +kernel, by decide +kernel⟩, lw_t1 (List.mem_of_getElem? (i := 35) rfl), lw_t6 (List.mem_of_getElem? (i := 179) rfl), lw_t6 (List.mem_of_getElem? (i := 180) rfl)⟩
theorem lw_p49 : lw_okq (⟨"TwinInk", "gain", "(IIII)I"⟩, 14) := ⟨⟨by decide +kernel, by decide +kernel⟩, lw_t1 (List.mem_of_getElem? (i := 35) rfl), lw_t6 (List.mem_of_getElem? (i := 207) rfl), lw_t6 (List.mem_of_getElem? (i := 208) rfl)⟩
theorem lw_p50 : lw_okq (⟨"TwinInk", "news", "(III)I"⟩, 14) := ⟨⟨by decide +kernel, by decide +kernel⟩, lw_t1 (List.mem_of_getElem? (i := 35) rfl), lw_t6 (List.mem_of_getElem? (i := 211) rfl), lw_t6 (List.mem_of_getElem? (i := 212) rfl)⟩
theorem lw_p51 : lw_okq (⟨"TwinInk", "befalls", "()V"⟩, 14) := ⟨⟨by decide +kernel, by decide +kernel⟩, lw_t1 (List.mem_of_getElem? (i := 35) rfl), lw_t6 (List.mem_of_getElem? (i := 223) rfl), lw_t6 (List.mem_of_getElem? (i := 224) rfl)⟩
theorem lw_p52 : lw_okq (⟨"TwinInk", "draw", "(I)I"⟩, 14) := ⟨⟨by decide +kernel, by decide +kernel⟩, lw_t1 (List.mem_of_getElem? (i := 35) rfl), lw_t6 (List.mem_of_getElem? (i := 227) rfl), lw_t6 (List.mem_of_getElem? (i := 228) rfl)⟩
theorem lw_p53 : lw_okq (⟨"TwinInk", "orphans", "()I"⟩, 14) := ⟨⟨by decide +kernel, by decide +kernel⟩, lw_t1 (List.mem_of_getElem? (i := 35) rfl), lw_t7 (List.mem_of_getElem? (i := 21) rfl), lw_t7 (List.mem_of_getElem? (i := 22) rfl)⟩
theorem lw_p54 : lw_okq (⟨"TwinInk", "strangers", "()I"⟩, 14) := ⟨⟨by decide +kernel, by decide +kernel⟩, lw_t1 (List.mem_of_getElem? (i := 35) rfl), lw_t7 (List.mem_of_getElem? (i := 25) rfl), lw_t7 (List.mem_of_getElem? (i := 26) rfl)⟩
theorem lw_p55 : lw_okq (⟨"TwinInk", "isTold", "(II)Z"⟩, 14) := ⟨⟨by decide +kernel, by decide +kernel⟩, lw_t1 (List.mem_of_getElem? (i := 35) rfl), lw_t7 (List.mem_of_getElem? (i := 29) rfl), lw_t7 (List.mem_of_getElem? (i := 30) rfl)⟩
theorem lw_p56 : lw_okq (⟨"TwinInk", "allKnown", "()I"⟩, 14) := ⟨⟨by decide +kernel, by decide +kernel⟩, lw_t1 (List.mem_of_getElem? (i := 35) rfl), lw_t7 (List.mem_of_getElem? (i := 61) rfl), lw_t7 (List.mem_of_getElem? (i := 62) rfl)⟩
theorem lw_p57 : lw_okq (⟨"TwinInkModel", "lays", "(I)V"⟩, 62) := ⟨⟨by decide +kernel, by decide +kernel⟩, lw_t7 (List.mem_of_getElem? (i := 65) rfl), lw_t8 (List.mem_of_getElem? (i := 27) rfl), lw_t8 (List.mem_of_getElem? (i := 28) rfl)⟩
theorem lw_p58 : lw_okq (⟨"TwinInkModel", "right", "(ZI)Z"⟩, 62) := ⟨⟨by decide +kernel, by decide +kernel⟩, lw_t7 (List.mem_of_getElem? (i := 65) rfl), lw_t8 (List.mem_of_getElem? (i := 35) rfl), lw_t8 (List.mem_of_getElem? (i := 36) rfl)⟩
theorem lw_p59 : lw_okq (⟨"TwinInkModel", "goes", "()V"⟩, 62) := ⟨⟨by decide +kernel, by decide +kernel⟩, lw_t7 (List.mem_of_getElem? (i := 65) rfl), lw_t8 (List.mem_of_getElem? (i := 39) rfl), lw_t8 (List.mem_of_getElem? (i := 40) rfl)⟩
theorem lw_p60 : lw_okq (⟨"TwinInkModel", "byteAt", "(I)I"⟩, 62) := ⟨⟨by decide +kernel, by decide +kernel⟩, lw_t7 (List.mem_of_getElem? (i := 65) rfl), lw_t8 (List.mem_of_getElem? (i := 43) rfl), lw_t8 (List.mem_of_getElem? (i := 44) rfl)⟩
theorem lw_p61 : lw_okq (⟨"TwinInkModel", "isGood", "()Z"⟩, 62) := ⟨⟨by decide +kernel, by decide +kernel⟩, lw_t7 (List.mem_of_getElem? (i := 65) rfl), lw_t8 (List.mem_of_getElem? (i := 53) rfl), lw_t8 (List.mem_of_getElem? (i := 54) rfl)⟩
theorem lw_p62 : lw_okq (⟨"TwinInkModel", "line", "()V"⟩, 62) := ⟨⟨by decide +kernel, by decide +kernel⟩, lw_t7 (List.mem_of_getElem? (i := 65) rfl), lw_t8 (List.mem_of_getElem? (i := 57) rfl), lw_t8 (List.mem_of_getElem? (i := 58) rfl)⟩
theorem lw_p63 : lw_okq (⟨"TwinInkModel", "knownWord", "()I"⟩, 62) := ⟨⟨by decide +kernel, by decide +kernel⟩, lw_t7 (List.mem_of_getElem? (i := 65) rfl), lw_t8 (List.mem_of_getElem? (i := 61) rfl), lw_t8 (List.mem_of_getElem? (i := 62) rfl)⟩
def lw_privs_4 : List (MethodName × Nat) := [(⟨"TwinInk", "others", "()Ljava/util/List;"⟩, 14), (⟨"TwinInk", "gain", "(IIII)I"⟩, 14), (⟨"TwinInk", "news", "(III)I"⟩, 14), (⟨"TwinInk", "befalls", "()V"⟩, 14), (⟨"TwinInk", "draw", "(I)I"⟩, 14), (⟨"TwinInk", "orphans", "()I"⟩, 14), (⟨"TwinInk", "strangers", "()I"⟩, 14), (⟨"TwinInk", "isTold", "(II)Z"⟩, 14), (⟨"TwinInk", "allKnown", "()I"⟩, 14), (⟨"TwinInkModel", "lays", "(I)V"⟩, 62), (⟨"TwinInkModel", "right", "(ZI)Z"⟩, 62), (⟨"TwinInkModel", "goes", "()V"⟩, 62), (⟨"TwinInkModel", "byteAt", "(I)I"⟩, 62), (⟨"TwinInkModel", "isGood", "()Z"⟩, 62), (⟨"TwinInkModel", "line", "()V"⟩, 62), (⟨"TwinInkModel", "knownWord", "()I"⟩, 62)]
theorem lw_r4 : ∀ q ∈ lw_privs_4, lw_okq q := List.forall_mem_cons.mpr ⟨lw_p48, List.forall_mem_cons.mpr ⟨lw_p49, List.forall_mem_cons.mpr ⟨lw_p50, List.forall_mem_cons.mpr ⟨lw_p51, List.forall_mem_cons.mpr ⟨lw_p52, List.forall_mem_cons.mpr ⟨lw_p53, List.forall_mem_cons.mpr ⟨lw_p54, List.forall_mem_cons.mpr ⟨lw_p55, List.forall_mem_cons.mpr ⟨lw_p56, List.forall_mem_cons.mpr ⟨lw_p57, List.forall_mem_cons.mpr ⟨lw_p58, List.forall_mem_cons.mpr ⟨lw_p59, List.forall_mem_cons.mpr ⟨lw_p60, List.forall_mem_cons.mpr ⟨lw_p61, List.forall_mem_cons.mpr ⟨lw_p62, List.forall_mem_cons.mpr ⟨lw_p63, fun _ h => absurd h List.not_mem_nil⟩⟩⟩⟩⟩⟩⟩⟩⟩⟩⟩⟩⟩⟩⟩⟩
theorem lw_p64 : lw_okq (⟨"TwinInkModel", "begins", "(ZZ)Z"⟩, 62) := ⟨⟨by decide +kernel, by decide +kernel⟩, lw_t7 (List.mem_of_getElem? (i := 65) rfl), lw_t8 (List.mem_of_getElem? (i := 72) rfl), lw_t8 (List.mem_of_getElem? (i := 73) rfl)⟩
theorem lw_p65 : lw_okq (⟨"TwinInkModel", "wrong", "(I)V"⟩, 62) := ⟨⟨by decide +kernel, by decide +kernel⟩, lw_t7 (List.mem_of_getElem? (i := 65) rfl), lw_t8 (List.mem_of_getElem? (i := 76) rfl), lw_t8 (List.mem_of_getElem? (i := 77) rfl)⟩
theorem lw_p66 : lw_okq (⟨"TwinInkModel", "readsSheet", "()V"⟩, 62) := ⟨⟨by decide +kernel, by decide +kernel⟩, lw_t7 (List.mem_of_getElem? (i := 65) rfl), lw_t8 (List.mem_of_getElem? (i := 80) rfl), lw_t8 (List.mem_of_getElem? (i := 81) rfl)⟩
theorem lw_p67 : lw_okq (⟨"TwinInkModel", "number", "(II)I"⟩, 62) := ⟨⟨by decide +kernel, by decide +kernel⟩, lw_t7 (List.mem_of_getElem? (i := 65) rfl), lw_t8 (List.mem_of_getElem? (i := 84) rfl), lw_t8 (List.mem_of_getElem? (i := 85) rfl)⟩
theorem lw_p68 : lw_okq (⟨"TwinInkModel", "readsClerk", "()V"⟩, 62) := ⟨⟨by decide +kernel, by decide +kernel⟩, lw_t7 (List.mem_of_getElem? (i := 65) rfl), lw_t8 (List.mem_of_getElem? (i := 88) rfl), lw_t8 (List.mem_of_getElem? (i := 89) rfl)⟩
theorem lw_p69 : lw_okq (⟨"TwinInkModel", "readsWord", "()V"⟩, 62) := ⟨⟨by decide +kernel, by decide +kernel⟩, lw_t7 (List.mem_of_getElem? (i := 65) rfl), lw_t8 (List.mem_of_getElem? (i := 92) rfl), lw_t8 (List.mem_of_getElem? (i := 93) rfl)⟩
theorem lw_p70 : lw_okq (⟨"TwinInkModel", "amongHere", "(I)Z"⟩, 62) := ⟨⟨by decide +kernel, by decide +kernel⟩, lw_t7 (List.mem_of_getElem? (i := 65) rfl), lw_t8 (List.mem_of_getElem? (i := 96) rfl), lw_t8 (List.mem_of_getElem? (i := 97) rfl)⟩
theorem lw_p71 : lw_okq (⟨"TwinInkModel", "isWordOf", "(II)Z"⟩, 62) := ⟨⟨by decide +kernel, by decide +kernel⟩, lw_t7 (List.mem_of_getElem? (i := 65) rfl), lw_t8 (List.mem_of_getElem? (i := 100) rfl), lw_t8 (List.mem_of_getElem? (i := 101) rfl)⟩
theorem lw_p72 : lw_okq (⟨"TwinInkModel", "expression", "(II)V"⟩, 62) := ⟨⟨by decide +kernel, by decide +kernel⟩, lw_t7 (List.mem_of_getElem? (i := 65) rfl), lw_t8 (List.mem_of_getElem? (i := 104) rfl), lw_t8 (List.mem_of_getElem? (i := 105) rfl)⟩
theorem lw_p73 : lw_okq (⟨"TwinInkModel", "deeper", "()V"⟩, 62) := ⟨⟨by decide +kernel, by decide +kernel⟩, lw_t7 (List.mem_of_getElem? (i := 65) rfl), lw_t8 (List.mem_of_getElem? (i := 108) rfl), lw_t8 (List.mem_of_getElem? (i := 109) rfl)⟩
theorem lw_p74 : lw_okq (⟨"TwinInkModel", "isSign", "(I)Z"⟩, 62) := ⟨⟨by decide +kernel, by decide +kernel⟩, lw_t7 (List.mem_of_getElem? (i := 65) rfl), lw_t8 (List.mem_of_getElem? (i := 112) rfl), lw_t8 (List.mem_of_getElem? (i := 113) rfl)⟩
theorem lw_p75 : lw_okq (⟨"TwinInkModel", "operand", "(Z)V"⟩, 62) := ⟨⟨by decide +kernel, by decide +kernel⟩, lw_t7 (List.mem_of_getElem? (i := 65) rfl), lw_t8 (List.mem_of_getElem? (i := 116) rfl), lw_t8 (List.mem_of_getElem? (i := 117) rfl)⟩
theorem lw_p76 : lw_okq (⟨"TwinInkModel", "waitsFor", "(I)V"⟩, 62) := ⟨⟨by decide +kernel, by decide +kernel⟩, lw_t7 (List.mem_of_getElem? (i := 65) rfl), lw_t8 (List.mem_of_getElem? (i := 120) rfl), lw_t8 (List.mem_of_getElem? (i := 121) rfl)⟩
theorem lw_p77 : lw_okq (⟨"TwinInkModel", "part", "()V"⟩, 62) := ⟨⟨by decide +kernel, by decide +kernel⟩, lw_t7 (List.mem_of_getElem? (i := 65) rfl), lw_t8 (List.mem_of_getElem? (i := 124) rfl), lw_t8 (List.mem_of_getElem? (i := 125) rfl)⟩
theorem lw_p78 : lw_okq (⟨"TwinInkModel", "puts", "(I)V"⟩, 62) := ⟨⟨by decide +kernel, by decide +kernel⟩, lw_t7 (List.mem_of_getElem? (i := 65) rfl), lw_t8 (List.mem_of_getElem? (i := 128) rfl), lw_t8 (List.mem_of_getElem? (i := 129) rfl)⟩
theorem lw_p79 : lw_okq (⟨"TwinInkModel", "drops", "(I)V"⟩, 62) := ⟨⟨by decide +kernel, by decide +kernel⟩, lw_t7 (List.mem_of_getElem? (i := 65) rfl), lw_t8 (List.mem_of_getElem? (i := 132) rfl), lw_t8 (List.mem_of_getElem? (i := 133) rfl)⟩
def lw_privs_5 : List (MethodName × Nat) := [(⟨"TwinInkModel", "begins", "(ZZ)Z"⟩, 62), (⟨"TwinInkModel", "wrong", "(I)V"⟩, 62), (⟨"TwinInkModel", "readsSheet", "()V"⟩, 62), (⟨"TwinInkModel", "number", "(II)I"⟩, 62), (⟨"TwinInkModel", "readsClerk", "()V"⟩, 62), (⟨"TwinInkModel", "readsWord", "()V"⟩, 62), (⟨"TwinInkModel", "amongHere", "(I)Z"⟩, 62), (⟨"TwinInkModel", "isWordOf", "(II)Z"⟩, 62), (⟨"TwinInkModel", "expression", "(II)V"⟩, 62), (⟨"TwinInkModel", "deeper", "()V"⟩, 62), (⟨"TwinInkModel", "isSign", "(I)Z"⟩, 62), (⟨"TwinInkModel", "operand", "(Z)V"⟩, 62), (⟨"TwinInkModel", "waitsFor", "(I)V"⟩, 62), (⟨"TwinInkModel", "part", "()V"⟩, 62), (⟨"TwinInkModel", "puts", "(I)V"⟩, 62), (⟨"TwinInkModel", "drops", "(I)V"⟩, 62)]
theorem lw_r5 : ∀ q ∈ lw_privs_5, lw_okq q := List.forall_mem_cons.mpr ⟨lw_p64, List.forall_mem_cons.mpr ⟨lw_p65, List.forall_mem_cons.mpr ⟨lw_p66, List.forall_mem_cons.mpr ⟨lw_p67, List.forall_mem_cons.mpr ⟨lw_p68, List.forall_mem_cons.mpr ⟨lw_p69, List.forall_mem_cons.mpr ⟨lw_p70, List.forall_mem_cons.mpr ⟨lw_p71, List.forall_mem_cons.mpr ⟨lw_p72, List.forall_mem_cons.mpr ⟨lw_p73, List.forall_mem_cons.mpr ⟨lw_p74, List.forall_mem_cons.mpr ⟨lw_p75, List.forall_mem_cons.mpr ⟨lw_p76, List.forall_mem_cons.mpr ⟨lw_p77, List.forall_mem_cons.mpr ⟨lw_p78, List.forall_mem_cons.mpr ⟨lw_p79, fun _ h => absurd h List.not_mem_nil⟩⟩⟩⟩⟩⟩⟩⟩⟩⟩⟩⟩⟩⟩⟩⟩
theorem lw_p80 : lw_okq (⟨"TwinInkModel", "isOpened", "()Z"⟩, 62) := ⟨⟨by decide +kernel, by decide +kernel⟩, lw_t7 (List.mem_of_getElem? (i := 65) rfl), lw_t8 (List.mem_of_getElem? (i := 142) rfl), lw_t8 (List.mem_of_getElem? (i := 143) rfl)⟩
theorem lw_p81 : lw_okq (⟨"TwinInkModel", "closes", "()V"⟩, 62) := ⟨⟨by decide +kernel, by decide +kernel⟩, lw_t7 (List.mem_of_getElem? (i := 65) rfl), lw_t8 (List.mem_of_getElem? (i := 146) rfl), lw_t8 (List.mem_of_getElem? (i := 147) rfl)⟩
theorem lw_p82 : lw_okq (⟨"TwinInkModel", "need", "(Z)V"⟩, 62) := ⟨⟨by decide +kernel, by decide +kernel⟩, lw_t7 (List.mem_of_getElem? (i := 65) rfl), lw_t8 (List.mem_of_getElem? (i := 150) rfl), lw_t8 (List.mem_of_getElem? (i := 151) rfl)⟩
theorem lw_p83 : lw_okq (⟨"TwinInkModel", "copies", "([I[I)V"⟩, 62) := ⟨⟨by decide +kernel, by decide +kernel⟩, lw_t7 (List.mem_of_getElem? (i := 65) rfl), lw_t8 (List.mem_of_getElem? (i := 154) rfl), lw_t8 (List.mem_of_getElem? (i := 155) rfl)⟩
theorem lw_p84 : lw_okq (⟨"TwinInkModel", "burntOnes", "()I"⟩, 62) := ⟨⟨by decide +kernel, by decide +kernel⟩, lw_t7 (List.mem_of_getElem? (i := 65) rfl), lw_t8 (List.mem_of_getElem? (i := 173) rfl), lw_t8 (List.mem_of_getElem? (i := 174) rfl)⟩
theorem lw_p85 : lw_okq (⟨"TwinInkModel", "isBurnt", "(II)Z"⟩, 62) := ⟨⟨by decide +kernel, by decide +kernel⟩, lw_t7 (List.mem_of_getElem? (i := 65) rfl), lw_t8 (List.mem_of_getElem? (i := 177) rfl), lw_t8 (List.mem_of_getElem? (i := 178) rfl)⟩
theorem lw_p86 : lw_okq (⟨"TwinInkModel", "borneOnes", "(I)I"⟩, 62) := ⟨⟨by decide +kernel, by decide +kernel⟩, lw_t7 (List.mem_of_getElem? (i := 65) rfl), lw_t8 (List.mem_of_getElem? (i := 181) rfl), lw_t8 (List.mem_of_getElem? (i := 182) rfl)⟩
theorem lw_p87 : lw_okq (⟨"TwinInkModel", "everybody", "()I"⟩, 62) := ⟨⟨by decide +kernel, by decide +kernel⟩, lw_t7 (List.mem_of_getElem? (i := 65) rfl), lw_t8 (List.mem_of_getElem? (i := 185) rfl), lw_t8 (List.mem_of_getElem? (i := 186) rfl)⟩
theorem lw_p88 : lw_okq (⟨"TwinInkModel", "knownBy", "(II)I"⟩, 62) := ⟨⟨by decide +kernel, by decide +kernel⟩, lw_t7 (List.mem_of_getElem? (i := 65) rfl), lw_t8 (List.mem_of_getElem? (i := 189) rfl), lw_t8 (List.mem_of_getElem? (i := 190) rfl)⟩
theorem lw_p89 : lw_okq (⟨"TwinInkModel", "couples", "()I"⟩, 62) := ⟨⟨by decide +kernel, by decide +kernel⟩, lw_t7 (List.mem_of_getElem? (i := 65) rfl), lw_t8 (List.mem_of_getElem? (i := 193) rfl), lw_t8 (List.mem_of_getElem? (i := 194) rfl)⟩
theorem lw_p90 : lw_okq (⟨"TwinInkModel", "doesFit", "(III)Z"⟩, 62) := ⟨⟨by decide +kernel, by decide +kernel⟩, lw_t7 (List.mem_of_getElem? (i := 65) rfl), lw_t8 (List.mem_of_getElem? (i := 197) rfl), lw_t8 (List.mem_of_getElem? (i := 198) rfl)⟩
theorem lw_p91 : lw_okq (⟨"TwinInkModel", "offBy", "(III)I"⟩, 62) := ⟨⟨by decide +kernel, by decide +kernel⟩, lw_t7 (List.mem_of_getElem? (i := 65) rfl), lw_t8 (List.mem_of_getElem? (i := 201) rfl), lw_t8 (List.mem_of_getElem? (i := 202) rfl)⟩
theorem lw_p92 : lw_okq (⟨"TwinInkModel", "isSheet", "(I)Z"⟩, 62) := ⟨⟨by decide +kernel, by decide +kernel⟩, lw_t7 (List.mem_of_getElem? (i := 65) rfl), lw_t8 (List.mem_of_getElem? (i := 215) rfl), lw_t8 (List.mem_of_getElem? (i := 216) rfl)⟩
theorem lw_p93 : lw_okq (⟨"TwinInkModel", "isWhat", "(II)Z"⟩, 62) := ⟨⟨by decide +kernel, by decide +kernel⟩, lw_t7 (List.mem_of_getElem? (i := 65) rfl), lw_t8 (List.mem_of_getElem? (i := 219) rfl), lw_t8 (List.mem_of_getElem? (i := 220) rfl)⟩
theorem lw_p94 : lw_okq (⟨"TwinInkModel", "sheetIn", "(II)I"⟩, 62) := ⟨⟨by decide +kernel, by decide +kernel⟩, lw_t7 (List.mem_of_getElem? (i := 65) rfl), lw_t8 (List.mem_of_getElem? (i := 223) rfl), lw_t8 (List.mem_of_getElem? (i := 224) rfl)⟩
theorem lw_p95 : lw_okq (⟨"TwinInkModel", "clerkIn", "(II)I"⟩, 62) := ⟨⟨by decide +kernel, by decide +kernel⟩, lw_t7 (List.mem_of_getElem? (i := 65) rfl), lw_t8 (List.mem_of_getElem? (i := 227) rfl), lw_t8 (List.mem_of_getElem? (i := 228) rfl)⟩
def lw_privs_6 : List (MethodName × Nat) := [(⟨"TwinInkModel", "isOpened", "()Z"⟩, 62), (⟨"TwinInkModel", "closes", "()V"⟩, 62), (⟨"TwinInkModel", "need", "(Z)V"⟩, 62), (⟨"TwinInkModel", "copies", "([I[I)V"⟩, 62), (⟨"TwinInkModel", "burntOnes", "()I"⟩, 62), (⟨"TwinInkModel", "isBurnt", "(II)Z"⟩, 62), (⟨"TwinInkModel", "borneOnes", "(I)I"⟩, 62), (⟨"TwinInkModel", "everybody", "()I"⟩, 62), (⟨"TwinInkModel", "knownBy", "(II)I"⟩, 62), (⟨"TwinInkModel", "couples", "()I"⟩, 62), (⟨"TwinInkModel", "doesFit", "(III)Z"⟩, 62), (⟨"TwinInkModel", "offBy", "(III)I"⟩, 62), (⟨"TwinInkModel", "isSheet", "(I)Z"⟩, 62), (⟨"TwinInkModel", "isWhat", "(II)Z"⟩, 62), (⟨"TwinInkModel", "sheetIn", "(II)I"⟩, 62), (⟨"TwinInkModel", "clerkIn", "(II)I"⟩, 62)]
theorem lw_r6 : ∀ q ∈ lw_privs_6, lw_okq q := List.forall_mem_cons.mpr ⟨lw_p80, List.forall_mem_cons.mpr ⟨lw_p81, List.forall_mem_cons.mpr ⟨lw_p82, List.forall_mem_cons.mpr ⟨lw_p83, List.forall_mem_cons.mpr ⟨lw_p84, List.forall_mem_cons.mpr ⟨lw_p85, List.forall_mem_cons.mpr ⟨lw_p86, List.forall_mem_cons.mpr ⟨lw_p87, List.forall_mem_cons.mpr ⟨lw_p88, List.forall_mem_cons.mpr ⟨lw_p89, List.forall_mem_cons.mpr ⟨lw_p90, List.forall_mem_cons.mpr ⟨lw_p91, List.forall_mem_cons.mpr ⟨lw_p92, List.forall_mem_cons.mpr ⟨lw_p93, List.forall_mem_cons.mpr ⟨lw_p94, List.forall_mem_cons.mpr ⟨lw_p95, fun _ h => absurd h List.not_mem_nil⟩⟩⟩⟩⟩⟩⟩⟩⟩⟩⟩⟩⟩⟩⟩⟩
theorem lw_p96 : lw_okq (⟨"TwinInkModel", "townOn", "(II)I"⟩, 62) := ⟨⟨by decide +kernel, by decide +kernel⟩, lw_t7 (List.mem_of_getElem? (i := 65) rfl), lw_t8 (List.mem_of_getElem? (i := 231) rfl), lw_t8 (List.mem_of_getElem? (i := 232) rfl)⟩
theorem lw_p97 : lw_okq (⟨"TwinInkModel", "fitting", "(I)I"⟩, 62) := ⟨⟨by decide +kernel, by decide +kernel⟩, lw_t7 (List.mem_of_getElem? (i := 65) rfl), lw_t8 (List.mem_of_getElem? (i := 235) rfl), lw_t8 (List.mem_of_getElem? (i := 236) rfl)⟩
theorem lw_p98 : lw_okq (⟨"TwinInkModel", "isClerk", "(I)Z"⟩, 62) := ⟨⟨by decide +kernel, by decide +kernel⟩, lw_t7 (List.mem_of_getElem? (i := 65) rfl), lw_t9 (List.mem_of_getElem? (i := 3) rfl), lw_t9 (List.mem_of_getElem? (i := 4) rfl)⟩
theorem lw_p99 : lw_okq (⟨"TwinInkModel", "isWord", "(I)Z"⟩, 62) := ⟨⟨by decide +kernel, by decide +kernel⟩, lw_t7 (List.mem_of_getElem? (i := 65) rfl), lw_t9 (List.mem_of_getElem? (i := 11) rfl), lw_t9 (List.mem_of_getElem? (i := 12) rfl)⟩
theorem lw_p100 : lw_okq (⟨"TwinInkModel", "showsWhere", "(I)I"⟩, 62) := ⟨⟨by decide +kernel, by decide +kernel⟩, lw_t7 (List.mem_of_getElem? (i := 65) rfl), lw_t9 (List.mem_of_getElem? (i := 15) rfl), lw_t9 (List.mem_of_getElem? (i := 16) rfl)⟩
theorem lw_p101 : lw_okq (⟨"TwinInkModel", "showsIn", "(II)I"⟩, 62) := ⟨⟨by decide +kernel, by decide +kernel⟩, lw_t7 (List.mem_of_getElem? (i := 65) rfl), lw_t9 (List.mem_of_getElem? (i := 19) rfl), lw_t9 (List.mem_of_getElem? (i := 20) rfl)⟩
theorem lw_p102 : lw_okq (⟨"TwinInkModel", "sheetsAt", "(II)I"⟩, 62) := ⟨⟨by decide +kernel, by decide +kernel⟩, lw_t7 (List.mem_of_getElem? (i := 65) rfl), lw_t9 (List.mem_of_getElem? (i := 23) rfl), lw_t9 (List.mem_of_getElem? (i := 24) rfl)⟩
theorem lw_p103 : lw_okq (⟨"TwinInkModel", "knowers", "(II)I"⟩, 62) := ⟨⟨by decide +kernel, by decide +kernel⟩, lw_t7 (List.mem_of_getElem? (i := 65) rfl), lw_t9 (List.mem_of_getElem? (i := 27) rfl), lw_t9 (List.mem_of_getElem? (i := 28) rfl)⟩
theorem lw_p104 : lw_okq (⟨"TwinInkModel", "isTown", "(I)Z"⟩, 62) := ⟨⟨by decide +kernel, by decide +kernel⟩, lw_t7 (List.mem_of_getElem? (i := 65) rfl), lw_t9 (List.mem_of_getElem? (i := 35) rfl), lw_t9 (List.mem_of_getElem? (i := 36) rfl)⟩
theorem lw_p105 : lw_okq (⟨"TwinInkModel", "archive", "(I)I"⟩, 62) := ⟨⟨by decide +kernel, by decide +kernel⟩, lw_t7 (List.mem_of_getElem? (i := 65) rfl), lw_t9 (List.mem_of_getElem? (i := 39) rfl), lw_t9 (List.mem_of_getElem? (i := 40) rfl)⟩
theorem lw_p106 : lw_okq (⟨"TwinInkModel", "clerksAt", "(II)I"⟩, 62) := ⟨⟨by decide +kernel, by decide +kernel⟩, lw_t7 (List.mem_of_getElem? (i := 65) rfl), lw_t9 (List.mem_of_getElem? (i := 43) rfl), lw_t9 (List.mem_of_getElem? (i := 44) rfl)⟩
theorem lw_p107 : lw_okq (⟨"TwinInkModel", "lostBy", "(I)I"⟩, 62) := ⟨⟨by decide +kernel, by decide +kernel⟩, lw_t7 (List.mem_of_getElem? (i := 65) rfl), lw_t9 (List.mem_of_getElem? (i := 47) rfl), lw_t9 (List.mem_of_getElem? (i := 48) rfl)⟩
theorem lw_p108 : lw_okq (⟨"TwinInkModel", "isWhole", "(I)Z"⟩, 62) := ⟨⟨by decide +kernel, by decide +kernel⟩, lw_t7 (List.mem_of_getElem? (i := 65) rfl), lw_t9 (List.mem_of_getElem? (i := 51) rfl), lw_t9 (List.mem_of_getElem? (i := 52) rfl)⟩
theorem lw_p109 : lw_okq (⟨"TwinInkModel", "refuses", "(I)I"⟩, 62) := ⟨⟨by decide +kernel, by decide +kernel⟩, lw_t7 (List.mem_of_getElem? (i := 65) rfl), lw_t9 (List.mem_of_getElem? (i := 59) rfl), lw_t9 (List.mem_of_getElem? (i := 60) rfl)⟩
theorem lw_p110 : lw_okq (⟨"TwinInkModel", "keeps", "()V"⟩, 62) := ⟨⟨by decide +kernel, by decide +kernel⟩, lw_t7 (List.mem_of_getElem? (i := 65) rfl), lw_t9 (List.mem_of_getElem? (i := 63) rfl), lw_t9 (List.mem_of_getElem? (i := 64) rfl)⟩
theorem lw_p111 : lw_okq (⟨"TwinInkModel", "dayGoes", "(I)V"⟩, 62) := ⟨⟨by decide +kernel, by decide +kernel⟩, lw_t7 (List.mem_of_getElem? (i := 65) rfl), lw_t9 (List.mem_of_getElem? (i := 67) rfl), lw_t9 (List.mem_of_getElem? (i := 68) rfl)⟩
def lw_privs_7 : List (MethodName × Nat) := [(⟨"TwinInkModel", "townOn", "(II)I"⟩, 62), (⟨"TwinInkModel", "fitting", "(I)I"⟩, 62), (⟨"TwinInkModel", "isClerk", "(I)Z"⟩, 62), (⟨"TwinInkModel", "isWord", "(I)Z"⟩, 62), (⟨"TwinInkModel", "showsWhere", "(I)I"⟩, 62), (⟨"TwinInkModel", "showsIn", "(II)I"⟩, 62), (⟨"TwinInkModel", "sheetsAt", "(II)I"⟩, 62), (⟨"TwinInkModel", "knowers", "(II)I"⟩, 62), (⟨"TwinInkModel", "isTown", "(I)Z"⟩, 62), (⟨"TwinInkModel", "archive", "(I)I"⟩, 62), (⟨"TwinInkModel", "clerksAt", "(II)I"⟩, 62), (⟨"TwinInkModel", "lostBy", "(I)I"⟩, 62), (⟨"TwinInkModel", "isWhole", "(I)Z"⟩, 62), (⟨"TwinInkModel", "refuses", "(I)I"⟩, 62), (⟨"TwinInkModel", "keeps", "()V"⟩, 62), (⟨"TwinInkModel", "dayGoes", "(I)V"⟩, 62)]
theorem lw_r7 : ∀ q ∈ lw_privs_7, lw_okq q := List.forall_mem_cons.mpr ⟨lw_p96, List.forall_mem_cons.mpr ⟨lw_p97, List.forall_mem_cons.mpr ⟨lw_p98, List.forall_mem_cons.mpr ⟨lw_p99, List.forall_mem_cons.mpr ⟨lw_p100, List.forall_mem_cons.mpr ⟨lw_p101, List.forall_mem_cons.mpr ⟨lw_p102, List.forall_mem_cons.mpr ⟨lw_p103, List.forall_mem_cons.mpr ⟨lw_p104, List.forall_mem_cons.mpr ⟨lw_p105, List.forall_mem_cons.mpr ⟨lw_p106, List.forall_mem_cons.mpr ⟨lw_p107, List.forall_mem_cons.mpr ⟨lw_p108, List.forall_mem_cons.mpr ⟨lw_p109, List.forall_mem_cons.mpr ⟨lw_p110, List.forall_mem_cons.mpr ⟨lw_p111, fun _ h => absurd h List.not_mem_nil⟩⟩⟩⟩⟩⟩⟩⟩⟩⟩⟩⟩⟩⟩⟩⟩
theorem lw_p112 : lw_okq (⟨"TwinInkModel", "doesLay", "(II)Z"⟩, 62) := ⟨⟨by decide +kernel, by decide +kernel⟩, lw_t7 (List.mem_of_getElem? (i := 65) rfl), lw_t9 (List.mem_of_getElem? (i := 71) rfl), lw_t9 (List.mem_of_getElem? (i := 72) rfl)⟩
theorem lw_p113 : lw_okq (⟨"TwinInkModel", "reckons", "(I)I"⟩, 62) := ⟨⟨by decide +kernel, by decide +kernel⟩, lw_t7 (List.mem_of_getElem? (i := 65) rfl), lw_t9 (List.mem_of_getElem? (i := 75) rfl), lw_t9 (List.mem_of_getElem? (i := 76) rfl)⟩
theorem lw_p114 : lw_okq (⟨"TwinInkModel", "learns", "(III)V"⟩, 62) := ⟨⟨by decide +kernel, by decide +kernel⟩, lw_t7 (List.mem_of_getElem? (i := 65) rfl), lw_t9 (List.mem_of_getElem? (i := 82) rfl), lw_t9 (List.mem_of_getElem? (i := 83) rfl)⟩
theorem lw_p115 : lw_okq (⟨"TwinInkModel", "mouldsOn", "(II)V"⟩, 62) := ⟨⟨by decide +kernel, by decide +kernel⟩, lw_t7 (List.mem_of_getElem? (i := 65) rfl), lw_t9 (List.mem_of_getElem? (i := 86) rfl), lw_t9 (List.mem_of_getElem? (i := 87) rfl)⟩
theorem lw_p116 : lw_okq (⟨"TwinInkModel", "burns", "(II)V"⟩, 62) := ⟨⟨by decide +kernel, by decide +kernel⟩, lw_t7 (List.mem_of_getElem? (i := 65) rfl), lw_t9 (List.mem_of_getElem? (i := 106) rfl), lw_t9 (List.mem_of_getElem? (i := 107) rfl)⟩
theorem lw_p117 : lw_okq (⟨"TwinInkModel", "isDays", "(III)Z"⟩, 62) := ⟨⟨by decide +kernel, by decide +kernel⟩, lw_t7 (List.mem_of_getElem? (i := 65) rfl), lw_t9 (List.mem_of_getElem? (i := 114) rfl), lw_t9 (List.mem_of_getElem? (i := 115) rfl)⟩
theorem lw_p118 : lw_okq (⟨"TwinInkModel", "goesTo", "(I)V"⟩, 62) := ⟨⟨by decide +kernel, by decide +kernel⟩, lw_t7 (List.mem_of_getElem? (i := 65) rfl), lw_t9 (List.mem_of_getElem? (i := 118) rfl), lw_t9 (List.mem_of_getElem? (i := 119) rfl)⟩
theorem lw_p119 : lw_okq (⟨"TwinInkModel", "tries", "()V"⟩, 62) := ⟨⟨by decide +kernel, by decide +kernel⟩, lw_t7 (List.mem_of_getElem? (i := 65) rfl), lw_t9 (List.mem_of_getElem? (i := 122) rfl), lw_t9 (List.mem_of_getElem? (i := 123) rfl)⟩
theorem lw_p120 : lw_okq (⟨"TwinInkModel", "daysGo", "(I)V"⟩, 62) := ⟨⟨by decide +kernel, by decide +kernel⟩, lw_t7 (List.mem_of_getElem? (i := 65) rfl), lw_t9 (List.mem_of_getElem? (i := 126) rfl), lw_t9 (List.mem_of_getElem? (i := 127) rfl)⟩
theorem lw_p121 : lw_okq (⟨"TwinInkModel", "mostBehind", "(II)I"⟩, 62) := ⟨⟨by decide +kernel, by decide +kernel⟩, lw_t7 (List.mem_of_getElem? (i := 65) rfl), lw_t9 (List.mem_of_getElem? (i := 158) rfl), lw_t9 (List.mem_of_getElem? (i := 159) rfl)⟩
theorem lw_p122 : lw_okq (⟨"TwinInkModel", "canFollow", "(III)Z"⟩, 62) := ⟨⟨by decide +kernel, by decide +kernel⟩, lw_t7 (List.mem_of_getElem? (i := 65) rfl), lw_t9 (List.mem_of_getElem? (i := 162) rfl), lw_t9 (List.mem_of_getElem? (i := 163) rfl)⟩
theorem lw_p123 : lw_okq (⟨"TwinInkModel", "isHeard", "()Z"⟩, 62) := ⟨⟨by decide +kernel, by decide +kernel⟩, lw_t7 (List.mem_of_getElem? (i := 65) rfl), lw_t9 (List.mem_of_getElem? (i := 194) rfl), lw_t9 (List.mem_of_getElem? (i := 195) rfl)⟩
theorem lw_p124 : lw_okq (⟨"TwinInkModel", "isGuess", "(I)Z"⟩, 62) := ⟨⟨by decide +kernel, by decide +kernel⟩, lw_t7 (List.mem_of_getElem? (i := 65) rfl), lw_t9 (List.mem_of_getElem? (i := 198) rfl), lw_t9 (List.mem_of_getElem? (i := 199) rfl)⟩
theorem lw_p125 : lw_okq (⟨"TwinInkModel", "gains", "(IIII)I"⟩, 62) := ⟨⟨by decide +kernel, by decide +kernel⟩, lw_t7 (List.mem_of_getElem? (i := 65) rfl), lw_t9 (List.mem_of_getElem? (i := 214) rfl), lw_t9 (List.mem_of_getElem? (i := 215) rfl)⟩
theorem lw_p126 : lw_okq (⟨"TwinInkModel", "bears", "(I)I"⟩, 62) := ⟨⟨by decide +kernel, by decide +kernel⟩, lw_t7 (List.mem_of_getElem? (i := 65) rfl), lw_t9 (List.mem_of_getElem? (i := 218) rfl), lw_t9 (List.mem_of_getElem? (i := 219) rfl)⟩
theorem lw_p127 : lw_okq (⟨"TwinInkModel", "newTo", "(II)I"⟩, 62) := ⟨⟨by decide +kernel, by decide +kernel⟩, lw_t7 (List.mem_of_getElem? (i := 65) rfl), lw_t9 (List.mem_of_getElem? (i := 222) rfl), lw_t9 (List.mem_of_getElem? (i := 223) rfl)⟩
def lw_privs_8 : List (MethodName × Nat) := [(⟨"TwinInkModel", "doesLay", "(II)Z"⟩, 62), (⟨"TwinInkModel", "reckons", "(I)I"⟩, 62), (⟨"TwinInkModel", "learns", "(III)V"⟩, 62), (⟨"TwinInkModel", "mouldsOn", "(II)V"⟩, 62), (⟨"TwinInkModel", "burns", "(II)V"⟩, 62), (⟨"TwinInkModel", "isDays", "(III)Z"⟩, 62), (⟨"TwinInkModel", "goesTo", "(I)V"⟩, 62), (⟨"TwinInkModel", "tries", "()V"⟩, 62), (⟨"TwinInkModel", "daysGo", "(I)V"⟩, 62), (⟨"TwinInkModel", "mostBehind", "(II)I"⟩, 62), (⟨"TwinInkModel", "canFollow", "(III)Z"⟩, 62), (⟨"TwinInkModel", "isHeard", "()Z"⟩, 62), (⟨"TwinInkModel", "isGuess", "(I)Z"⟩, 62), (⟨"TwinInkModel", "gains", "(IIII)I"⟩, 62), (⟨"TwinInkModel", "bears", "(I)I"⟩, 62), (⟨"TwinInkModel", "newTo", "(II)I"⟩, 62)]
theorem lw_r8 : ∀ q ∈ lw_privs_8, lw_okq q := List.forall_mem_cons.mpr ⟨lw_p112, List.forall_mem_cons.mpr ⟨lw_p113, List.forall_mem_cons.mpr ⟨lw_p114, List.forall_mem_cons.mpr ⟨lw_p115, List.forall_mem_cons.mpr ⟨lw_p116, List.forall_mem_cons.mpr ⟨lw_p117, List.forall_mem_cons.mpr ⟨lw_p118, List.forall_mem_cons.mpr ⟨lw_p119, List.forall_mem_cons.mpr ⟨lw_p120, List.forall_mem_cons.mpr ⟨lw_p121, List.forall_mem_cons.mpr ⟨lw_p122, List.forall_mem_cons.mpr ⟨lw_p123, List.forall_mem_cons.mpr ⟨lw_p124, List.forall_mem_cons.mpr ⟨lw_p125, List.forall_mem_cons.mpr ⟨lw_p126, List.forall_mem_cons.mpr ⟨lw_p127, fun _ h => absurd h List.not_mem_nil⟩⟩⟩⟩⟩⟩⟩⟩⟩⟩⟩⟩⟩⟩⟩⟩
theorem lw_p128 : lw_okq (⟨"TwinInkModel", "happens", "()V"⟩, 62) := ⟨⟨by decide +kernel, by decide +kernel⟩, lw_t7 (List.mem_of_getElem? (i := 65) rfl), lw_t9 (List.mem_of_getElem? (i := 230) rfl), lw_t9 (List.mem_of_getElem? (i := 231) rfl)⟩
theorem lw_p129 : lw_okq (⟨"TwinInkModel", "draw", "(I)I"⟩, 62) := ⟨⟨by decide +kernel, by decide +kernel⟩, lw_t7 (List.mem_of_getElem? (i := 65) rfl), lw_t9 (List.mem_of_getElem? (i := 234) rfl), lw_t9 (List.mem_of_getElem? (i := 235) rfl)⟩
theorem lw_p130 : lw_okq (⟨"TwinInkModel", "takesLeast", "(I)V"⟩, 62) := ⟨⟨by decide +kernel, by decide +kernel⟩, lw_t7 (List.mem_of_getElem? (i := 65) rfl), lw_t9 (List.mem_of_getElem? (i := 239) rfl), lw_t10 (List.mem_of_getElem? (i := 0) rfl)⟩
theorem lw_p131 : lw_okq (⟨"TwinInkModel", "isOrphan", "(I)Z"⟩, 62) := ⟨⟨by decide +kernel, by decide +kernel⟩, lw_t7 (List.mem_of_getElem? (i := 65) rfl), lw_t10 (List.mem_of_getElem? (i := 19) rfl), lw_t10 (List.mem_of_getElem? (i := 20) rfl)⟩
theorem lw_p132 : lw_okq (⟨"TwinInkModel", "hasWord", "(II)Z"⟩, 62) := ⟨⟨by decide +kernel, by decide +kernel⟩, lw_t7 (List.mem_of_getElem? (i := 65) rfl), lw_t10 (List.mem_of_getElem? (i := 23) rfl), lw_t10 (List.mem_of_getElem? (i := 24) rfl)⟩
theorem lw_p133 : lw_okq (⟨"TwinInkModel", "knowledge", "()I"⟩, 62) := ⟨⟨by decide +kernel, by decide +kernel⟩, lw_t7 (List.mem_of_getElem? (i := 65) rfl), lw_t10 (List.mem_of_getElem? (i := 43) rfl), lw_t10 (List.mem_of_getElem? (i := 44) rfl)⟩
def lw_privs_9 : List (MethodName × Nat) := [(⟨"TwinInkModel", "happens", "()V"⟩, 62), (⟨"TwinInkModel", "draw", "(I)I"⟩, 62), (⟨"TwinInkModel", "takesLeast", "(I)V"⟩, 62), (⟨"TwinInkModel", "isOrphan", "(I)Z"⟩, 62), (⟨"TwinInkModel", "hasWord", "(II)Z"⟩, 62), (⟨"TwinInkModel", "knowledge", "()I"⟩, 62)]
theorem lw_r9 : ∀ q ∈ lw_privs_9, lw_okq q := List.forall_mem_cons.mpr ⟨lw_p128, List.forall_mem_cons.mpr ⟨lw_p129, List.forall_mem_cons.mpr ⟨lw_p130, List.forall_mem_cons.mpr ⟨lw_p131, List.forall_mem_cons.mpr ⟨lw_p132, List.forall_mem_cons.mpr ⟨lw_p133, fun _ h => absurd h List.not_mem_nil⟩⟩⟩⟩⟩⟩
def lw_privs : List (MethodName × Nat) := lw_privs_1 ++ (lw_privs_2 ++ (lw_privs_3 ++ (lw_privs_4 ++ (lw_privs_5 ++ (lw_privs_6 ++ (lw_privs_7 ++ (lw_privs_8 ++ (lw_privs_9))))))))
def lw_tbl : List Cond := k2_sels lw_privs ++ tables_1
theorem lw_privs_ok : ∀ q ∈ lw_privs, lw_okq q := by
  show ∀ q ∈ lw_privs_1 ++ (lw_privs_2 ++ (lw_privs_3 ++ (lw_privs_4 ++ (lw_privs_5 ++ (lw_privs_6 ++ (lw_privs_7 ++ (lw_privs_8 ++ (lw_privs_9)))))))), lw_okq q
  exact List.forall_mem_append.mpr ⟨lw_r1, List.forall_mem_append.mpr ⟨lw_r2, List.forall_mem_append.mpr ⟨lw_r3, List.forall_mem_append.mpr ⟨lw_r4, List.forall_mem_append.mpr ⟨lw_r5, List.forall_mem_append.mpr ⟨lw_r6, List.forall_mem_append.mpr ⟨lw_r7, List.forall_mem_append.mpr ⟨lw_r8, lw_r9⟩⟩⟩⟩⟩⟩⟩⟩
-- ===== ONE list of words for every method: the tables' words that hold all through a run =====
def lw_all : List Cond := lw_tbl.filter goodWord
/-- a word of the tables by its place: claim/WORDS.tsv -/
theorem lw_w {w : Cond} (i : Nat) (h : lw_tbl[i]? = some w) (g : goodWord w = true) : w ∈ lw_all := List.mem_filter.mpr ⟨List.mem_of_getElem? h, g⟩
theorem lw_all_tbl {w : Cond} (h : w ∈ lw_all) : w ∈ lw_tbl := (List.mem_filter.mp h).1
theorem lw_self : GoodIn lw_all lw_all := fun w h => ⟨h, good_of_word (List.mem_filter.mp h).2⟩
/-- a class's field words, by their places -/
theorem lw_in (ws : List Cond) (ps : List Nat) (hp : ws = ps.filterMap (fun i => lw_tbl[i]?)) (hg : ws.all goodWord = true) : ∀ w ∈ ws, w ∈ lw_all := by
  intro w h
  have h1 := List.all_eq_true.mp hg w h
  rw [hp] at h
  obtain ⟨i, -, hi⟩ := List.mem_filterMap.mp h
  exact lw_w i hi h1
/-- the words of a contract for the method y with code b, L locals, answer r -/
abbrev ws_ (y : MethodName) (b : ByteArray) (L : Nat) (r : Option FieldType) : List Cond := Cond.code y b L r :: lw_all
theorem lw_meth {y : MethodName} {b : ByteArray} {L : Nat} {r : Option FieldType} (h : Cond.code y b L r ∈ lw_all) : GoodIn lw_all (ws_ y b L r) := by
  intro w hw
  rcases List.mem_cons.mp hw with e | e
  · rw [e]
    exact lw_self _ h
  · exact lw_self _ e
theorem lw_app {a c : List Cond} (ha : ∀ w ∈ a, w ∈ lw_all) (hc : GoodIn lw_all c) : GoodIn lw_all (a ++ c) := by
  intro w hw
  rcases List.mem_append.mp hw with e | e
  · exact lw_self w (ha w e)
  · exact hc w e
/-- what a call through an object asks: cwV n hts (lw_V ..) -/
theorem lw_V {own : String} {idx : Nat} {C : String} {y : MethodName} {b : ByteArray} {L : Nat} {r : Option FieldType} (h1 : Cond.methodLink own idx y ∈ lw_all) (h2 : Cond.instanceMethod y ∈ lw_all) (h3 : Cond.selects C y y ∈ lw_all) (h4 : Cond.initialized C ∈ lw_all) (h5 : Cond.code y b L r ∈ lw_all) : GoodIn lw_all (wsV own idx C y (ws_ y b L r)) := by
  refine lw_app ?_ (lw_meth h5)
  intro w hw
  simp only [List.mem_cons, List.not_mem_nil, or_false] at hw
  rcases hw with e | e | e | e
  · rw [e]; exact h1
  · rw [e]; exact h2
  · rw [e]; exact h3
  · rw [e]; exact h4
/-- what a static call asks: va_cwS n hts (lw_S ..) -/
theorem lw_S {own : String} {idx : Nat} {y : MethodName} {b : ByteArray} {L : Nat} {r : Option FieldType} (h1 : Cond.methodLink own idx y ∈ lw_all) (h2 : Cond.static y ∈ lw_all) (h3 : Cond.initialized y.cls ∈ lw_all) (h4 : Cond.code y b L r ∈ lw_all) : GoodIn lw_all (va_wsS own idx y (ws_ y b L r)) := by
  refine lw_app ?_ (lw_meth h4)
  intro w hw
  simp only [List.mem_cons, List.not_mem_nil, or_false] at hw
  rcases hw with e | e | e
  · rw [e]; exact h1
  · rw [e]; exact h2
  · rw [e]; exact h3
/-- the words of a contract for a method WITH HANDLERS (hh: its table) -/
abbrev wsW_ (y : MethodName) (b : ByteArray) (L : Nat) (r : Option FieldType) (hh : List (Nat × Nat × Nat × Nat)) : List Cond := Cond.codeWith y b L r hh :: lw_all
theorem lw_methW {y : MethodName} {b : ByteArray} {L : Nat} {r : Option FieldType} {hh : List (Nat × Nat × Nat × Nat)} (h : Cond.codeWith y b L r hh ∈ lw_all) : GoodIn lw_all (wsW_ y b L r hh) := by
  intro w hw
  rcases List.mem_cons.mp hw with e | e
  · rw [e]
    exact lw_self _ h
  · exact lw_self _ e
/-- any list of words by their places (lw_in), good -/
theorem lw_good {ws : List Cond} (h : ∀ w ∈ ws, w ∈ lw_all) : GoodIn lw_all ws := fun w hw => lw_self w (h w hw)
/-- what a call of a method with handlers asks: vx_cwVW n hts (lw_VW ..), vx_cwSW n hts (lw_SW ..) -/
theorem lw_VW {own : String} {idx : Nat} {C : String} {y : MethodName} {b : ByteArray} {L : Nat} {r : Option FieldType} {hh : List (Nat × Nat × Nat × Nat)} (h1 : Cond.methodLink own idx y ∈ lw_all) (h2 : Cond.instanceMethod y ∈ lw_all) (h3 : Cond.selects C y y ∈ lw_all) (h4 : Cond.initialized C ∈ lw_all) (h5 : Cond.codeWith y b L r hh ∈ lw_all) : GoodIn lw_all (wsV own idx C y (wsW_ y b L r hh)) := by
  refine lw_app ?_ (lw_methW h5)
  intro w hw
  simp only [List.mem_cons, List.not_mem_nil, or_false] at hw
  rcases hw with e | e | e | e
  · rw [e]; exact h1
  · rw [e]; exact h2
  · rw [e]; exact h3
  · rw [e]; exact h4
theorem lw_SW {own : String} {idx : Nat} {y : MethodName} {b : ByteArray} {L : Nat} {r : Option FieldType} {hh : List (Nat × Nat × Nat × Nat)} (h1 : Cond.methodLink own idx y ∈ lw_all) (h2 : Cond.static y ∈ lw_all) (h3 : Cond.initialized y.cls ∈ lw_all) (h4 : Cond.codeWith y b L r hh ∈ lw_all) : GoodIn lw_all (va_wsS own idx y (wsW_ y b L r hh)) := by
  refine lw_app ?_ (lw_methW h4)
  intro w hw
  simp only [List.mem_cons, List.not_mem_nil, or_false] at hw
  rcases hw with e | e | e
  · rw [e]; exact h1
  · rw [e]; exact h2
  · rw [e]; exact h3
/-- a word by its place in its run of the tables -/
theorem lw_at {r : List Cond} (hr : ∀ w ∈ r, w ∈ lw_tbl) {w : Cond} (i : Nat) (h : r[i]? = some w) : w ∈ lw_tbl := hr w (List.mem_of_getElem? h)
theorem lw_g {w : Cond} (h : w ∈ lw_tbl) (g : goodWord w = true) : w ∈ lw_all := List.mem_filter.mpr ⟨h, g⟩
theorem lw_ms : ∀ w ∈ k2_sels lw_privs, w ∈ lw_tbl := fun w h => show w ∈ k2_sels lw_privs ++ tables_1 from List.mem_append_left _ h
theorem lw_m1 : ∀ w ∈ tables_1_1, w ∈ lw_tbl := fun w h => show w ∈ k2_sels lw_privs ++ tables_1 from List.mem_append_right (k2_sels lw_privs) (show w ∈ tables_1 from List.mem_append_left _ h)
theorem lw_m2 : ∀ w ∈ tables_1_2, w ∈ lw_tbl := fun w h => show w ∈ k2_sels lw_privs ++ tables_1 from List.mem_append_right (k2_sels lw_privs) (show w ∈ tables_1 from List.mem_append_right _ (List.mem_append_left _ h))
theorem lw_m3 : ∀ w ∈ tables_1_3, w ∈ lw_tbl := fun w h => show w ∈ k2_sels lw_privs ++ tables_1 from List.mem_append_right (k2_sels lw_privs) (show w ∈ tables_1 from List.mem_append_right _ (List.mem_append_right _ (List.mem_append_left _ h)))
theorem lw_m4 : ∀ w ∈ tables_1_4, w ∈ lw_tbl := fun w h => show w ∈ k2_sels lw_privs ++ tables_1 from List.mem_append_right (k2_sels lw_privs) (show w ∈ tables_1 from List.mem_append_right _ (List.mem_append_right _ (List.mem_append_right _ (List.mem_append_left _ h))))
theorem lw_m5 : ∀ w ∈ tables_1_5, w ∈ lw_tbl := fun w h => show w ∈ k2_sels lw_privs ++ tables_1 from List.mem_append_right (k2_sels lw_privs) (show w ∈ tables_1 from List.mem_append_right _ (List.mem_append_right _ (List.mem_append_right _ (List.mem_append_right _ (List.mem_append_left _ h)))))
theorem lw_m6 : ∀ w ∈ tables_1_6, w ∈ lw_tbl := fun w h => show w ∈ k2_sels lw_privs ++ tables_1 from List.mem_append_right (k2_sels lw_privs) (show w ∈ tables_1 from List.mem_append_right _ (List.mem_append_right _ (List.mem_append_right _ (List.mem_append_right _ (List.mem_append_right _ (List.mem_append_left _ h))))))
theorem lw_m7 : ∀ w ∈ tables_1_7, w ∈ lw_tbl := fun w h => show w ∈ k2_sels lw_privs ++ tables_1 from List.mem_append_right (k2_sels lw_privs) (show w ∈ tables_1 from List.mem_append_right _ (List.mem_append_right _ (List.mem_append_right _ (List.mem_append_right _ (List.mem_append_right _ (List.mem_append_right _ (List.mem_append_left _ h)))))))
theorem lw_m8 : ∀ w ∈ tables_1_8, w ∈ lw_tbl := fun w h => show w ∈ k2_sels lw_privs ++ tables_1 from List.mem_append_right (k2_sels lw_privs) (show w ∈ tables_1 from List.mem_append_right _ (List.mem_append_right _ (List.mem_append_right _ (List.mem_append_right _ (List.mem_append_right _ (List.mem_append_right _ (List.mem_append_right _ (List.mem_append_left _ h))))))))
theorem lw_m9 : ∀ w ∈ tables_1_9, w ∈ lw_tbl := fun w h => show w ∈ k2_sels lw_privs ++ tables_1 from List.mem_append_right (k2_sels lw_privs) (show w ∈ tables_1 from List.mem_append_right _ (List.mem_append_right _ (List.mem_append_right _ (List.mem_append_right _ (List.mem_append_right _ (List.mem_append_right _ (List.mem_append_right _ (List.mem_append_right _ (List.mem_append_left _ h)))))))))
theorem lw_m10 : ∀ w ∈ tables_1_10, w ∈ lw_tbl := fun w h => show w ∈ k2_sels lw_privs ++ tables_1 from List.mem_append_right (k2_sels lw_privs) (show w ∈ tables_1 from List.mem_append_right _ (List.mem_append_right _ (List.mem_append_right _ (List.mem_append_right _ (List.mem_append_right _ (List.mem_append_right _ (List.mem_append_right _ (List.mem_append_right _ (List.mem_append_right _ h)))))))))
theorem qs0 : (Cond.selects "TwinInk" ⟨"TwinInk", "refuse", "(I)I"⟩ ⟨"TwinInk", "refuse", "(I)I"⟩) ∈ lw_all := lw_g (lw_at lw_ms 0 rfl) rfl
theorem qs1 : (Cond.selects "TwinInk" ⟨"TwinInk", "keep", "()V"⟩ ⟨"TwinInk", "keep", "()V"⟩) ∈ lw_all := lw_g (lw_at lw_ms 1 rfl) rfl
theorem qs2 : (Cond.selects "java/util/ArrayList" ⟨"java/util/ArrayList", "add", "(Ljava/lang/Object;[Ljava/lang/Object;I)V"⟩ ⟨"java/util/ArrayList", "add", "(Ljava/lang/Object;[Ljava/lang/Object;I)V"⟩) ∈ lw_all := lw_g (lw_at lw_ms 2 rfl) rfl
theorem qs3 : (Cond.selects "java/util/ArrayList" ⟨"java/util/ArrayList", "grow", "()[Ljava/lang/Object;"⟩ ⟨"java/util/ArrayList", "grow", "()[Ljava/lang/Object;"⟩) ∈ lw_all := lw_g (lw_at lw_ms 3 rfl) rfl
theorem qs4 : (Cond.selects "java/util/ArrayList" ⟨"java/util/ArrayList", "grow", "(I)[Ljava/lang/Object;"⟩ ⟨"java/util/ArrayList", "grow", "(I)[Ljava/lang/Object;"⟩) ∈ lw_all := lw_g (lw_at lw_ms 4 rfl) rfl
theorem qs5 : (Cond.selects "java/util/ArrayList" ⟨"java/util/ArrayList", "fastRemove", "([Ljava/lang/Object;I)V"⟩ ⟨"java/util/ArrayList", "fastRemove", "([Ljava/lang/Object;I)V"⟩) ∈ lw_all := lw_g (lw_at lw_ms 5 rfl) rfl
theorem qs6 : (Cond.selects "TwinInk$Service" ⟨"TwinInk$Service", "lays", "(II)Z"⟩ ⟨"TwinInk$Service", "lays", "(II)Z"⟩) ∈ lw_all := lw_g (lw_at lw_ms 6 rfl) rfl
theorem qs7 : (Cond.selects "TwinInk$Service" ⟨"TwinInk$Service", "learn", "(II)V"⟩ ⟨"TwinInk$Service", "learn", "(II)V"⟩) ∈ lw_all := lw_g (lw_at lw_ms 7 rfl) rfl
theorem qs8 : (Cond.selects "TwinInk$Service" ⟨"TwinInk$Service", "grow", "(I)V"⟩ ⟨"TwinInk$Service", "grow", "(I)V"⟩) ∈ lw_all := lw_g (lw_at lw_ms 8 rfl) rfl
theorem qs9 : (Cond.selects "java/lang/Throwable" ⟨"java/lang/Throwable", "fillInStackTrace", "(I)Ljava/lang/Throwable;"⟩ ⟨"java/lang/Throwable", "fillInStackTrace", "(I)Ljava/lang/Throwable;"⟩) ∈ lw_all := lw_g (lw_at lw_ms 9 rfl) rfl
theorem qs10 : (Cond.selects "TwinInk$Reader" ⟨"TwinInk$Reader", "next", "()V"⟩ ⟨"TwinInk$Reader", "next", "()V"⟩) ∈ lw_all := lw_g (lw_at lw_ms 10 rfl) rfl
theorem qs11 : (Cond.selects "TwinInk$Reader" ⟨"TwinInk$Reader", "here", "()I"⟩ ⟨"TwinInk$Reader", "here", "()I"⟩) ∈ lw_all := lw_g (lw_at lw_ms 11 rfl) rfl
theorem qs12 : (Cond.selects "TwinInk$Reader" ⟨"TwinInk$Reader", "isLetter", "()Z"⟩ ⟨"TwinInk$Reader", "isLetter", "()Z"⟩) ∈ lw_all := lw_g (lw_at lw_ms 12 rfl) rfl
theorem qs13 : (Cond.selects "TwinInk$Reader" ⟨"TwinInk$Reader", "isDigit", "()Z"⟩ ⟨"TwinInk$Reader", "isDigit", "()Z"⟩) ∈ lw_all := lw_g (lw_at lw_ms 13 rfl) rfl
theorem qs14 : (Cond.selects "TwinInk$Reader" ⟨"TwinInk$Reader", "line", "()V"⟩ ⟨"TwinInk$Reader", "line", "()V"⟩) ∈ lw_all := lw_g (lw_at lw_ms 14 rfl) rfl
theorem qs15 : (Cond.selects "TwinInk$Reader" ⟨"TwinInk$Reader", "which", "([Ljava/lang/String;)I"⟩ ⟨"TwinInk$Reader", "which", "([Ljava/lang/String;)I"⟩) ∈ lw_all := lw_g (lw_at lw_ms 15 rfl) rfl
theorem qs16 : (Cond.selects "TwinInk$Reader" ⟨"TwinInk$Reader", "is", "(Ljava/lang/String;)Z"⟩ ⟨"TwinInk$Reader", "is", "(Ljava/lang/String;)Z"⟩) ∈ lw_all := lw_g (lw_at lw_ms 16 rfl) rfl
theorem qs17 : (Cond.selects "TwinInk$Reader" ⟨"TwinInk$Reader", "only", "(I)V"⟩ ⟨"TwinInk$Reader", "only", "(I)V"⟩) ∈ lw_all := lw_g (lw_at lw_ms 17 rfl) rfl
theorem qs18 : (Cond.selects "TwinInk$Reader" ⟨"TwinInk$Reader", "want", "(ZI)V"⟩ ⟨"TwinInk$Reader", "want", "(ZI)V"⟩) ∈ lw_all := lw_g (lw_at lw_ms 18 rfl) rfl
theorem qs19 : (Cond.selects "TwinInk$Reader" ⟨"TwinInk$Reader", "number", "(II)I"⟩ ⟨"TwinInk$Reader", "number", "(II)I"⟩) ∈ lw_all := lw_g (lw_at lw_ms 19 rfl) rfl
theorem qs20 : (Cond.selects "TwinInk$Reader" ⟨"TwinInk$Reader", "numberNow", "(II)I"⟩ ⟨"TwinInk$Reader", "numberNow", "(II)I"⟩) ∈ lw_all := lw_g (lw_at lw_ms 20 rfl) rfl
theorem qs21 : (Cond.selects "TwinInk$Reader" ⟨"TwinInk$Reader", "expression", "(I)LTwinInk$Form;"⟩ ⟨"TwinInk$Reader", "expression", "(I)LTwinInk$Form;"⟩) ∈ lw_all := lw_g (lw_at lw_ms 21 rfl) rfl
theorem qs22 : (Cond.selects "TwinInk$Reader" ⟨"TwinInk$Reader", "isSign", "(C)Z"⟩ ⟨"TwinInk$Reader", "isSign", "(C)Z"⟩) ∈ lw_all := lw_g (lw_at lw_ms 22 rfl) rfl
theorem qs23 : (Cond.selects "TwinInk$Reader" ⟨"TwinInk$Reader", "and", "(I)LTwinInk$Form;"⟩ ⟨"TwinInk$Reader", "and", "(I)LTwinInk$Form;"⟩) ∈ lw_all := lw_g (lw_at lw_ms 23 rfl) rfl
theorem qs24 : (Cond.selects "TwinInk$Reader" ⟨"TwinInk$Reader", "not", "(I)LTwinInk$Form;"⟩ ⟨"TwinInk$Reader", "not", "(I)LTwinInk$Form;"⟩) ∈ lw_all := lw_g (lw_at lw_ms 24 rfl) rfl
theorem qs25 : (Cond.selects "TwinInk$Reader" ⟨"TwinInk$Reader", "sum", "(I)LTwinInk$Form;"⟩ ⟨"TwinInk$Reader", "sum", "(I)LTwinInk$Form;"⟩) ∈ lw_all := lw_g (lw_at lw_ms 25 rfl) rfl
theorem qs26 : (Cond.selects "TwinInk$Reader" ⟨"TwinInk$Reader", "product", "(I)LTwinInk$Form;"⟩ ⟨"TwinInk$Reader", "product", "(I)LTwinInk$Form;"⟩) ∈ lw_all := lw_g (lw_at lw_ms 26 rfl) rfl
theorem qs27 : (Cond.selects "TwinInk$Reader" ⟨"TwinInk$Reader", "part", "(I)LTwinInk$Form;"⟩ ⟨"TwinInk$Reader", "part", "(I)LTwinInk$Form;"⟩) ∈ lw_all := lw_g (lw_at lw_ms 27 rfl) rfl
theorem qs28 : (Cond.selects "TwinInk$Reader" ⟨"TwinInk$Reader", "sign", "()C"⟩ ⟨"TwinInk$Reader", "sign", "()C"⟩) ∈ lw_all := lw_g (lw_at lw_ms 28 rfl) rfl
theorem qs29 : (Cond.selects "TwinInk$Reader" ⟨"TwinInk$Reader", "passes", "(Ljava/lang/String;)Z"⟩ ⟨"TwinInk$Reader", "passes", "(Ljava/lang/String;)Z"⟩) ∈ lw_all := lw_g (lw_at lw_ms 29 rfl) rfl
theorem qs30 : (Cond.selects "TwinInk$Reader" ⟨"TwinInk$Reader", "sheet", "()V"⟩ ⟨"TwinInk$Reader", "sheet", "()V"⟩) ∈ lw_all := lw_g (lw_at lw_ms 30 rfl) rfl
theorem qs31 : (Cond.selects "TwinInk$Reader" ⟨"TwinInk$Reader", "clerk", "()V"⟩ ⟨"TwinInk$Reader", "clerk", "()V"⟩) ∈ lw_all := lw_g (lw_at lw_ms 31 rfl) rfl
theorem qs32 : (Cond.selects "TwinInk$Reader" ⟨"TwinInk$Reader", "word", "()V"⟩ ⟨"TwinInk$Reader", "word", "()V"⟩) ∈ lw_all := lw_g (lw_at lw_ms 32 rfl) rfl
theorem qs33 : (Cond.selects "TwinInk$Reader" ⟨"TwinInk$Reader", "sheetNow", "()I"⟩ ⟨"TwinInk$Reader", "sheetNow", "()I"⟩) ∈ lw_all := lw_g (lw_at lw_ms 33 rfl) rfl
theorem qs34 : (Cond.selects "TwinInk$Reader" ⟨"TwinInk$Reader", "hasWord", "(II)Z"⟩ ⟨"TwinInk$Reader", "hasWord", "(II)Z"⟩) ∈ lw_all := lw_g (lw_at lw_ms 34 rfl) rfl
theorem qs35 : (Cond.selects "TwinInk" ⟨"TwinInk", "couples", "(I)I"⟩ ⟨"TwinInk", "couples", "(I)I"⟩) ∈ lw_all := lw_g (lw_at lw_ms 35 rfl) rfl
theorem qs36 : (Cond.selects "TwinInk" ⟨"TwinInk", "aSheet", "(I)V"⟩ ⟨"TwinInk", "aSheet", "(I)V"⟩) ∈ lw_all := lw_g (lw_at lw_ms 36 rfl) rfl
theorem qs37 : (Cond.selects "TwinInk" ⟨"TwinInk", "aClerk", "(I)V"⟩ ⟨"TwinInk", "aClerk", "(I)V"⟩) ∈ lw_all := lw_g (lw_at lw_ms 37 rfl) rfl
theorem qs38 : (Cond.selects "TwinInk" ⟨"TwinInk", "aWord", "(I)V"⟩ ⟨"TwinInk", "aWord", "(I)V"⟩) ∈ lw_all := lw_g (lw_at lw_ms 38 rfl) rfl
theorem qs39 : (Cond.selects "TwinInk" ⟨"TwinInk", "showsAt", "(I)I"⟩ ⟨"TwinInk", "showsAt", "(I)I"⟩) ∈ lw_all := lw_g (lw_at lw_ms 39 rfl) rfl
theorem qs40 : (Cond.selects "TwinInk" ⟨"TwinInk", "knowers", "(I)I"⟩ ⟨"TwinInk", "knowers", "(I)I"⟩) ∈ lw_all := lw_g (lw_at lw_ms 40 rfl) rfl
theorem qs41 : (Cond.selects "TwinInk" ⟨"TwinInk", "lost", "(I)I"⟩ ⟨"TwinInk", "lost", "(I)I"⟩) ∈ lw_all := lw_g (lw_at lw_ms 41 rfl) rfl
theorem qs42 : (Cond.selects "TwinInk" ⟨"TwinInk", "dead", "(I)I"⟩ ⟨"TwinInk", "dead", "(I)I"⟩) ∈ lw_all := lw_g (lw_at lw_ms 42 rfl) rfl
theorem qs43 : (Cond.selects "TwinInk" ⟨"TwinInk", "isDead", "(II)Z"⟩ ⟨"TwinInk", "isDead", "(II)Z"⟩) ∈ lw_all := lw_g (lw_at lw_ms 43 rfl) rfl
theorem qs44 : (Cond.selects "TwinInk" ⟨"TwinInk", "later", "(I)LTwinInk$Service;"⟩ ⟨"TwinInk", "later", "(I)LTwinInk$Service;"⟩) ∈ lw_all := lw_g (lw_at lw_ms 44 rfl) rfl
theorem qs45 : (Cond.selects "TwinInk" ⟨"TwinInk", "knows", "(IIZ)I"⟩ ⟨"TwinInk", "knows", "(IIZ)I"⟩) ∈ lw_all := lw_g (lw_at lw_ms 45 rfl) rfl
theorem qs46 : (Cond.selects "TwinInk" ⟨"TwinInk", "rows", "()[[I"⟩ ⟨"TwinInk", "rows", "()[[I"⟩) ∈ lw_all := lw_g (lw_at lw_ms 46 rfl) rfl
theorem qs47 : (Cond.selects "TwinInk" ⟨"TwinInk", "isSo", "()Z"⟩ ⟨"TwinInk", "isSo", "()Z"⟩) ∈ lw_all := lw_g (lw_at lw_ms 47 rfl) rfl
theorem qs48 : (Cond.selects "TwinInk" ⟨"TwinInk", "others", "()Ljava/util/List;"⟩ ⟨"TwinInk", "others", "()Ljava/util/List;"⟩) ∈ lw_all := lw_g (lw_at lw_ms 48 rfl) rfl
theorem qs49 : (Cond.selects "TwinInk" ⟨"TwinInk", "gain", "(IIII)I"⟩ ⟨"TwinInk", "gain", "(IIII)I"⟩) ∈ lw_all := lw_g (lw_at lw_ms 49 rfl) rfl
theorem qs50 : (Cond.selects "TwinInk" ⟨"TwinInk", "news", "(III)I"⟩ ⟨"TwinInk", "news", "(III)I"⟩) ∈ lw_all := lw_g (lw_at lw_ms 50 rfl) rfl
theorem qs51 : (Cond.selects "TwinInk" ⟨"TwinInk", "befalls", "()V"⟩ ⟨"TwinInk", "befalls", "()V"⟩) ∈ lw_all := lw_g (lw_at lw_ms 51 rfl) rfl
theorem qs52 : (Cond.selects "TwinInk" ⟨"TwinInk", "draw", "(I)I"⟩ ⟨"TwinInk", "draw", "(I)I"⟩) ∈ lw_all := lw_g (lw_at lw_ms 52 rfl) rfl
theorem qs53 : (Cond.selects "TwinInk" ⟨"TwinInk", "orphans", "()I"⟩ ⟨"TwinInk", "orphans", "()I"⟩) ∈ lw_all := lw_g (lw_at lw_ms 53 rfl) rfl
theorem qs54 : (Cond.selects "TwinInk" ⟨"TwinInk", "strangers", "()I"⟩ ⟨"TwinInk", "strangers", "()I"⟩) ∈ lw_all := lw_g (lw_at lw_ms 54 rfl) rfl
theorem qs55 : (Cond.selects "TwinInk" ⟨"TwinInk", "isTold", "(II)Z"⟩ ⟨"TwinInk", "isTold", "(II)Z"⟩) ∈ lw_all := lw_g (lw_at lw_ms 55 rfl) rfl
theorem qs56 : (Cond.selects "TwinInk" ⟨"TwinInk", "allKnown", "()I"⟩ ⟨"TwinInk", "allKnown", "()I"⟩) ∈ lw_all := lw_g (lw_at lw_ms 56 rfl) rfl
theorem qs57 : (Cond.selects "TwinInkModel" ⟨"TwinInkModel", "lays", "(I)V"⟩ ⟨"TwinInkModel", "lays", "(I)V"⟩) ∈ lw_all := lw_g (lw_at lw_ms 57 rfl) rfl
theorem qs58 : (Cond.selects "TwinInkModel" ⟨"TwinInkModel", "right", "(ZI)Z"⟩ ⟨"TwinInkModel", "right", "(ZI)Z"⟩) ∈ lw_all := lw_g (lw_at lw_ms 58 rfl) rfl
theorem qs59 : (Cond.selects "TwinInkModel" ⟨"TwinInkModel", "goes", "()V"⟩ ⟨"TwinInkModel", "goes", "()V"⟩) ∈ lw_all := lw_g (lw_at lw_ms 59 rfl) rfl
theorem qs60 : (Cond.selects "TwinInkModel" ⟨"TwinInkModel", "byteAt", "(I)I"⟩ ⟨"TwinInkModel", "byteAt", "(I)I"⟩) ∈ lw_all := lw_g (lw_at lw_ms 60 rfl) rfl
theorem qs61 : (Cond.selects "TwinInkModel" ⟨"TwinInkModel", "isGood", "()Z"⟩ ⟨"TwinInkModel", "isGood", "()Z"⟩) ∈ lw_all := lw_g (lw_at lw_ms 61 rfl) rfl
theorem qs62 : (Cond.selects "TwinInkModel" ⟨"TwinInkModel", "line", "()V"⟩ ⟨"TwinInkModel", "line", "()V"⟩) ∈ lw_all := lw_g (lw_at lw_ms 62 rfl) rfl
theorem qs63 : (Cond.selects "TwinInkModel" ⟨"TwinInkModel", "knownWord", "()I"⟩ ⟨"TwinInkModel", "knownWord", "()I"⟩) ∈ lw_all := lw_g (lw_at lw_ms 63 rfl) rfl
theorem qs64 : (Cond.selects "TwinInkModel" ⟨"TwinInkModel", "begins", "(ZZ)Z"⟩ ⟨"TwinInkModel", "begins", "(ZZ)Z"⟩) ∈ lw_all := lw_g (lw_at lw_ms 64 rfl) rfl
theorem qs65 : (Cond.selects "TwinInkModel" ⟨"TwinInkModel", "wrong", "(I)V"⟩ ⟨"TwinInkModel", "wrong", "(I)V"⟩) ∈ lw_all := lw_g (lw_at lw_ms 65 rfl) rfl
theorem qs66 : (Cond.selects "TwinInkModel" ⟨"TwinInkModel", "readsSheet", "()V"⟩ ⟨"TwinInkModel", "readsSheet", "()V"⟩) ∈ lw_all := lw_g (lw_at lw_ms 66 rfl) rfl
theorem qs67 : (Cond.selects "TwinInkModel" ⟨"TwinInkModel", "number", "(II)I"⟩ ⟨"TwinInkModel", "number", "(II)I"⟩) ∈ lw_all := lw_g (lw_at lw_ms 67 rfl) rfl
theorem qs68 : (Cond.selects "TwinInkModel" ⟨"TwinInkModel", "readsClerk", "()V"⟩ ⟨"TwinInkModel", "readsClerk", "()V"⟩) ∈ lw_all := lw_g (lw_at lw_ms 68 rfl) rfl
theorem qs69 : (Cond.selects "TwinInkModel" ⟨"TwinInkModel", "readsWord", "()V"⟩ ⟨"TwinInkModel", "readsWord", "()V"⟩) ∈ lw_all := lw_g (lw_at lw_ms 69 rfl) rfl
theorem qs70 : (Cond.selects "TwinInkModel" ⟨"TwinInkModel", "amongHere", "(I)Z"⟩ ⟨"TwinInkModel", "amongHere", "(I)Z"⟩) ∈ lw_all := lw_g (lw_at lw_ms 70 rfl) rfl
theorem qs71 : (Cond.selects "TwinInkModel" ⟨"TwinInkModel", "isWordOf", "(II)Z"⟩ ⟨"TwinInkModel", "isWordOf", "(II)Z"⟩) ∈ lw_all := lw_g (lw_at lw_ms 71 rfl) rfl
theorem qs72 : (Cond.selects "TwinInkModel" ⟨"TwinInkModel", "expression", "(II)V"⟩ ⟨"TwinInkModel", "expression", "(II)V"⟩) ∈ lw_all := lw_g (lw_at lw_ms 72 rfl) rfl
theorem qs73 : (Cond.selects "TwinInkModel" ⟨"TwinInkModel", "deeper", "()V"⟩ ⟨"TwinInkModel", "deeper", "()V"⟩) ∈ lw_all := lw_g (lw_at lw_ms 73 rfl) rfl
theorem qs74 : (Cond.selects "TwinInkModel" ⟨"TwinInkModel", "isSign", "(I)Z"⟩ ⟨"TwinInkModel", "isSign", "(I)Z"⟩) ∈ lw_all := lw_g (lw_at lw_ms 74 rfl) rfl
theorem qs75 : (Cond.selects "TwinInkModel" ⟨"TwinInkModel", "operand", "(Z)V"⟩ ⟨"TwinInkModel", "operand", "(Z)V"⟩) ∈ lw_all := lw_g (lw_at lw_ms 75 rfl) rfl
theorem qs76 : (Cond.selects "TwinInkModel" ⟨"TwinInkModel", "waitsFor", "(I)V"⟩ ⟨"TwinInkModel", "waitsFor", "(I)V"⟩) ∈ lw_all := lw_g (lw_at lw_ms 76 rfl) rfl
theorem qs77 : (Cond.selects "TwinInkModel" ⟨"TwinInkModel", "part", "()V"⟩ ⟨"TwinInkModel", "part", "()V"⟩) ∈ lw_all := lw_g (lw_at lw_ms 77 rfl) rfl
theorem qs78 : (Cond.selects "TwinInkModel" ⟨"TwinInkModel", "puts", "(I)V"⟩ ⟨"TwinInkModel", "puts", "(I)V"⟩) ∈ lw_all := lw_g (lw_at lw_ms 78 rfl) rfl
theorem qs79 : (Cond.selects "TwinInkModel" ⟨"TwinInkModel", "drops", "(I)V"⟩ ⟨"TwinInkModel", "drops", "(I)V"⟩) ∈ lw_all := lw_g (lw_at lw_ms 79 rfl) rfl
theorem qs80 : (Cond.selects "TwinInkModel" ⟨"TwinInkModel", "isOpened", "()Z"⟩ ⟨"TwinInkModel", "isOpened", "()Z"⟩) ∈ lw_all := lw_g (lw_at lw_ms 80 rfl) rfl
theorem qs81 : (Cond.selects "TwinInkModel" ⟨"TwinInkModel", "closes", "()V"⟩ ⟨"TwinInkModel", "closes", "()V"⟩) ∈ lw_all := lw_g (lw_at lw_ms 81 rfl) rfl
theorem qs82 : (Cond.selects "TwinInkModel" ⟨"TwinInkModel", "need", "(Z)V"⟩ ⟨"TwinInkModel", "need", "(Z)V"⟩) ∈ lw_all := lw_g (lw_at lw_ms 82 rfl) rfl
theorem qs83 : (Cond.selects "TwinInkModel" ⟨"TwinInkModel", "copies", "([I[I)V"⟩ ⟨"TwinInkModel", "copies", "([I[I)V"⟩) ∈ lw_all := lw_g (lw_at lw_ms 83 rfl) rfl
theorem qs84 : (Cond.selects "TwinInkModel" ⟨"TwinInkModel", "burntOnes", "()I"⟩ ⟨"TwinInkModel", "burntOnes", "()I"⟩) ∈ lw_all := lw_g (lw_at lw_ms 84 rfl) rfl
theorem qs85 : (Cond.selects "TwinInkModel" ⟨"TwinInkModel", "isBurnt", "(II)Z"⟩ ⟨"TwinInkModel", "isBurnt", "(II)Z"⟩) ∈ lw_all := lw_g (lw_at lw_ms 85 rfl) rfl
theorem qs86 : (Cond.selects "TwinInkModel" ⟨"TwinInkModel", "borneOnes", "(I)I"⟩ ⟨"TwinInkModel", "borneOnes", "(I)I"⟩) ∈ lw_all := lw_g (lw_at lw_ms 86 rfl) rfl
theorem qs87 : (Cond.selects "TwinInkModel" ⟨"TwinInkModel", "everybody", "()I"⟩ ⟨"TwinInkModel", "everybody", "()I"⟩) ∈ lw_all := lw_g (lw_at lw_ms 87 rfl) rfl
theorem qs88 : (Cond.selects "TwinInkModel" ⟨"TwinInkModel", "knownBy", "(II)I"⟩ ⟨"TwinInkModel", "knownBy", "(II)I"⟩) ∈ lw_all := lw_g (lw_at lw_ms 88 rfl) rfl
theorem qs89 : (Cond.selects "TwinInkModel" ⟨"TwinInkModel", "couples", "()I"⟩ ⟨"TwinInkModel", "couples", "()I"⟩) ∈ lw_all := lw_g (lw_at lw_ms 89 rfl) rfl
theorem qs90 : (Cond.selects "TwinInkModel" ⟨"TwinInkModel", "doesFit", "(III)Z"⟩ ⟨"TwinInkModel", "doesFit", "(III)Z"⟩) ∈ lw_all := lw_g (lw_at lw_ms 90 rfl) rfl
theorem qs91 : (Cond.selects "TwinInkModel" ⟨"TwinInkModel", "offBy", "(III)I"⟩ ⟨"TwinInkModel", "offBy", "(III)I"⟩) ∈ lw_all := lw_g (lw_at lw_ms 91 rfl) rfl
theorem qs92 : (Cond.selects "TwinInkModel" ⟨"TwinInkModel", "isSheet", "(I)Z"⟩ ⟨"TwinInkModel", "isSheet", "(I)Z"⟩) ∈ lw_all := lw_g (lw_at lw_ms 92 rfl) rfl
theorem qs93 : (Cond.selects "TwinInkModel" ⟨"TwinInkModel", "isWhat", "(II)Z"⟩ ⟨"TwinInkModel", "isWhat", "(II)Z"⟩) ∈ lw_all := lw_g (lw_at lw_ms 93 rfl) rfl
theorem qs94 : (Cond.selects "TwinInkModel" ⟨"TwinInkModel", "sheetIn", "(II)I"⟩ ⟨"TwinInkModel", "sheetIn", "(II)I"⟩) ∈ lw_all := lw_g (lw_at lw_ms 94 rfl) rfl
theorem qs95 : (Cond.selects "TwinInkModel" ⟨"TwinInkModel", "clerkIn", "(II)I"⟩ ⟨"TwinInkModel", "clerkIn", "(II)I"⟩) ∈ lw_all := lw_g (lw_at lw_ms 95 rfl) rfl
theorem qs96 : (Cond.selects "TwinInkModel" ⟨"TwinInkModel", "townOn", "(II)I"⟩ ⟨"TwinInkModel", "townOn", "(II)I"⟩) ∈ lw_all := lw_g (lw_at lw_ms 96 rfl) rfl
theorem qs97 : (Cond.selects "TwinInkModel" ⟨"TwinInkModel", "fitting", "(I)I"⟩ ⟨"TwinInkModel", "fitting", "(I)I"⟩) ∈ lw_all := lw_g (lw_at lw_ms 97 rfl) rfl
theorem qs98 : (Cond.selects "TwinInkModel" ⟨"TwinInkModel", "isClerk", "(I)Z"⟩ ⟨"TwinInkModel", "isClerk", "(I)Z"⟩) ∈ lw_all := lw_g (lw_at lw_ms 98 rfl) rfl
theorem qs99 : (Cond.selects "TwinInkModel" ⟨"TwinInkModel", "isWord", "(I)Z"⟩ ⟨"TwinInkModel", "isWord", "(I)Z"⟩) ∈ lw_all := lw_g (lw_at lw_ms 99 rfl) rfl
theorem qs100 : (Cond.selects "TwinInkModel" ⟨"TwinInkModel", "showsWhere", "(I)I"⟩ ⟨"TwinInkModel", "showsWhere", "(I)I"⟩) ∈ lw_all := lw_g (lw_at lw_ms 100 rfl) rfl
theorem qs101 : (Cond.selects "TwinInkModel" ⟨"TwinInkModel", "showsIn", "(II)I"⟩ ⟨"TwinInkModel", "showsIn", "(II)I"⟩) ∈ lw_all := lw_g (lw_at lw_ms 101 rfl) rfl
theorem qs102 : (Cond.selects "TwinInkModel" ⟨"TwinInkModel", "sheetsAt", "(II)I"⟩ ⟨"TwinInkModel", "sheetsAt", "(II)I"⟩) ∈ lw_all := lw_g (lw_at lw_ms 102 rfl) rfl
theorem qs103 : (Cond.selects "TwinInkModel" ⟨"TwinInkModel", "knowers", "(II)I"⟩ ⟨"TwinInkModel", "knowers", "(II)I"⟩) ∈ lw_all := lw_g (lw_at lw_ms 103 rfl) rfl
theorem qs104 : (Cond.selects "TwinInkModel" ⟨"TwinInkModel", "isTown", "(I)Z"⟩ ⟨"TwinInkModel", "isTown", "(I)Z"⟩) ∈ lw_all := lw_g (lw_at lw_ms 104 rfl) rfl
theorem qs105 : (Cond.selects "TwinInkModel" ⟨"TwinInkModel", "archive", "(I)I"⟩ ⟨"TwinInkModel", "archive", "(I)I"⟩) ∈ lw_all := lw_g (lw_at lw_ms 105 rfl) rfl
theorem qs106 : (Cond.selects "TwinInkModel" ⟨"TwinInkModel", "clerksAt", "(II)I"⟩ ⟨"TwinInkModel", "clerksAt", "(II)I"⟩) ∈ lw_all := lw_g (lw_at lw_ms 106 rfl) rfl
theorem qs107 : (Cond.selects "TwinInkModel" ⟨"TwinInkModel", "lostBy", "(I)I"⟩ ⟨"TwinInkModel", "lostBy", "(I)I"⟩) ∈ lw_all := lw_g (lw_at lw_ms 107 rfl) rfl
theorem qs108 : (Cond.selects "TwinInkModel" ⟨"TwinInkModel", "isWhole", "(I)Z"⟩ ⟨"TwinInkModel", "isWhole", "(I)Z"⟩) ∈ lw_all := lw_g (lw_at lw_ms 108 rfl) rfl
theorem qs109 : (Cond.selects "TwinInkModel" ⟨"TwinInkModel", "refuses", "(I)I"⟩ ⟨"TwinInkModel", "refuses", "(I)I"⟩) ∈ lw_all := lw_g (lw_at lw_ms 109 rfl) rfl
theorem qs110 : (Cond.selects "TwinInkModel" ⟨"TwinInkModel", "keeps", "()V"⟩ ⟨"TwinInkModel", "keeps", "()V"⟩) ∈ lw_all := lw_g (lw_at lw_ms 110 rfl) rfl
theorem qs111 : (Cond.selects "TwinInkModel" ⟨"TwinInkModel", "dayGoes", "(I)V"⟩ ⟨"TwinInkModel", "dayGoes", "(I)V"⟩) ∈ lw_all := lw_g (lw_at lw_ms 111 rfl) rfl
theorem qs112 : (Cond.selects "TwinInkModel" ⟨"TwinInkModel", "doesLay", "(II)Z"⟩ ⟨"TwinInkModel", "doesLay", "(II)Z"⟩) ∈ lw_all := lw_g (lw_at lw_ms 112 rfl) rfl
theorem qs113 : (Cond.selects "TwinInkModel" ⟨"TwinInkModel", "reckons", "(I)I"⟩ ⟨"TwinInkModel", "reckons", "(I)I"⟩) ∈ lw_all := lw_g (lw_at lw_ms 113 rfl) rfl
theorem qs114 : (Cond.selects "TwinInkModel" ⟨"TwinInkModel", "learns", "(III)V"⟩ ⟨"TwinInkModel", "learns", "(III)V"⟩) ∈ lw_all := lw_g (lw_at lw_ms 114 rfl) rfl
theorem qs115 : (Cond.selects "TwinInkModel" ⟨"TwinInkModel", "mouldsOn", "(II)V"⟩ ⟨"TwinInkModel", "mouldsOn", "(II)V"⟩) ∈ lw_all := lw_g (lw_at lw_ms 115 rfl) rfl
theorem qs116 : (Cond.selects "TwinInkModel" ⟨"TwinInkModel", "burns", "(II)V"⟩ ⟨"TwinInkModel", "burns", "(II)V"⟩) ∈ lw_all := lw_g (lw_at lw_ms 116 rfl) rfl
theorem qs117 : (Cond.selects "TwinInkModel" ⟨"TwinInkModel", "isDays", "(III)Z"⟩ ⟨"TwinInkModel", "isDays", "(III)Z"⟩) ∈ lw_all := lw_g (lw_at lw_ms 117 rfl) rfl
theorem qs118 : (Cond.selects "TwinInkModel" ⟨"TwinInkModel", "goesTo", "(I)V"⟩ ⟨"TwinInkModel", "goesTo", "(I)V"⟩) ∈ lw_all := lw_g (lw_at lw_ms 118 rfl) rfl
theorem qs119 : (Cond.selects "TwinInkModel" ⟨"TwinInkModel", "tries", "()V"⟩ ⟨"TwinInkModel", "tries", "()V"⟩) ∈ lw_all := lw_g (lw_at lw_ms 119 rfl) rfl
theorem qs120 : (Cond.selects "TwinInkModel" ⟨"TwinInkModel", "daysGo", "(I)V"⟩ ⟨"TwinInkModel", "daysGo", "(I)V"⟩) ∈ lw_all := lw_g (lw_at lw_ms 120 rfl) rfl
theorem qs121 : (Cond.selects "TwinInkModel" ⟨"TwinInkModel", "mostBehind", "(II)I"⟩ ⟨"TwinInkModel", "mostBehind", "(II)I"⟩) ∈ lw_all := lw_g (lw_at lw_ms 121 rfl) rfl
theorem qs122 : (Cond.selects "TwinInkModel" ⟨"TwinInkModel", "canFollow", "(III)Z"⟩ ⟨"TwinInkModel", "canFollow", "(III)Z"⟩) ∈ lw_all := lw_g (lw_at lw_ms 122 rfl) rfl
theorem qs123 : (Cond.selects "TwinInkModel" ⟨"TwinInkModel", "isHeard", "()Z"⟩ ⟨"TwinInkModel", "isHeard", "()Z"⟩) ∈ lw_all := lw_g (lw_at lw_ms 123 rfl) rfl
theorem qs124 : (Cond.selects "TwinInkModel" ⟨"TwinInkModel", "isGuess", "(I)Z"⟩ ⟨"TwinInkModel", "isGuess", "(I)Z"⟩) ∈ lw_all := lw_g (lw_at lw_ms 124 rfl) rfl
theorem qs125 : (Cond.selects "TwinInkModel" ⟨"TwinInkModel", "gains", "(IIII)I"⟩ ⟨"TwinInkModel", "gains", "(IIII)I"⟩) ∈ lw_all := lw_g (lw_at lw_ms 125 rfl) rfl
theorem qs126 : (Cond.selects "TwinInkModel" ⟨"TwinInkModel", "bears", "(I)I"⟩ ⟨"TwinInkModel", "bears", "(I)I"⟩) ∈ lw_all := lw_g (lw_at lw_ms 126 rfl) rfl
theorem qs127 : (Cond.selects "TwinInkModel" ⟨"TwinInkModel", "newTo", "(II)I"⟩ ⟨"TwinInkModel", "newTo", "(II)I"⟩) ∈ lw_all := lw_g (lw_at lw_ms 127 rfl) rfl
theorem qs128 : (Cond.selects "TwinInkModel" ⟨"TwinInkModel", "happens", "()V"⟩ ⟨"TwinInkModel", "happens", "()V"⟩) ∈ lw_all := lw_g (lw_at lw_ms 128 rfl) rfl
theorem qs129 : (Cond.selects "TwinInkModel" ⟨"TwinInkModel", "draw", "(I)I"⟩ ⟨"TwinInkModel", "draw", "(I)I"⟩) ∈ lw_all := lw_g (lw_at lw_ms 129 rfl) rfl
theorem qs130 : (Cond.selects "TwinInkModel" ⟨"TwinInkModel", "takesLeast", "(I)V"⟩ ⟨"TwinInkModel", "takesLeast", "(I)V"⟩) ∈ lw_all := lw_g (lw_at lw_ms 130 rfl) rfl
theorem qs131 : (Cond.selects "TwinInkModel" ⟨"TwinInkModel", "isOrphan", "(I)Z"⟩ ⟨"TwinInkModel", "isOrphan", "(I)Z"⟩) ∈ lw_all := lw_g (lw_at lw_ms 131 rfl) rfl
theorem qs132 : (Cond.selects "TwinInkModel" ⟨"TwinInkModel", "hasWord", "(II)Z"⟩ ⟨"TwinInkModel", "hasWord", "(II)Z"⟩) ∈ lw_all := lw_g (lw_at lw_ms 132 rfl) rfl
theorem qs133 : (Cond.selects "TwinInkModel" ⟨"TwinInkModel", "knowledge", "()I"⟩ ⟨"TwinInkModel", "knowledge", "()I"⟩) ∈ lw_all := lw_g (lw_at lw_ms 133 rfl) rfl
