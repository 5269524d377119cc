-- ===== PART A: goes FIRST, ahead of the names: the tables' words, and 'selects' of the private methods out of them =====
/-- a private method of a class that the tables say can be made, by its rows of tables_1 -/
def lw_okq (q : MethodName × Nat) : Prop := (q.1.cls ≠ "java/lang/invoke/MethodHandle" ∧ q.1.cls ≠ "java/lang/invoke/VarHandle") ∧ Cond.instantiable q.1.cls q.2 ∈ tables_1 ∧ Cond.privateMethod q.1 ∈ tables_1 ∧ Cond.instanceMethod q.1 ∈ tables_1
set_option maxRecDepth 100000
theorem lw_t1 {w : Cond} (h : w ∈ tables_1_1) : w ∈ tables_1 := List.mem_append_left _ h
theorem lw_t2 {w : Cond} (h : w ∈ tables_1_2) : w ∈ tables_1 := List.mem_append_right _ (List.mem_append_left _ h)
theorem lw_t3 {w : Cond} (h : w ∈ tables_1_3) : w ∈ tables_1 := List.mem_append_right _ (List.mem_append_right _ (List.mem_append_left _ h))
theorem lw_t4 {w : Cond} (h : w ∈ tables_1_4) : w ∈ tables_1 := List.mem_append_right _ (List.mem_append_right _ (List.mem_append_right _ (List.mem_append_left _ h)))
theorem lw_t5 {w : Cond} (h : w ∈ tables_1_5) : w ∈ tables_1 := List.mem_append_right _ (List.mem_append_right _ (List.mem_append_right _ (List.mem_append_right _ (List.mem_append_left _ h))))
theorem lw_t6 {w : Cond} (h : w ∈ tables_1_6) : w ∈ tables_1 := List.mem_append_right _ (List.mem_append_right _ (List.mem_append_right _ (List.mem_append_right _ (List.mem_append_right _ (List.mem_append_left _ h)))))
theorem lw_t7 {w : Cond} (h : w ∈ tables_1_7) : w ∈ tables_1 := List.mem_append_right _ (List.mem_append_right _ (List.mem_append_right _ (List.mem_append_right _ (List.mem_append_right _ (List.mem_append_right _ (List.mem_append_left _ h))))))
theorem lw_t8 {w : Cond} (h : w ∈ tables_1_8) : w ∈ tables_1 := List.mem_append_right _ (List.mem_append_right _ (List.mem_append_right _ (List.mem_append_right _ (List.mem_append_right _ (List.mem_append_right _ (List.mem_append_right _ (List.mem_append_left _ h)))))))
theorem lw_t9 {w : Cond} (h : w ∈ tables_1_9) : w ∈ tables_1 := List.mem_append_right _ (List.mem_append_right _ (List.mem_append_right _ (List.mem_append_right _ (List.mem_append_right _ (List.mem_append_right _ (List.mem_append_right _ (List.mem_append_right _ (List.mem_append_left _ h))))))))
theorem lw_t10 {w : Cond} (h : w ∈ tables_1_10) : w ∈ tables_1 := List.mem_append_right _ (List.mem_append_right _ (List.mem_append_right _ (List.mem_append_right _ (List.mem_append_right _ (List.mem_append_right _ (List.mem_append_right _ (List.mem_append_right _ (List.mem_append_right _ (List.mem_append_left _ h)))))))))
theorem lw_t11 {w : Cond} (h : w ∈ tables_1_11) : w ∈ tables_1 := List.mem_append_right _ (List.mem_append_right _ (List.mem_append_right _ (List.mem_append_right _ (List.mem_append_right _ (List.mem_append_right _ (List.mem_append_right _ (List.mem_append_right _ (List.mem_append_right _ (List.mem_append_right _ (List.mem_append_left _ h))))))))))
theorem lw_t12 {w : Cond} (h : w ∈ tables_1_12) : w ∈ tables_1 := List.mem_append_right _ (List.mem_append_right _ (List.mem_append_right _ (List.mem_append_right _ (List.mem_append_right _ (List.mem_append_right _ (List.mem_append_right _ (List.mem_append_right _ (List.mem_append_right _ (List.mem_append_right _ (List.mem_append_right _ h))))))))))
theorem lw_p0 : lw_okq (⟨"java/lang/Throwable", "fillInStackTrace", "(I)Ljava/lang/Throwable;"⟩, 6) := ⟨⟨by decide +kernel, by decide +kernel⟩, lw_t2 (List.mem_of_getElem? (i := 23) rfl), lw_t2 (List.mem_of_getElem? (i := 21) rfl), lw_t2 (List.mem_of_getElem? (i := 22) rfl)⟩
theorem lw_p1 : lw_okq (⟨"OldWeather", "refuse", "(I)I"⟩, 51) := ⟨⟨by decide +kernel, by decide +kernel⟩, lw_t1 (List.mem_of_getElem? (i := 51) rfl), lw_t3 (List.mem_of_getElem? (i := 129) rfl), lw_t3 (List.mem_of_getElem? (i := 130) rfl)⟩
theorem lw_p2 : lw_okq (⟨"java/util/ArrayList", "grow", "(I)[Ljava/lang/Object;"⟩, 3) := ⟨⟨by decide +kernel, by decide +kernel⟩, lw_t1 (List.mem_of_getElem? (i := 65) rfl), lw_t3 (List.mem_of_getElem? (i := 205) rfl), lw_t3 (List.mem_of_getElem? (i := 206) rfl)⟩
theorem lw_p3 : lw_okq (⟨"OldWeather", "done", "(I)I"⟩, 51) := ⟨⟨by decide +kernel, by decide +kernel⟩, lw_t1 (List.mem_of_getElem? (i := 51) rfl), lw_t3 (List.mem_of_getElem? (i := 225) rfl), lw_t3 (List.mem_of_getElem? (i := 226) rfl)⟩
theorem lw_p4 : lw_okq (⟨"OldWeather", "told", "(I)I"⟩, 51) := ⟨⟨by decide +kernel, by decide +kernel⟩, lw_t1 (List.mem_of_getElem? (i := 51) rfl), lw_t3 (List.mem_of_getElem? (i := 233) rfl), lw_t3 (List.mem_of_getElem? (i := 234) rfl)⟩
theorem lw_p5 : lw_okq (⟨"OldWeather", "isPlace", "(I)Z"⟩, 51) := ⟨⟨by decide +kernel, by decide +kernel⟩, lw_t1 (List.mem_of_getElem? (i := 51) rfl), lw_t4 (List.mem_of_getElem? (i := 5) rfl), lw_t4 (List.mem_of_getElem? (i := 6) rfl)⟩
theorem lw_p6 : lw_okq (⟨"OldWeather", "isSource", "(I)Z"⟩, 51) := ⟨⟨by decide +kernel, by decide +kernel⟩, lw_t1 (List.mem_of_getElem? (i := 51) rfl), lw_t4 (List.mem_of_getElem? (i := 22) rfl), lw_t4 (List.mem_of_getElem? (i := 23) rfl)⟩
theorem lw_p7 : lw_okq (⟨"OldWeather", "lacks", "(IIIII)I"⟩, 51) := ⟨⟨by decide +kernel, by decide +kernel⟩, lw_t1 (List.mem_of_getElem? (i := 51) rfl), lw_t4 (List.mem_of_getElem? (i := 34) rfl), lw_t4 (List.mem_of_getElem? (i := 35) rfl)⟩
theorem lw_p8 : lw_okq (⟨"OldWeather", "puts", "(LOldWeather$Reading;I)I"⟩, 51) := ⟨⟨by decide +kernel, by decide +kernel⟩, lw_t1 (List.mem_of_getElem? (i := 51) rfl), lw_t4 (List.mem_of_getElem? (i := 91) rfl), lw_t4 (List.mem_of_getElem? (i := 92) rfl)⟩
theorem lw_p9 : lw_okq (⟨"java/util/ArrayList", "add", "(Ljava/lang/Object;[Ljava/lang/Object;I)V"⟩, 3) := ⟨⟨by decide +kernel, by decide +kernel⟩, lw_t1 (List.mem_of_getElem? (i := 65) rfl), lw_t4 (List.mem_of_getElem? (i := 99) rfl), lw_t4 (List.mem_of_getElem? (i := 100) rfl)⟩
theorem lw_p10 : lw_okq (⟨"java/util/ArrayList", "grow", "()[Ljava/lang/Object;"⟩, 3) := ⟨⟨by decide +kernel, by decide +kernel⟩, lw_t1 (List.mem_of_getElem? (i := 65) rfl), lw_t4 (List.mem_of_getElem? (i := 103) rfl), lw_t4 (List.mem_of_getElem? (i := 104) rfl)⟩
theorem lw_p11 : lw_okq (⟨"OldWeather", "isReading", "(I)Z"⟩, 51) := ⟨⟨by decide +kernel, by decide +kernel⟩, lw_t1 (List.mem_of_getElem? (i := 51) rfl), lw_t4 (List.mem_of_getElem? (i := 166) rfl), lw_t4 (List.mem_of_getElem? (i := 167) rfl)⟩
theorem lw_p12 : lw_okq (⟨"OldWeather", "keeps", "(IIIIII)I"⟩, 51) := ⟨⟨by decide +kernel, by decide +kernel⟩, lw_t1 (List.mem_of_getElem? (i := 51) rfl), lw_t5 (List.mem_of_getElem? (i := 25) rfl), lw_t5 (List.mem_of_getElem? (i := 26) rfl)⟩
theorem lw_p13 : lw_okq (⟨"OldWeather", "dates", "()V"⟩, 51) := ⟨⟨by decide +kernel, by decide +kernel⟩, lw_t1 (List.mem_of_getElem? (i := 51) rfl), lw_t5 (List.mem_of_getElem? (i := 33) rfl), lw_t5 (List.mem_of_getElem? (i := 34) rfl)⟩
theorem lw_p14 : lw_okq (⟨"OldWeather", "four", "(I)V"⟩, 51) := ⟨⟨by decide +kernel, by decide +kernel⟩, lw_t1 (List.mem_of_getElem? (i := 51) rfl), lw_t5 (List.mem_of_getElem? (i := 98) rfl), lw_t5 (List.mem_of_getElem? (i := 99) rfl)⟩
theorem lw_p15 : lw_okq (⟨"OldWeather$Reader", "next", "()V"⟩, 7) := ⟨⟨by decide +kernel, by decide +kernel⟩, lw_t5 (List.mem_of_getElem? (i := 111) rfl), lw_t5 (List.mem_of_getElem? (i := 146) rfl), lw_t5 (List.mem_of_getElem? (i := 147) rfl)⟩
def lw_privs_1 : List (MethodName × Nat) := [(⟨"java/lang/Throwable", "fillInStackTrace", "(I)Ljava/lang/Throwable;"⟩, 6), (⟨"OldWeather", "refuse", "(I)I"⟩, 51), (⟨"java/util/ArrayList", "grow", "(I)[Ljava/lang/Object;"⟩, 3), (⟨"OldWeather", "done", "(I)I"⟩, 51), (⟨"OldWeather", "told", "(I)I"⟩, 51), (⟨"OldWeather", "isPlace", "(I)Z"⟩, 51), (⟨"OldWeather", "isSource", "(I)Z"⟩, 51), (⟨"OldWeather", "lacks", "(IIIII)I"⟩, 51), (⟨"OldWeather", "puts", "(LOldWeather$Reading;I)I"⟩, 51), (⟨"java/util/ArrayList", "add", "(Ljava/lang/Object;[Ljava/lang/Object;I)V"⟩, 3), (⟨"java/util/ArrayList", "grow", "()[Ljava/lang/Object;"⟩, 3), (⟨"OldWeather", "isReading", "(I)Z"⟩, 51), (⟨"OldWeather", "keeps", "(IIIIII)I"⟩, 51), (⟨"OldWeather", "dates", "()V"⟩, 51), (⟨"OldWeather", "four", "(I)V"⟩, 51), (⟨"OldWeather$Reader", "next", "()V"⟩, 7)]
theorem lw_r1 : ∀ q ∈ lw_privs_1, lw_okq q := List.forall_mem_cons.mpr ⟨lw_p0, List.forall_mem_cons.mpr ⟨lw_p1, List.forall_mem_cons.mpr ⟨lw_p2, List.forall_mem_cons.mpr ⟨lw_p3, List.forall_mem_cons.mpr ⟨lw_p4, List.forall_mem_cons.mpr ⟨lw_p5, List.forall_mem_cons.mpr ⟨lw_p6, List.forall_mem_cons.mpr ⟨lw_p7, List.forall_mem_cons.mpr ⟨lw_p8, List.forall_mem_cons.mpr ⟨lw_p9, List.forall_mem_cons.mpr ⟨lw_p10, List.forall_mem_cons.mpr ⟨lw_p11, List.forall_mem_cons.mpr ⟨lw_p12, List.forall_mem_cons.mpr ⟨lw_p13, List.forall_mem_cons.mpr ⟨lw_p14, List.forall_mem_cons.mpr ⟨lw_p15, fun _ h => absurd h List.not_mem_nil⟩⟩⟩⟩⟩⟩⟩⟩⟩⟩⟩⟩⟩⟩⟩⟩
theorem lw_p16 : lw_okq (⟨"OldWeather$Reader", "isIn", "(III)Z"⟩, 7) := ⟨⟨by decide +kernel, by decide +kernel⟩, lw_t5 (List.mem_of_getElem? (i := 111) rfl), lw_t5 (List.mem_of_getElem? (i := 150) rfl), lw_t5 (List.mem_of_getElem? (i := 151) rfl)⟩
theorem lw_p17 : lw_okq (⟨"OldWeather$Reader", "clause", "()V"⟩, 7) := ⟨⟨by decide +kernel, by decide +kernel⟩, lw_t5 (List.mem_of_getElem? (i := 111) rfl), lw_t5 (List.mem_of_getElem? (i := 154) rfl), lw_t5 (List.mem_of_getElem? (i := 155) rfl)⟩
theorem lw_p18 : lw_okq (⟨"OldWeather$Reader", "takes", "(Ljava/lang/String;)Z"⟩, 7) := ⟨⟨by decide +kernel, by decide +kernel⟩, lw_t5 (List.mem_of_getElem? (i := 111) rfl), lw_t5 (List.mem_of_getElem? (i := 179) rfl), lw_t5 (List.mem_of_getElem? (i := 180) rfl)⟩
theorem lw_p19 : lw_okq (⟨"OldWeather$Reader", "is", "(Ljava/lang/String;)Z"⟩, 7) := ⟨⟨by decide +kernel, by decide +kernel⟩, lw_t5 (List.mem_of_getElem? (i := 111) rfl), lw_t5 (List.mem_of_getElem? (i := 183) rfl), lw_t5 (List.mem_of_getElem? (i := 184) rfl)⟩
theorem lw_p20 : lw_okq (⟨"OldWeather$Reader", "number", "(II)I"⟩, 7) := ⟨⟨by decide +kernel, by decide +kernel⟩, lw_t5 (List.mem_of_getElem? (i := 111) rfl), lw_t5 (List.mem_of_getElem? (i := 233) rfl), lw_t5 (List.mem_of_getElem? (i := 234) rfl)⟩
theorem lw_p21 : lw_okq (⟨"OldWeather$Reader", "need", "(Ljava/lang/String;)V"⟩, 7) := ⟨⟨by decide +kernel, by decide +kernel⟩, lw_t5 (List.mem_of_getElem? (i := 111) rfl), lw_t5 (List.mem_of_getElem? (i := 238) rfl), lw_t5 (List.mem_of_getElem? (i := 239) rfl)⟩
theorem lw_p22 : lw_okq (⟨"OldWeather$Reader", "head", "()LOldWeather$Clause;"⟩, 7) := ⟨⟨by decide +kernel, by decide +kernel⟩, lw_t5 (List.mem_of_getElem? (i := 111) rfl), lw_t6 (List.mem_of_getElem? (i := 38) rfl), lw_t6 (List.mem_of_getElem? (i := 39) rfl)⟩
theorem lw_p23 : lw_okq (⟨"OldWeather$Reader", "sum", "()LOldWeather$Sum;"⟩, 7) := ⟨⟨by decide +kernel, by decide +kernel⟩, lw_t5 (List.mem_of_getElem? (i := 111) rfl), lw_t6 (List.mem_of_getElem? (i := 43) rfl), lw_t6 (List.mem_of_getElem? (i := 44) rfl)⟩
theorem lw_p24 : lw_okq (⟨"OldWeather$Reader", "term", "()LOldWeather$Sum;"⟩, 7) := ⟨⟨by decide +kernel, by decide +kernel⟩, lw_t5 (List.mem_of_getElem? (i := 111) rfl), lw_t6 (List.mem_of_getElem? (i := 47) rfl), lw_t6 (List.mem_of_getElem? (i := 48) rfl)⟩
theorem lw_p25 : lw_okq (⟨"OldWeather$Reader", "part", "()LOldWeather$Sum;"⟩, 7) := ⟨⟨by decide +kernel, by decide +kernel⟩, lw_t5 (List.mem_of_getElem? (i := 111) rfl), lw_t6 (List.mem_of_getElem? (i := 51) rfl), lw_t6 (List.mem_of_getElem? (i := 52) rfl)⟩
theorem lw_p26 : lw_okq (⟨"OldWeather$Reader", "opens", "()V"⟩, 7) := ⟨⟨by decide +kernel, by decide +kernel⟩, lw_t5 (List.mem_of_getElem? (i := 111) rfl), lw_t6 (List.mem_of_getElem? (i := 56) rfl), lw_t6 (List.mem_of_getElem? (i := 57) rfl)⟩
theorem lw_p27 : lw_okq (⟨"OldWeather$Reader", "leaf", "()V"⟩, 7) := ⟨⟨by decide +kernel, by decide +kernel⟩, lw_t5 (List.mem_of_getElem? (i := 111) rfl), lw_t6 (List.mem_of_getElem? (i := 75) rfl), lw_t6 (List.mem_of_getElem? (i := 76) rfl)⟩
theorem lw_p28 : lw_okq (⟨"OldWeather$Reader", "field", "()I"⟩, 7) := ⟨⟨by decide +kernel, by decide +kernel⟩, lw_t5 (List.mem_of_getElem? (i := 111) rfl), lw_t6 (List.mem_of_getElem? (i := 89) rfl), lw_t6 (List.mem_of_getElem? (i := 90) rfl)⟩
theorem lw_p29 : lw_okq (⟨"OldWeather$Reader", "kind", "()I"⟩, 7) := ⟨⟨by decide +kernel, by decide +kernel⟩, lw_t5 (List.mem_of_getElem? (i := 111) rfl), lw_t6 (List.mem_of_getElem? (i := 133) rfl), lw_t6 (List.mem_of_getElem? (i := 134) rfl)⟩
theorem lw_p30 : lw_okq (⟨"OldWeather$Reader", "test", "()LOldWeather$Test;"⟩, 7) := ⟨⟨by decide +kernel, by decide +kernel⟩, lw_t5 (List.mem_of_getElem? (i := 111) rfl), lw_t6 (List.mem_of_getElem? (i := 143) rfl), lw_t6 (List.mem_of_getElem? (i := 144) rfl)⟩
theorem lw_p31 : lw_okq (⟨"OldWeather$Reader", "both", "()LOldWeather$Test;"⟩, 7) := ⟨⟨by decide +kernel, by decide +kernel⟩, lw_t5 (List.mem_of_getElem? (i := 111) rfl), lw_t6 (List.mem_of_getElem? (i := 147) rfl), lw_t6 (List.mem_of_getElem? (i := 148) rfl)⟩
def lw_privs_2 : List (MethodName × Nat) := [(⟨"OldWeather$Reader", "isIn", "(III)Z"⟩, 7), (⟨"OldWeather$Reader", "clause", "()V"⟩, 7), (⟨"OldWeather$Reader", "takes", "(Ljava/lang/String;)Z"⟩, 7), (⟨"OldWeather$Reader", "is", "(Ljava/lang/String;)Z"⟩, 7), (⟨"OldWeather$Reader", "number", "(II)I"⟩, 7), (⟨"OldWeather$Reader", "need", "(Ljava/lang/String;)V"⟩, 7), (⟨"OldWeather$Reader", "head", "()LOldWeather$Clause;"⟩, 7), (⟨"OldWeather$Reader", "sum", "()LOldWeather$Sum;"⟩, 7), (⟨"OldWeather$Reader", "term", "()LOldWeather$Sum;"⟩, 7), (⟨"OldWeather$Reader", "part", "()LOldWeather$Sum;"⟩, 7), (⟨"OldWeather$Reader", "opens", "()V"⟩, 7), (⟨"OldWeather$Reader", "leaf", "()V"⟩, 7), (⟨"OldWeather$Reader", "field", "()I"⟩, 7), (⟨"OldWeather$Reader", "kind", "()I"⟩, 7), (⟨"OldWeather$Reader", "test", "()LOldWeather$Test;"⟩, 7), (⟨"OldWeather$Reader", "both", "()LOldWeather$Test;"⟩, 7)]
theorem lw_r2 : ∀ q ∈ lw_privs_2, lw_okq q := List.forall_mem_cons.mpr ⟨lw_p16, List.forall_mem_cons.mpr ⟨lw_p17, List.forall_mem_cons.mpr ⟨lw_p18, List.forall_mem_cons.mpr ⟨lw_p19, List.forall_mem_cons.mpr ⟨lw_p20, List.forall_mem_cons.mpr ⟨lw_p21, List.forall_mem_cons.mpr ⟨lw_p22, List.forall_mem_cons.mpr ⟨lw_p23, List.forall_mem_cons.mpr ⟨lw_p24, List.forall_mem_cons.mpr ⟨lw_p25, List.forall_mem_cons.mpr ⟨lw_p26, List.forall_mem_cons.mpr ⟨lw_p27, List.forall_mem_cons.mpr ⟨lw_p28, List.forall_mem_cons.mpr ⟨lw_p29, List.forall_mem_cons.mpr ⟨lw_p30, List.forall_mem_cons.mpr ⟨lw_p31, fun _ h => absurd h List.not_mem_nil⟩⟩⟩⟩⟩⟩⟩⟩⟩⟩⟩⟩⟩⟩⟩⟩
theorem lw_p32 : lw_okq (⟨"OldWeather$Reader", "plain", "()LOldWeather$Test;"⟩, 7) := ⟨⟨by decide +kernel, by decide +kernel⟩, lw_t5 (List.mem_of_getElem? (i := 111) rfl), lw_t6 (List.mem_of_getElem? (i := 151) rfl), lw_t6 (List.mem_of_getElem? (i := 152) rfl)⟩
theorem lw_p33 : lw_okq (⟨"OldWeather$Reader", "positive", "()LOldWeather$Test;"⟩, 7) := ⟨⟨by decide +kernel, by decide +kernel⟩, lw_t5 (List.mem_of_getElem? (i := 111) rfl), lw_t6 (List.mem_of_getElem? (i := 156) rfl), lw_t6 (List.mem_of_getElem? (i := 157) rfl)⟩
theorem lw_p34 : lw_okq (⟨"OldWeather$Force", "goes", "(LOldWeather$Rules;)V"⟩, 7) := ⟨⟨by decide +kernel, by decide +kernel⟩, lw_t1 (List.mem_of_getElem? (i := 187) rfl), lw_t7 (List.mem_of_getElem? (i := 8) rfl), lw_t7 (List.mem_of_getElem? (i := 9) rfl)⟩
theorem lw_p35 : lw_okq (⟨"OldWeather", "isSure", "(II)Z"⟩, 51) := ⟨⟨by decide +kernel, by decide +kernel⟩, lw_t1 (List.mem_of_getElem? (i := 51) rfl), lw_t7 (List.mem_of_getElem? (i := 30) rfl), lw_t7 (List.mem_of_getElem? (i := 31) rfl)⟩
theorem lw_p36 : lw_okq (⟨"OldWeather", "isKnown", "(II)Z"⟩, 51) := ⟨⟨by decide +kernel, by decide +kernel⟩, lw_t1 (List.mem_of_getElem? (i := 51) rfl), lw_t7 (List.mem_of_getElem? (i := 34) rfl), lw_t7 (List.mem_of_getElem? (i := 35) rfl)⟩
theorem lw_p37 : lw_okq (⟨"OldWeather$Pairs", "beside", "(II)I"⟩, 7) := ⟨⟨by decide +kernel, by decide +kernel⟩, lw_t2 (List.mem_of_getElem? (i := 81) rfl), lw_t7 (List.mem_of_getElem? (i := 39) rfl), lw_t7 (List.mem_of_getElem? (i := 40) rfl)⟩
theorem lw_p38 : lw_okq (⟨"OldWeather", "rightOf", "(III)J"⟩, 51) := ⟨⟨by decide +kernel, by decide +kernel⟩, lw_t1 (List.mem_of_getElem? (i := 51) rfl), lw_t7 (List.mem_of_getElem? (i := 43) rfl), lw_t7 (List.mem_of_getElem? (i := 44) rfl)⟩
theorem lw_p39 : lw_okq (⟨"OldWeather", "last", "(IIIII)I"⟩, 51) := ⟨⟨by decide +kernel, by decide +kernel⟩, lw_t1 (List.mem_of_getElem? (i := 51) rfl), lw_t7 (List.mem_of_getElem? (i := 47) rfl), lw_t7 (List.mem_of_getElem? (i := 48) rfl)⟩
theorem lw_p40 : lw_okq (⟨"OldWeather", "learns", "(III)Z"⟩, 51) := ⟨⟨by decide +kernel, by decide +kernel⟩, lw_t1 (List.mem_of_getElem? (i := 51) rfl), lw_t7 (List.mem_of_getElem? (i := 106) rfl), lw_t7 (List.mem_of_getElem? (i := 107) rfl)⟩
theorem lw_p41 : lw_okq (⟨"OldWeather$Desk", "joins", "(I)V"⟩, 11) := ⟨⟨by decide +kernel, by decide +kernel⟩, lw_t2 (List.mem_of_getElem? (i := 110) rfl), lw_t7 (List.mem_of_getElem? (i := 122) rfl), lw_t7 (List.mem_of_getElem? (i := 123) rfl)⟩
theorem lw_p42 : lw_okq (⟨"OldWeather$Desk", "sharesOf", "(III)I"⟩, 11) := ⟨⟨by decide +kernel, by decide +kernel⟩, lw_t2 (List.mem_of_getElem? (i := 110) rfl), lw_t7 (List.mem_of_getElem? (i := 127) rfl), lw_t7 (List.mem_of_getElem? (i := 128) rfl)⟩
theorem lw_p43 : lw_okq (⟨"OldWeather$Desk", "merges", "(II)V"⟩, 11) := ⟨⟨by decide +kernel, by decide +kernel⟩, lw_t2 (List.mem_of_getElem? (i := 110) rfl), lw_t7 (List.mem_of_getElem? (i := 136) rfl), lw_t7 (List.mem_of_getElem? (i := 137) rfl)⟩
theorem lw_p44 : lw_okq (⟨"OldWeather", "bounds", "(III)Z"⟩, 51) := ⟨⟨by decide +kernel, by decide +kernel⟩, lw_t1 (List.mem_of_getElem? (i := 51) rfl), lw_t7 (List.mem_of_getElem? (i := 141) rfl), lw_t7 (List.mem_of_getElem? (i := 142) rfl)⟩
theorem lw_p45 : lw_okq (⟨"OldWeather", "spans", "(JJ)Z"⟩, 51) := ⟨⟨by decide +kernel, by decide +kernel⟩, lw_t1 (List.mem_of_getElem? (i := 51) rfl), lw_t7 (List.mem_of_getElem? (i := 154) rfl), lw_t7 (List.mem_of_getElem? (i := 155) rfl)⟩
theorem lw_p46 : lw_okq (⟨"OldWeather", "weightOf", "(III)J"⟩, 51) := ⟨⟨by decide +kernel, by decide +kernel⟩, lw_t1 (List.mem_of_getElem? (i := 51) rfl), lw_t7 (List.mem_of_getElem? (i := 167) rfl), lw_t7 (List.mem_of_getElem? (i := 168) rfl)⟩
theorem lw_p47 : lw_okq (⟨"OldWeather$Desk", "isStopped", "(I)Z"⟩, 11) := ⟨⟨by decide +kernel, by decide +kernel⟩, lw_t2 (List.mem_of_getElem? (i := 110) rfl), lw_t7 (List.mem_of_getElem? (i := 171) rfl), lw_t7 (List.mem_of_getElem? (i := 172) rfl)⟩
def lw_privs_3 : List (MethodName × Nat) := [(⟨"OldWeather$Reader", "plain", "()LOldWeather$Test;"⟩, 7), (⟨"OldWeather$Reader", "positive", "()LOldWeather$Test;"⟩, 7), (⟨"OldWeather$Force", "goes", "(LOldWeather$Rules;)V"⟩, 7), (⟨"OldWeather", "isSure", "(II)Z"⟩, 51), (⟨"OldWeather", "isKnown", "(II)Z"⟩, 51), (⟨"OldWeather$Pairs", "beside", "(II)I"⟩, 7), (⟨"OldWeather", "rightOf", "(III)J"⟩, 51), (⟨"OldWeather", "last", "(IIIII)I"⟩, 51), (⟨"OldWeather", "learns", "(III)Z"⟩, 51), (⟨"OldWeather$Desk", "joins", "(I)V"⟩, 11), (⟨"OldWeather$Desk", "sharesOf", "(III)I"⟩, 11), (⟨"OldWeather$Desk", "merges", "(II)V"⟩, 11), (⟨"OldWeather", "bounds", "(III)Z"⟩, 51), (⟨"OldWeather", "spans", "(JJ)Z"⟩, 51), (⟨"OldWeather", "weightOf", "(III)J"⟩, 51), (⟨"OldWeather$Desk", "isStopped", "(I)Z"⟩, 11)]
theorem lw_r3 : ∀ q ∈ lw_privs_3, lw_okq q := List.forall_mem_cons.mpr ⟨lw_p32, List.forall_mem_cons.mpr ⟨lw_p33, List.forall_mem_cons.mpr ⟨lw_p34, List.forall_mem_cons.mpr ⟨lw_p35, List.forall_mem_cons.mpr ⟨lw_p36, List.forall_mem_cons.mpr ⟨lw_p37, List.forall_mem_cons.mpr ⟨lw_p38, List.forall_mem_cons.mpr ⟨lw_p39, List.forall_mem_cons.mpr ⟨lw_p40, List.forall_mem_cons.mpr ⟨lw_p41, List.forall_mem_cons.mpr ⟨lw_p42, List.forall_mem_cons.mpr ⟨lw_p43, List.forall_mem_cons.mpr ⟨lw_p44, List.forall_mem_cons.mpr ⟨lw_p45, List.forall_mem_cons.mpr ⟨lw_p46, List.forall_mem_cons.mpr ⟨lw_p47, fun _ h => absurd h List.not_mem_nil⟩⟩⟩⟩⟩⟩⟩⟩⟩⟩⟩⟩⟩⟩⟩⟩
theorem lw_p48 : lw_okq (⟨"OldWeather$Desk", "isTold", "(II)Z"⟩, 11) := ⟨⟨by decide +kernel, by decide +kernel⟩, lw_t2 (List.mem_of_getElem? (i := 110) rfl), lw_t7 (List.mem_of_getElem? (i := 176) rfl), lw_t7 (List.mem_of_getElem? (i := 177) rfl)⟩
theorem lw_p49 : lw_okq (⟨"OldWeather", "joins", "(IIIIZ)V"⟩, 51) := ⟨⟨by decide +kernel, by decide +kernel⟩, lw_t1 (List.mem_of_getElem? (i := 51) rfl), lw_t7 (List.mem_of_getElem? (i := 226) rfl), lw_t7 (List.mem_of_getElem? (i := 227) rfl)⟩
theorem lw_p50 : lw_okq (⟨"OldWeather", "isOn", "(IIIZ)Z"⟩, 51) := ⟨⟨by decide +kernel, by decide +kernel⟩, lw_t1 (List.mem_of_getElem? (i := 51) rfl), lw_t7 (List.mem_of_getElem? (i := 230) rfl), lw_t7 (List.mem_of_getElem? (i := 231) rfl)⟩
theorem lw_p51 : lw_okq (⟨"OldWeather", "tells", "(I)I"⟩, 51) := ⟨⟨by decide +kernel, by decide +kernel⟩, lw_t1 (List.mem_of_getElem? (i := 51) rfl), lw_t8 (List.mem_of_getElem? (i := 1) rfl), lw_t8 (List.mem_of_getElem? (i := 2) rfl)⟩
theorem lw_p52 : lw_okq (⟨"OldWeather", "quarrels", "(I)V"⟩, 51) := ⟨⟨by decide +kernel, by decide +kernel⟩, lw_t1 (List.mem_of_getElem? (i := 51) rfl), lw_t8 (List.mem_of_getElem? (i := 32) rfl), lw_t8 (List.mem_of_getElem? (i := 33) rfl)⟩
theorem lw_p53 : lw_okq (⟨"OldWeather", "wishOf", "(I)I"⟩, 51) := ⟨⟨by decide +kernel, by decide +kernel⟩, lw_t1 (List.mem_of_getElem? (i := 51) rfl), lw_t8 (List.mem_of_getElem? (i := 36) rfl), lw_t8 (List.mem_of_getElem? (i := 37) rfl)⟩
theorem lw_p54 : lw_okq (⟨"OldWeather", "areLike", "(II)Z"⟩, 51) := ⟨⟨by decide +kernel, by decide +kernel⟩, lw_t1 (List.mem_of_getElem? (i := 51) rfl), lw_t8 (List.mem_of_getElem? (i := 40) rfl), lw_t8 (List.mem_of_getElem? (i := 41) rfl)⟩
theorem lw_p55 : lw_okq (⟨"OldWeather", "quarrel", "(IIII)Z"⟩, 51) := ⟨⟨by decide +kernel, by decide +kernel⟩, lw_t1 (List.mem_of_getElem? (i := 51) rfl), lw_t8 (List.mem_of_getElem? (i := 44) rfl), lw_t8 (List.mem_of_getElem? (i := 45) rfl)⟩
theorem lw_p56 : lw_okq (⟨"OldWeather", "counts", "(IIII)V"⟩, 51) := ⟨⟨by decide +kernel, by decide +kernel⟩, lw_t1 (List.mem_of_getElem? (i := 51) rfl), lw_t8 (List.mem_of_getElem? (i := 48) rfl), lw_t8 (List.mem_of_getElem? (i := 49) rfl)⟩
theorem lw_p57 : lw_okq (⟨"OldWeather", "tries", "(I)V"⟩, 51) := ⟨⟨by decide +kernel, by decide +kernel⟩, lw_t1 (List.mem_of_getElem? (i := 51) rfl), lw_t8 (List.mem_of_getElem? (i := 52) rfl), lw_t8 (List.mem_of_getElem? (i := 53) rfl)⟩
theorem lw_p58 : lw_okq (⟨"OldWeather", "quarrelsOfRow", "()I"⟩, 51) := ⟨⟨by decide +kernel, by decide +kernel⟩, lw_t1 (List.mem_of_getElem? (i := 51) rfl), lw_t8 (List.mem_of_getElem? (i := 56) rfl), lw_t8 (List.mem_of_getElem? (i := 57) rfl)⟩
theorem lw_p59 : lw_okq (⟨"OldWeather", "winters", "(III)V"⟩, 51) := ⟨⟨by decide +kernel, by decide +kernel⟩, lw_t1 (List.mem_of_getElem? (i := 51) rfl), lw_t8 (List.mem_of_getElem? (i := 81) rfl), lw_t8 (List.mem_of_getElem? (i := 82) rfl)⟩
theorem lw_p60 : lw_okq (⟨"OldWeather", "widthsOf", "(IIII)I"⟩, 51) := ⟨⟨by decide +kernel, by decide +kernel⟩, lw_t1 (List.mem_of_getElem? (i := 51) rfl), lw_t8 (List.mem_of_getElem? (i := 101) rfl), lw_t8 (List.mem_of_getElem? (i := 102) rfl)⟩
theorem lw_p61 : lw_okq (⟨"OldWeather", "hoursOf", "(I)I"⟩, 51) := ⟨⟨by decide +kernel, by decide +kernel⟩, lw_t1 (List.mem_of_getElem? (i := 51) rfl), lw_t8 (List.mem_of_getElem? (i := 105) rfl), lw_t8 (List.mem_of_getElem? (i := 106) rfl)⟩
theorem lw_p62 : lw_okq (⟨"OldWeather", "sums", "(II)V"⟩, 51) := ⟨⟨by decide +kernel, by decide +kernel⟩, lw_t1 (List.mem_of_getElem? (i := 51) rfl), lw_t8 (List.mem_of_getElem? (i := 122) rfl), lw_t8 (List.mem_of_getElem? (i := 123) rfl)⟩
theorem lw_p63 : lw_okq (⟨"OldWeather", "isIn", "(III)Z"⟩, 51) := ⟨⟨by decide +kernel, by decide +kernel⟩, lw_t1 (List.mem_of_getElem? (i := 51) rfl), lw_t8 (List.mem_of_getElem? (i := 126) rfl), lw_t8 (List.mem_of_getElem? (i := 127) rfl)⟩
def lw_privs_4 : List (MethodName × Nat) := [(⟨"OldWeather$Desk", "isTold", "(II)Z"⟩, 11), (⟨"OldWeather", "joins", "(IIIIZ)V"⟩, 51), (⟨"OldWeather", "isOn", "(IIIZ)Z"⟩, 51), (⟨"OldWeather", "tells", "(I)I"⟩, 51), (⟨"OldWeather", "quarrels", "(I)V"⟩, 51), (⟨"OldWeather", "wishOf", "(I)I"⟩, 51), (⟨"OldWeather", "areLike", "(II)Z"⟩, 51), (⟨"OldWeather", "quarrel", "(IIII)Z"⟩, 51), (⟨"OldWeather", "counts", "(IIII)V"⟩, 51), (⟨"OldWeather", "tries", "(I)V"⟩, 51), (⟨"OldWeather", "quarrelsOfRow", "()I"⟩, 51), (⟨"OldWeather", "winters", "(III)V"⟩, 51), (⟨"OldWeather", "widthsOf", "(IIII)I"⟩, 51), (⟨"OldWeather", "hoursOf", "(I)I"⟩, 51), (⟨"OldWeather", "sums", "(II)V"⟩, 51), (⟨"OldWeather", "isIn", "(III)Z"⟩, 51)]
theorem lw_r4 : ∀ q ∈ lw_privs_4, lw_okq q := List.forall_mem_cons.mpr ⟨lw_p48, List.forall_mem_cons.mpr ⟨lw_p49, List.forall_mem_cons.mpr ⟨lw_p50, List.forall_mem_cons.mpr ⟨lw_p51, List.forall_mem_cons.mpr ⟨lw_p52, List.forall_mem_cons.mpr ⟨lw_p53, List.forall_mem_cons.mpr ⟨lw_p54, List.forall_mem_cons.mpr ⟨lw_p55, List.forall_mem_cons.mpr ⟨lw_p56, List.forall_mem_cons.mpr ⟨lw_p57, List.forall_mem_cons.mpr ⟨lw_p58, List.forall_mem_cons.mpr ⟨lw_p59, List.forall_mem_cons.mpr ⟨lw_p60, List.forall_mem_cons.mpr ⟨lw_p61, List.forall_mem_cons.mpr ⟨lw_p62, List.forall_mem_cons.mpr ⟨lw_p63, fun _ h => absurd h List.not_mem_nil⟩⟩⟩⟩⟩⟩⟩⟩⟩⟩⟩⟩⟩⟩⟩⟩
theorem lw_p64 : lw_okq (⟨"OldWeatherModel", "told", "(I)I"⟩, 83) := ⟨⟨by decide +kernel, by decide +kernel⟩, lw_t8 (List.mem_of_getElem? (i := 149) rfl), lw_t9 (List.mem_of_getElem? (i := 175) rfl), lw_t9 (List.mem_of_getElem? (i := 176) rfl)⟩
theorem lw_p65 : lw_okq (⟨"OldWeatherModel", "findDate", "(II)V"⟩, 83) := ⟨⟨by decide +kernel, by decide +kernel⟩, lw_t8 (List.mem_of_getElem? (i := 149) rfl), lw_t9 (List.mem_of_getElem? (i := 210) rfl), lw_t9 (List.mem_of_getElem? (i := 211) rfl)⟩
theorem lw_p66 : lw_okq (⟨"OldWeatherModel", "isPlace", "(I)Z"⟩, 83) := ⟨⟨by decide +kernel, by decide +kernel⟩, lw_t8 (List.mem_of_getElem? (i := 149) rfl), lw_t9 (List.mem_of_getElem? (i := 229) rfl), lw_t9 (List.mem_of_getElem? (i := 230) rfl)⟩
theorem lw_p67 : lw_okq (⟨"OldWeatherModel", "addFour", "(IIIII)V"⟩, 83) := ⟨⟨by decide +kernel, by decide +kernel⟩, lw_t8 (List.mem_of_getElem? (i := 149) rfl), lw_t10 (List.mem_of_getElem? (i := 3) rfl), lw_t10 (List.mem_of_getElem? (i := 4) rfl)⟩
theorem lw_p68 : lw_okq (⟨"OldWeatherModel", "isSource", "(I)Z"⟩, 83) := ⟨⟨by decide +kernel, by decide +kernel⟩, lw_t8 (List.mem_of_getElem? (i := 149) rfl), lw_t10 (List.mem_of_getElem? (i := 12) rfl), lw_t10 (List.mem_of_getElem? (i := 13) rfl)⟩
theorem lw_p69 : lw_okq (⟨"OldWeatherModel", "tell", "(IIIIIIZII)I"⟩, 83) := ⟨⟨by decide +kernel, by decide +kernel⟩, lw_t8 (List.mem_of_getElem? (i := 149) rfl), lw_t10 (List.mem_of_getElem? (i := 25) rfl), lw_t10 (List.mem_of_getElem? (i := 26) rfl)⟩
theorem lw_p70 : lw_okq (⟨"OldWeatherModel", "isReading", "(I)Z"⟩, 83) := ⟨⟨by decide +kernel, by decide +kernel⟩, lw_t8 (List.mem_of_getElem? (i := 149) rfl), lw_t10 (List.mem_of_getElem? (i := 33) rfl), lw_t10 (List.mem_of_getElem? (i := 34) rfl)⟩
theorem lw_p71 : lw_okq (⟨"OldWeatherModel", "keep", "(IIIIIIII)I"⟩, 83) := ⟨⟨by decide +kernel, by decide +kernel⟩, lw_t8 (List.mem_of_getElem? (i := 149) rfl), lw_t10 (List.mem_of_getElem? (i := 37) rfl), lw_t10 (List.mem_of_getElem? (i := 38) rfl)⟩
theorem lw_p72 : lw_okq (⟨"OldWeatherModel", "findDays", "(I)V"⟩, 83) := ⟨⟨by decide +kernel, by decide +kernel⟩, lw_t8 (List.mem_of_getElem? (i := 149) rfl), lw_t10 (List.mem_of_getElem? (i := 65) rfl), lw_t10 (List.mem_of_getElem? (i := 66) rfl)⟩
theorem lw_p73 : lw_okq (⟨"OldWeatherModel", "sourceOf", "(I)I"⟩, 83) := ⟨⟨by decide +kernel, by decide +kernel⟩, lw_t8 (List.mem_of_getElem? (i := 149) rfl), lw_t10 (List.mem_of_getElem? (i := 69) rfl), lw_t10 (List.mem_of_getElem? (i := 70) rfl)⟩
theorem lw_p74 : lw_okq (⟨"OldWeatherModel", "get", "(II)I"⟩, 83) := ⟨⟨by decide +kernel, by decide +kernel⟩, lw_t8 (List.mem_of_getElem? (i := 149) rfl), lw_t10 (List.mem_of_getElem? (i := 73) rfl), lw_t10 (List.mem_of_getElem? (i := 74) rfl)⟩
theorem lw_p75 : lw_okq (⟨"OldWeatherModel", "bitsAt", "(I)I"⟩, 83) := ⟨⟨by decide +kernel, by decide +kernel⟩, lw_t8 (List.mem_of_getElem? (i := 149) rfl), lw_t10 (List.mem_of_getElem? (i := 90) rfl), lw_t10 (List.mem_of_getElem? (i := 91) rfl)⟩
theorem lw_p76 : lw_okq (⟨"OldWeatherModel", "dayOn", "(I)V"⟩, 83) := ⟨⟨by decide +kernel, by decide +kernel⟩, lw_t8 (List.mem_of_getElem? (i := 149) rfl), lw_t10 (List.mem_of_getElem? (i := 100) rfl), lw_t10 (List.mem_of_getElem? (i := 101) rfl)⟩
theorem lw_p77 : lw_okq (⟨"OldWeatherModel", "four", "(I)V"⟩, 83) := ⟨⟨by decide +kernel, by decide +kernel⟩, lw_t8 (List.mem_of_getElem? (i := 149) rfl), lw_t10 (List.mem_of_getElem? (i := 108) rfl), lw_t10 (List.mem_of_getElem? (i := 109) rfl)⟩
theorem lw_p78 : lw_okq (⟨"OldWeatherModel", "begin", "()V"⟩, 83) := ⟨⟨by decide +kernel, by decide +kernel⟩, lw_t8 (List.mem_of_getElem? (i := 149) rfl), lw_t10 (List.mem_of_getElem? (i := 124) rfl), lw_t10 (List.mem_of_getElem? (i := 125) rfl)⟩
theorem lw_p79 : lw_okq (⟨"OldWeatherModel", "next", "()V"⟩, 83) := ⟨⟨by decide +kernel, by decide +kernel⟩, lw_t8 (List.mem_of_getElem? (i := 149) rfl), lw_t10 (List.mem_of_getElem? (i := 128) rfl), lw_t10 (List.mem_of_getElem? (i := 129) rfl)⟩
def lw_privs_5 : List (MethodName × Nat) := [(⟨"OldWeatherModel", "told", "(I)I"⟩, 83), (⟨"OldWeatherModel", "findDate", "(II)V"⟩, 83), (⟨"OldWeatherModel", "isPlace", "(I)Z"⟩, 83), (⟨"OldWeatherModel", "addFour", "(IIIII)V"⟩, 83), (⟨"OldWeatherModel", "isSource", "(I)Z"⟩, 83), (⟨"OldWeatherModel", "tell", "(IIIIIIZII)I"⟩, 83), (⟨"OldWeatherModel", "isReading", "(I)Z"⟩, 83), (⟨"OldWeatherModel", "keep", "(IIIIIIII)I"⟩, 83), (⟨"OldWeatherModel", "findDays", "(I)V"⟩, 83), (⟨"OldWeatherModel", "sourceOf", "(I)I"⟩, 83), (⟨"OldWeatherModel", "get", "(II)I"⟩, 83), (⟨"OldWeatherModel", "bitsAt", "(I)I"⟩, 83), (⟨"OldWeatherModel", "dayOn", "(I)V"⟩, 83), (⟨"OldWeatherModel", "four", "(I)V"⟩, 83), (⟨"OldWeatherModel", "begin", "()V"⟩, 83), (⟨"OldWeatherModel", "next", "()V"⟩, 83)]
theorem lw_r5 : ∀ q ∈ lw_privs_5, lw_okq q := List.forall_mem_cons.mpr ⟨lw_p64, List.forall_mem_cons.mpr ⟨lw_p65, List.forall_mem_cons.mpr ⟨lw_p66, List.forall_mem_cons.mpr ⟨lw_p67, List.forall_mem_cons.mpr ⟨lw_p68, List.forall_mem_cons.mpr ⟨lw_p69, List.forall_mem_cons.mpr ⟨lw_p70, List.forall_mem_cons.mpr ⟨lw_p71, List.forall_mem_cons.mpr ⟨lw_p72, List.forall_mem_cons.mpr ⟨lw_p73, List.forall_mem_cons.mpr ⟨lw_p74, List.forall_mem_cons.mpr ⟨lw_p75, List.forall_mem_cons.mpr ⟨lw_p76, List.forall_mem_cons.mpr ⟨lw_p77, List.forall_mem_cons.mpr ⟨lw_p78, List.forall_mem_cons.mpr ⟨lw_p79, fun _ h => absurd h List.not_mem_nil⟩⟩⟩⟩⟩⟩⟩⟩⟩⟩⟩⟩⟩⟩⟩⟩
theorem lw_p80 : lw_okq (⟨"OldWeatherModel", "readClause", "()V"⟩, 83) := ⟨⟨by decide +kernel, by decide +kernel⟩, lw_t8 (List.mem_of_getElem? (i := 149) rfl), lw_t10 (List.mem_of_getElem? (i := 143) rfl), lw_t10 (List.mem_of_getElem? (i := 144) rfl)⟩
theorem lw_p81 : lw_okq (⟨"OldWeatherModel", "headAt", "()I"⟩, 83) := ⟨⟨by decide +kernel, by decide +kernel⟩, lw_t8 (List.mem_of_getElem? (i := 149) rfl), lw_t10 (List.mem_of_getElem? (i := 147) rfl), lw_t10 (List.mem_of_getElem? (i := 148) rfl)⟩
theorem lw_p82 : lw_okq (⟨"OldWeatherModel", "isWord", "(J)Z"⟩, 83) := ⟨⟨by decide +kernel, by decide +kernel⟩, lw_t8 (List.mem_of_getElem? (i := 149) rfl), lw_t10 (List.mem_of_getElem? (i := 152) rfl), lw_t10 (List.mem_of_getElem? (i := 153) rfl)⟩
theorem lw_p83 : lw_okq (⟨"OldWeatherModel", "must", "(Z)V"⟩, 83) := ⟨⟨by decide +kernel, by decide +kernel⟩, lw_t8 (List.mem_of_getElem? (i := 149) rfl), lw_t10 (List.mem_of_getElem? (i := 164) rfl), lw_t10 (List.mem_of_getElem? (i := 165) rfl)⟩
theorem lw_p84 : lw_okq (⟨"OldWeatherModel", "number", "(JJ)I"⟩, 83) := ⟨⟨by decide +kernel, by decide +kernel⟩, lw_t8 (List.mem_of_getElem? (i := 149) rfl), lw_t10 (List.mem_of_getElem? (i := 168) rfl), lw_t10 (List.mem_of_getElem? (i := 169) rfl)⟩
theorem lw_p85 : lw_okq (⟨"OldWeatherModel", "kindAt", "()I"⟩, 83) := ⟨⟨by decide +kernel, by decide +kernel⟩, lw_t8 (List.mem_of_getElem? (i := 149) rfl), lw_t10 (List.mem_of_getElem? (i := 175) rfl), lw_t10 (List.mem_of_getElem? (i := 176) rfl)⟩
theorem lw_p86 : lw_okq (⟨"OldWeatherModel", "choice", "(I)I"⟩, 83) := ⟨⟨by decide +kernel, by decide +kernel⟩, lw_t8 (List.mem_of_getElem? (i := 149) rfl), lw_t10 (List.mem_of_getElem? (i := 181) rfl), lw_t10 (List.mem_of_getElem? (i := 182) rfl)⟩
theorem lw_p87 : lw_okq (⟨"OldWeatherModel", "readPieces", "(IZZ)V"⟩, 83) := ⟨⟨by decide +kernel, by decide +kernel⟩, lw_t8 (List.mem_of_getElem? (i := 149) rfl), lw_t10 (List.mem_of_getElem? (i := 185) rfl), lw_t10 (List.mem_of_getElem? (i := 186) rfl)⟩
theorem lw_p88 : lw_okq (⟨"OldWeatherModel", "readExpression", "(Z)V"⟩, 83) := ⟨⟨by decide +kernel, by decide +kernel⟩, lw_t8 (List.mem_of_getElem? (i := 149) rfl), lw_t10 (List.mem_of_getElem? (i := 189) rfl), lw_t10 (List.mem_of_getElem? (i := 190) rfl)⟩
theorem lw_p89 : lw_okq (⟨"OldWeatherModel", "readPlain", "()I"⟩, 83) := ⟨⟨by decide +kernel, by decide +kernel⟩, lw_t8 (List.mem_of_getElem? (i := 149) rfl), lw_t10 (List.mem_of_getElem? (i := 193) rfl), lw_t10 (List.mem_of_getElem? (i := 194) rfl)⟩
theorem lw_p90 : lw_okq (⟨"OldWeatherModel", "push", "(II)V"⟩, 83) := ⟨⟨by decide +kernel, by decide +kernel⟩, lw_t8 (List.mem_of_getElem? (i := 149) rfl), lw_t10 (List.mem_of_getElem? (i := 198) rfl), lw_t10 (List.mem_of_getElem? (i := 199) rfl)⟩
theorem lw_p91 : lw_okq (⟨"OldWeatherModel", "isSign", "(I)Z"⟩, 83) := ⟨⟨by decide +kernel, by decide +kernel⟩, lw_t8 (List.mem_of_getElem? (i := 149) rfl), lw_t10 (List.mem_of_getElem? (i := 202) rfl), lw_t10 (List.mem_of_getElem? (i := 203) rfl)⟩
theorem lw_p92 : lw_okq (⟨"OldWeatherModel", "open", "(I)V"⟩, 83) := ⟨⟨by decide +kernel, by decide +kernel⟩, lw_t8 (List.mem_of_getElem? (i := 149) rfl), lw_t10 (List.mem_of_getElem? (i := 206) rfl), lw_t10 (List.mem_of_getElem? (i := 207) rfl)⟩
theorem lw_p93 : lw_okq (⟨"OldWeatherModel", "readPart", "()I"⟩, 83) := ⟨⟨by decide +kernel, by decide +kernel⟩, lw_t8 (List.mem_of_getElem? (i := 149) rfl), lw_t10 (List.mem_of_getElem? (i := 210) rfl), lw_t10 (List.mem_of_getElem? (i := 211) rfl)⟩
theorem lw_p94 : lw_okq (⟨"OldWeatherModel", "partAt", "()I"⟩, 83) := ⟨⟨by decide +kernel, by decide +kernel⟩, lw_t8 (List.mem_of_getElem? (i := 149) rfl), lw_t10 (List.mem_of_getElem? (i := 214) rfl), lw_t10 (List.mem_of_getElem? (i := 215) rfl)⟩
theorem lw_p95 : lw_okq (⟨"OldWeatherModel", "emit", "(II)V"⟩, 83) := ⟨⟨by decide +kernel, by decide +kernel⟩, lw_t8 (List.mem_of_getElem? (i := 149) rfl), lw_t10 (List.mem_of_getElem? (i := 226) rfl), lw_t10 (List.mem_of_getElem? (i := 227) rfl)⟩
def lw_privs_6 : List (MethodName × Nat) := [(⟨"OldWeatherModel", "readClause", "()V"⟩, 83), (⟨"OldWeatherModel", "headAt", "()I"⟩, 83), (⟨"OldWeatherModel", "isWord", "(J)Z"⟩, 83), (⟨"OldWeatherModel", "must", "(Z)V"⟩, 83), (⟨"OldWeatherModel", "number", "(JJ)I"⟩, 83), (⟨"OldWeatherModel", "kindAt", "()I"⟩, 83), (⟨"OldWeatherModel", "choice", "(I)I"⟩, 83), (⟨"OldWeatherModel", "readPieces", "(IZZ)V"⟩, 83), (⟨"OldWeatherModel", "readExpression", "(Z)V"⟩, 83), (⟨"OldWeatherModel", "readPlain", "()I"⟩, 83), (⟨"OldWeatherModel", "push", "(II)V"⟩, 83), (⟨"OldWeatherModel", "isSign", "(I)Z"⟩, 83), (⟨"OldWeatherModel", "open", "(I)V"⟩, 83), (⟨"OldWeatherModel", "readPart", "()I"⟩, 83), (⟨"OldWeatherModel", "partAt", "()I"⟩, 83), (⟨"OldWeatherModel", "emit", "(II)V"⟩, 83)]
theorem lw_r6 : ∀ q ∈ lw_privs_6, lw_okq q := List.forall_mem_cons.mpr ⟨lw_p80, List.forall_mem_cons.mpr ⟨lw_p81, List.forall_mem_cons.mpr ⟨lw_p82, List.forall_mem_cons.mpr ⟨lw_p83, List.forall_mem_cons.mpr ⟨lw_p84, List.forall_mem_cons.mpr ⟨lw_p85, List.forall_mem_cons.mpr ⟨lw_p86, List.forall_mem_cons.mpr ⟨lw_p87, List.forall_mem_cons.mpr ⟨lw_p88, List.forall_mem_cons.mpr ⟨lw_p89, List.forall_mem_cons.mpr ⟨lw_p90, List.forall_mem_cons.mpr ⟨lw_p91, List.forall_mem_cons.mpr ⟨lw_p92, List.forall_mem_cons.mpr ⟨lw_p93, List.forall_mem_cons.mpr ⟨lw_p94, List.forall_mem_cons.mpr ⟨lw_p95, fun _ h => absurd h List.not_mem_nil⟩⟩⟩⟩⟩⟩⟩⟩⟩⟩⟩⟩⟩⟩⟩⟩
theorem lw_p96 : lw_okq (⟨"OldWeatherModel", "settle", "(I)V"⟩, 83) := ⟨⟨by decide +kernel, by decide +kernel⟩, lw_t8 (List.mem_of_getElem? (i := 149) rfl), lw_t10 (List.mem_of_getElem? (i := 230) rfl), lw_t10 (List.mem_of_getElem? (i := 231) rfl)⟩
theorem lw_p97 : lw_okq (⟨"OldWeatherModel", "behindSum", "(Z)I"⟩, 83) := ⟨⟨by decide +kernel, by decide +kernel⟩, lw_t8 (List.mem_of_getElem? (i := 149) rfl), lw_t10 (List.mem_of_getElem? (i := 237) rfl), lw_t10 (List.mem_of_getElem? (i := 238) rfl)⟩
theorem lw_p98 : lw_okq (⟨"OldWeatherModel", "inner", "()I"⟩, 83) := ⟨⟨by decide +kernel, by decide +kernel⟩, lw_t8 (List.mem_of_getElem? (i := 149) rfl), lw_t11 (List.mem_of_getElem? (i := 1) rfl), lw_t11 (List.mem_of_getElem? (i := 2) rfl)⟩
theorem lw_p99 : lw_okq (⟨"OldWeatherModel", "isCompared", "()Z"⟩, 83) := ⟨⟨by decide +kernel, by decide +kernel⟩, lw_t8 (List.mem_of_getElem? (i := 149) rfl), lw_t11 (List.mem_of_getElem? (i := 5) rfl), lw_t11 (List.mem_of_getElem? (i := 6) rfl)⟩
theorem lw_p100 : lw_okq (⟨"OldWeatherModel", "behindTest", "()I"⟩, 83) := ⟨⟨by decide +kernel, by decide +kernel⟩, lw_t8 (List.mem_of_getElem? (i := 149) rfl), lw_t11 (List.mem_of_getElem? (i := 11) rfl), lw_t11 (List.mem_of_getElem? (i := 12) rfl)⟩
theorem lw_p101 : lw_okq (⟨"OldWeatherModel", "knowBy", "(I)V"⟩, 83) := ⟨⟨by decide +kernel, by decide +kernel⟩, lw_t8 (List.mem_of_getElem? (i := 149) rfl), lw_t11 (List.mem_of_getElem? (i := 27) rfl), lw_t11 (List.mem_of_getElem? (i := 28) rfl)⟩
theorem lw_p102 : lw_okq (⟨"OldWeatherModel", "findAllDays", "()V"⟩, 83) := ⟨⟨by decide +kernel, by decide +kernel⟩, lw_t8 (List.mem_of_getElem? (i := 149) rfl), lw_t11 (List.mem_of_getElem? (i := 31) rfl), lw_t11 (List.mem_of_getElem? (i := 32) rfl)⟩
theorem lw_p103 : lw_okq (⟨"OldWeatherModel", "findOnes", "()V"⟩, 83) := ⟨⟨by decide +kernel, by decide +kernel⟩, lw_t8 (List.mem_of_getElem? (i := 149) rfl), lw_t11 (List.mem_of_getElem? (i := 38) rfl), lw_t11 (List.mem_of_getElem? (i := 39) rfl)⟩
theorem lw_p104 : lw_okq (⟨"OldWeatherModel", "lastOf", "(II)I"⟩, 83) := ⟨⟨by decide +kernel, by decide +kernel⟩, lw_t8 (List.mem_of_getElem? (i := 149) rfl), lw_t11 (List.mem_of_getElem? (i := 42) rfl), lw_t11 (List.mem_of_getElem? (i := 43) rfl)⟩
theorem lw_p105 : lw_okq (⟨"OldWeatherModel", "shared", "(II)I"⟩, 83) := ⟨⟨by decide +kernel, by decide +kernel⟩, lw_t8 (List.mem_of_getElem? (i := 149) rfl), lw_t11 (List.mem_of_getElem? (i := 46) rfl), lw_t11 (List.mem_of_getElem? (i := 47) rfl)⟩
theorem lw_p106 : lw_okq (⟨"OldWeatherModel", "dayFirst", "(I)I"⟩, 83) := ⟨⟨by decide +kernel, by decide +kernel⟩, lw_t8 (List.mem_of_getElem? (i := 149) rfl), lw_t11 (List.mem_of_getElem? (i := 54) rfl), lw_t11 (List.mem_of_getElem? (i := 55) rfl)⟩
theorem lw_p107 : lw_okq (⟨"OldWeatherModel", "isTold", "(I)Z"⟩, 83) := ⟨⟨by decide +kernel, by decide +kernel⟩, lw_t8 (List.mem_of_getElem? (i := 149) rfl), lw_t11 (List.mem_of_getElem? (i := 58) rfl), lw_t11 (List.mem_of_getElem? (i := 59) rfl)⟩
theorem lw_p108 : lw_okq (⟨"OldWeatherModel", "findBounds", "(II)Z"⟩, 83) := ⟨⟨by decide +kernel, by decide +kernel⟩, lw_t8 (List.mem_of_getElem? (i := 149) rfl), lw_t11 (List.mem_of_getElem? (i := 62) rfl), lw_t11 (List.mem_of_getElem? (i := 63) rfl)⟩
theorem lw_p109 : lw_okq (⟨"OldWeatherModel", "putRight", "(II)J"⟩, 83) := ⟨⟨by decide +kernel, by decide +kernel⟩, lw_t8 (List.mem_of_getElem? (i := 149) rfl), lw_t11 (List.mem_of_getElem? (i := 66) rfl), lw_t11 (List.mem_of_getElem? (i := 67) rfl)⟩
theorem lw_p110 : lw_okq (⟨"OldWeatherModel", "find", "(IIIII)Z"⟩, 83) := ⟨⟨by decide +kernel, by decide +kernel⟩, lw_t8 (List.mem_of_getElem? (i := 149) rfl), lw_t11 (List.mem_of_getElem? (i := 70) rfl), lw_t11 (List.mem_of_getElem? (i := 71) rfl)⟩
theorem lw_p111 : lw_okq (⟨"OldWeatherModel", "setFor", "(II)V"⟩, 83) := ⟨⟨by decide +kernel, by decide +kernel⟩, lw_t8 (List.mem_of_getElem? (i := 149) rfl), lw_t11 (List.mem_of_getElem? (i := 74) rfl), lw_t11 (List.mem_of_getElem? (i := 75) rfl)⟩
def lw_privs_7 : List (MethodName × Nat) := [(⟨"OldWeatherModel", "settle", "(I)V"⟩, 83), (⟨"OldWeatherModel", "behindSum", "(Z)I"⟩, 83), (⟨"OldWeatherModel", "inner", "()I"⟩, 83), (⟨"OldWeatherModel", "isCompared", "()Z"⟩, 83), (⟨"OldWeatherModel", "behindTest", "()I"⟩, 83), (⟨"OldWeatherModel", "knowBy", "(I)V"⟩, 83), (⟨"OldWeatherModel", "findAllDays", "()V"⟩, 83), (⟨"OldWeatherModel", "findOnes", "()V"⟩, 83), (⟨"OldWeatherModel", "lastOf", "(II)I"⟩, 83), (⟨"OldWeatherModel", "shared", "(II)I"⟩, 83), (⟨"OldWeatherModel", "dayFirst", "(I)I"⟩, 83), (⟨"OldWeatherModel", "isTold", "(I)Z"⟩, 83), (⟨"OldWeatherModel", "findBounds", "(II)Z"⟩, 83), (⟨"OldWeatherModel", "putRight", "(II)J"⟩, 83), (⟨"OldWeatherModel", "find", "(IIIII)Z"⟩, 83), (⟨"OldWeatherModel", "setFor", "(II)V"⟩, 83)]
theorem lw_r7 : ∀ q ∈ lw_privs_7, lw_okq q := List.forall_mem_cons.mpr ⟨lw_p96, List.forall_mem_cons.mpr ⟨lw_p97, List.forall_mem_cons.mpr ⟨lw_p98, List.forall_mem_cons.mpr ⟨lw_p99, List.forall_mem_cons.mpr ⟨lw_p100, List.forall_mem_cons.mpr ⟨lw_p101, List.forall_mem_cons.mpr ⟨lw_p102, List.forall_mem_cons.mpr ⟨lw_p103, List.forall_mem_cons.mpr ⟨lw_p104, List.forall_mem_cons.mpr ⟨lw_p105, List.forall_mem_cons.mpr ⟨lw_p106, List.forall_mem_cons.mpr ⟨lw_p107, List.forall_mem_cons.mpr ⟨lw_p108, List.forall_mem_cons.mpr ⟨lw_p109, List.forall_mem_cons.mpr ⟨lw_p110, List.forall_mem_cons.mpr ⟨lw_p111, fun _ h => absurd h List.not_mem_nil⟩⟩⟩⟩⟩⟩⟩⟩⟩⟩⟩⟩⟩⟩⟩⟩
theorem lw_p112 : lw_okq (⟨"OldWeatherModel", "placeOf", "(I)I"⟩, 83) := ⟨⟨by decide +kernel, by decide +kernel⟩, lw_t8 (List.mem_of_getElem? (i := 149) rfl), lw_t11 (List.mem_of_getElem? (i := 78) rfl), lw_t11 (List.mem_of_getElem? (i := 79) rfl)⟩
theorem lw_p113 : lw_okq (⟨"OldWeatherModel", "handOf", "(I)I"⟩, 83) := ⟨⟨by decide +kernel, by decide +kernel⟩, lw_t8 (List.mem_of_getElem? (i := 149) rfl), lw_t11 (List.mem_of_getElem? (i := 82) rfl), lw_t11 (List.mem_of_getElem? (i := 83) rfl)⟩
theorem lw_p114 : lw_okq (⟨"OldWeatherModel", "holds", "(II)Z"⟩, 83) := ⟨⟨by decide +kernel, by decide +kernel⟩, lw_t8 (List.mem_of_getElem? (i := 149) rfl), lw_t11 (List.mem_of_getElem? (i := 86) rfl), lw_t11 (List.mem_of_getElem? (i := 87) rfl)⟩
theorem lw_p115 : lw_okq (⟨"OldWeatherModel", "run", "(III)V"⟩, 83) := ⟨⟨by decide +kernel, by decide +kernel⟩, lw_t8 (List.mem_of_getElem? (i := 149) rfl), lw_t11 (List.mem_of_getElem? (i := 90) rfl), lw_t11 (List.mem_of_getElem? (i := 91) rfl)⟩
theorem lw_p116 : lw_okq (⟨"OldWeatherModel", "reckon", "(IJJ)J"⟩, 83) := ⟨⟨by decide +kernel, by decide +kernel⟩, lw_t8 (List.mem_of_getElem? (i := 149) rfl), lw_t11 (List.mem_of_getElem? (i := 96) rfl), lw_t11 (List.mem_of_getElem? (i := 97) rfl)⟩
theorem lw_p117 : lw_okq (⟨"OldWeatherModel", "keepSpan", "(JJ)Z"⟩, 83) := ⟨⟨by decide +kernel, by decide +kernel⟩, lw_t8 (List.mem_of_getElem? (i := 149) rfl), lw_t11 (List.mem_of_getElem? (i := 100) rfl), lw_t11 (List.mem_of_getElem? (i := 101) rfl)⟩
theorem lw_p118 : lw_okq (⟨"OldWeatherModel", "findLearned", "(II)Z"⟩, 83) := ⟨⟨by decide +kernel, by decide +kernel⟩, lw_t8 (List.mem_of_getElem? (i := 149) rfl), lw_t11 (List.mem_of_getElem? (i := 108) rfl), lw_t11 (List.mem_of_getElem? (i := 109) rfl)⟩
theorem lw_p119 : lw_okq (⟨"OldWeatherModel", "learn", "(II)V"⟩, 83) := ⟨⟨by decide +kernel, by decide +kernel⟩, lw_t8 (List.mem_of_getElem? (i := 149) rfl), lw_t11 (List.mem_of_getElem? (i := 112) rfl), lw_t11 (List.mem_of_getElem? (i := 113) rfl)⟩
theorem lw_p120 : lw_okq (⟨"OldWeatherModel", "findPairs", "(II)V"⟩, 83) := ⟨⟨by decide +kernel, by decide +kernel⟩, lw_t8 (List.mem_of_getElem? (i := 149) rfl), lw_t11 (List.mem_of_getElem? (i := 116) rfl), lw_t11 (List.mem_of_getElem? (i := 117) rfl)⟩
theorem lw_p121 : lw_okq (⟨"OldWeatherModel", "isSure", "(I)Z"⟩, 83) := ⟨⟨by decide +kernel, by decide +kernel⟩, lw_t8 (List.mem_of_getElem? (i := 149) rfl), lw_t11 (List.mem_of_getElem? (i := 120) rfl), lw_t11 (List.mem_of_getElem? (i := 121) rfl)⟩
theorem lw_p122 : lw_okq (⟨"OldWeatherModel", "gaugeBy", "(II)I"⟩, 83) := ⟨⟨by decide +kernel, by decide +kernel⟩, lw_t8 (List.mem_of_getElem? (i := 149) rfl), lw_t11 (List.mem_of_getElem? (i := 124) rfl), lw_t11 (List.mem_of_getElem? (i := 125) rfl)⟩
theorem lw_p123 : lw_okq (⟨"OldWeatherModel", "at", "(I)I"⟩, 83) := ⟨⟨by decide +kernel, by decide +kernel⟩, lw_t8 (List.mem_of_getElem? (i := 149) rfl), lw_t11 (List.mem_of_getElem? (i := 128) rfl), lw_t11 (List.mem_of_getElem? (i := 129) rfl)⟩
theorem lw_p124 : lw_okq (⟨"OldWeatherModel", "ordered", "(II)I"⟩, 83) := ⟨⟨by decide +kernel, by decide +kernel⟩, lw_t8 (List.mem_of_getElem? (i := 149) rfl), lw_t11 (List.mem_of_getElem? (i := 132) rfl), lw_t11 (List.mem_of_getElem? (i := 133) rfl)⟩
theorem lw_p125 : lw_okq (⟨"OldWeatherModel", "doesCount", "(I)Z"⟩, 83) := ⟨⟨by decide +kernel, by decide +kernel⟩, lw_t8 (List.mem_of_getElem? (i := 149) rfl), lw_t11 (List.mem_of_getElem? (i := 156) rfl), lw_t11 (List.mem_of_getElem? (i := 157) rfl)⟩
theorem lw_p126 : lw_okq (⟨"OldWeatherModel", "noShifts", "()V"⟩, 83) := ⟨⟨by decide +kernel, by decide +kernel⟩, lw_t8 (List.mem_of_getElem? (i := 149) rfl), lw_t11 (List.mem_of_getElem? (i := 164) rfl), lw_t11 (List.mem_of_getElem? (i := 165) rfl)⟩
theorem lw_p127 : lw_okq (⟨"OldWeatherModel", "join", "(II)V"⟩, 83) := ⟨⟨by decide +kernel, by decide +kernel⟩, lw_t8 (List.mem_of_getElem? (i := 149) rfl), lw_t11 (List.mem_of_getElem? (i := 168) rfl), lw_t11 (List.mem_of_getElem? (i := 169) rfl)⟩
def lw_privs_8 : List (MethodName × Nat) := [(⟨"OldWeatherModel", "placeOf", "(I)I"⟩, 83), (⟨"OldWeatherModel", "handOf", "(I)I"⟩, 83), (⟨"OldWeatherModel", "holds", "(II)Z"⟩, 83), (⟨"OldWeatherModel", "run", "(III)V"⟩, 83), (⟨"OldWeatherModel", "reckon", "(IJJ)J"⟩, 83), (⟨"OldWeatherModel", "keepSpan", "(JJ)Z"⟩, 83), (⟨"OldWeatherModel", "findLearned", "(II)Z"⟩, 83), (⟨"OldWeatherModel", "learn", "(II)V"⟩, 83), (⟨"OldWeatherModel", "findPairs", "(II)V"⟩, 83), (⟨"OldWeatherModel", "isSure", "(I)Z"⟩, 83), (⟨"OldWeatherModel", "gaugeBy", "(II)I"⟩, 83), (⟨"OldWeatherModel", "at", "(I)I"⟩, 83), (⟨"OldWeatherModel", "ordered", "(II)I"⟩, 83), (⟨"OldWeatherModel", "doesCount", "(I)Z"⟩, 83), (⟨"OldWeatherModel", "noShifts", "()V"⟩, 83), (⟨"OldWeatherModel", "join", "(II)V"⟩, 83)]
theorem lw_r8 : ∀ q ∈ lw_privs_8, lw_okq q := List.forall_mem_cons.mpr ⟨lw_p112, List.forall_mem_cons.mpr ⟨lw_p113, List.forall_mem_cons.mpr ⟨lw_p114, List.forall_mem_cons.mpr ⟨lw_p115, List.forall_mem_cons.mpr ⟨lw_p116, List.forall_mem_cons.mpr ⟨lw_p117, List.forall_mem_cons.mpr ⟨lw_p118, List.forall_mem_cons.mpr ⟨lw_p119, List.forall_mem_cons.mpr ⟨lw_p120, List.forall_mem_cons.mpr ⟨lw_p121, List.forall_mem_cons.mpr ⟨lw_p122, List.forall_mem_cons.mpr ⟨lw_p123, List.forall_mem_cons.mpr ⟨lw_p124, List.forall_mem_cons.mpr ⟨lw_p125, List.forall_mem_cons.mpr ⟨lw_p126, List.forall_mem_cons.mpr ⟨lw_p127, fun _ h => absurd h List.not_mem_nil⟩⟩⟩⟩⟩⟩⟩⟩⟩⟩⟩⟩⟩⟩⟩⟩
theorem lw_p128 : lw_okq (⟨"OldWeatherModel", "likeOf", "(II)I"⟩, 83) := ⟨⟨by decide +kernel, by decide +kernel⟩, lw_t8 (List.mem_of_getElem? (i := 149) rfl), lw_t11 (List.mem_of_getElem? (i := 172) rfl), lw_t11 (List.mem_of_getElem? (i := 173) rfl)⟩
theorem lw_p129 : lw_okq (⟨"OldWeatherModel", "weightOf", "(II)J"⟩, 83) := ⟨⟨by decide +kernel, by decide +kernel⟩, lw_t8 (List.mem_of_getElem? (i := 149) rfl), lw_t11 (List.mem_of_getElem? (i := 176) rfl), lw_t11 (List.mem_of_getElem? (i := 177) rfl)⟩
theorem lw_p130 : lw_okq (⟨"OldWeatherModel", "tellJoined", "(I)I"⟩, 83) := ⟨⟨by decide +kernel, by decide +kernel⟩, lw_t8 (List.mem_of_getElem? (i := 149) rfl), lw_t11 (List.mem_of_getElem? (i := 183) rfl), lw_t11 (List.mem_of_getElem? (i := 184) rfl)⟩
theorem lw_p131 : lw_okq (⟨"OldWeatherModel", "countClashes", "()V"⟩, 83) := ⟨⟨by decide +kernel, by decide +kernel⟩, lw_t8 (List.mem_of_getElem? (i := 149) rfl), lw_t11 (List.mem_of_getElem? (i := 207) rfl), lw_t11 (List.mem_of_getElem? (i := 208) rfl)⟩
theorem lw_p132 : lw_okq (⟨"OldWeatherModel", "findShifts", "()V"⟩, 83) := ⟨⟨by decide +kernel, by decide +kernel⟩, lw_t8 (List.mem_of_getElem? (i := 149) rfl), lw_t11 (List.mem_of_getElem? (i := 211) rfl), lw_t11 (List.mem_of_getElem? (i := 212) rfl)⟩
theorem lw_p133 : lw_okq (⟨"OldWeatherModel", "wishOf", "(I)I"⟩, 83) := ⟨⟨by decide +kernel, by decide +kernel⟩, lw_t8 (List.mem_of_getElem? (i := 149) rfl), lw_t11 (List.mem_of_getElem? (i := 218) rfl), lw_t11 (List.mem_of_getElem? (i := 219) rfl)⟩
theorem lw_p134 : lw_okq (⟨"OldWeatherModel", "clash", "(IIII)Z"⟩, 83) := ⟨⟨by decide +kernel, by decide +kernel⟩, lw_t8 (List.mem_of_getElem? (i := 149) rfl), lw_t11 (List.mem_of_getElem? (i := 222) rfl), lw_t11 (List.mem_of_getElem? (i := 223) rfl)⟩
theorem lw_p135 : lw_okq (⟨"OldWeatherModel", "rowsOf", "()I"⟩, 83) := ⟨⟨by decide +kernel, by decide +kernel⟩, lw_t8 (List.mem_of_getElem? (i := 149) rfl), lw_t11 (List.mem_of_getElem? (i := 226) rfl), lw_t11 (List.mem_of_getElem? (i := 227) rfl)⟩
theorem lw_p136 : lw_okq (⟨"OldWeatherModel", "quarrels", "()I"⟩, 83) := ⟨⟨by decide +kernel, by decide +kernel⟩, lw_t8 (List.mem_of_getElem? (i := 149) rfl), lw_t11 (List.mem_of_getElem? (i := 230) rfl), lw_t11 (List.mem_of_getElem? (i := 231) rfl)⟩
theorem lw_p137 : lw_okq (⟨"OldWeatherModel", "findWinter", "(II)V"⟩, 83) := ⟨⟨by decide +kernel, by decide +kernel⟩, lw_t8 (List.mem_of_getElem? (i := 149) rfl), lw_t12 (List.mem_of_getElem? (i := 16) rfl), lw_t12 (List.mem_of_getElem? (i := 17) rfl)⟩
theorem lw_p138 : lw_okq (⟨"OldWeatherModel", "addDays", "(III)V"⟩, 83) := ⟨⟨by decide +kernel, by decide +kernel⟩, lw_t8 (List.mem_of_getElem? (i := 149) rfl), lw_t12 (List.mem_of_getElem? (i := 20) rfl), lw_t12 (List.mem_of_getElem? (i := 21) rfl)⟩
theorem lw_p139 : lw_okq (⟨"OldWeatherModel", "widthsBy", "(IIII)I"⟩, 83) := ⟨⟨by decide +kernel, by decide +kernel⟩, lw_t8 (List.mem_of_getElem? (i := 149) rfl), lw_t12 (List.mem_of_getElem? (i := 42) rfl), lw_t12 (List.mem_of_getElem? (i := 43) rfl)⟩
theorem lw_p140 : lw_okq (⟨"OldWeatherModel", "addMonth", "(II)V"⟩, 83) := ⟨⟨by decide +kernel, by decide +kernel⟩, lw_t8 (List.mem_of_getElem? (i := 149) rfl), lw_t12 (List.mem_of_getElem? (i := 53) rfl), lw_t12 (List.mem_of_getElem? (i := 54) rfl)⟩
theorem lw_p141 : lw_okq (⟨"OldWeatherModel", "isOf", "(III)Z"⟩, 83) := ⟨⟨by decide +kernel, by decide +kernel⟩, lw_t8 (List.mem_of_getElem? (i := 149) rfl), lw_t12 (List.mem_of_getElem? (i := 57) rfl), lw_t12 (List.mem_of_getElem? (i := 58) rfl)⟩
def lw_privs_9 : List (MethodName × Nat) := [(⟨"OldWeatherModel", "likeOf", "(II)I"⟩, 83), (⟨"OldWeatherModel", "weightOf", "(II)J"⟩, 83), (⟨"OldWeatherModel", "tellJoined", "(I)I"⟩, 83), (⟨"OldWeatherModel", "countClashes", "()V"⟩, 83), (⟨"OldWeatherModel", "findShifts", "()V"⟩, 83), (⟨"OldWeatherModel", "wishOf", "(I)I"⟩, 83), (⟨"OldWeatherModel", "clash", "(IIII)Z"⟩, 83), (⟨"OldWeatherModel", "rowsOf", "()I"⟩, 83), (⟨"OldWeatherModel", "quarrels", "()I"⟩, 83), (⟨"OldWeatherModel", "findWinter", "(II)V"⟩, 83), (⟨"OldWeatherModel", "addDays", "(III)V"⟩, 83), (⟨"OldWeatherModel", "widthsBy", "(IIII)I"⟩, 83), (⟨"OldWeatherModel", "addMonth", "(II)V"⟩, 83), (⟨"OldWeatherModel", "isOf", "(III)Z"⟩, 83)]
theorem lw_r9 : ∀ q ∈ lw_privs_9, lw_okq q := List.forall_mem_cons.mpr ⟨lw_p128, List.forall_mem_cons.mpr ⟨lw_p129, List.forall_mem_cons.mpr ⟨lw_p130, List.forall_mem_cons.mpr ⟨lw_p131, List.forall_mem_cons.mpr ⟨lw_p132, List.forall_mem_cons.mpr ⟨lw_p133, List.forall_mem_cons.mpr ⟨lw_p134, List.forall_mem_cons.mpr ⟨lw_p135, List.forall_mem_cons.mpr ⟨lw_p136, List.forall_mem_cons.mpr ⟨lw_p137, List.forall_mem_cons.mpr ⟨lw_p138, List.forall_mem_cons.mpr ⟨lw_p139, List.forall_mem_cons.mpr ⟨lw_p140, List.forall_mem_cons.mpr ⟨lw_p141, fun _ h => absurd h List.not_mem_nil⟩⟩⟩⟩⟩⟩⟩⟩⟩⟩⟩⟩⟩⟩
def lw_privs : List (MethodName × Nat) := lw_privs_1 ++ (lw_privs_2 ++ (lw_privs_3 ++ (lw_privs_4 ++ (lw_privs_5 ++ (lw_privs_6 ++ (lw_privs_7 ++ (lw_privs_8 ++ (lw_privs_9))))))))
def lw_tbl : List Cond := k2_sels lw_privs ++ tables_1
theorem lw_privs_ok : ∀ q ∈ lw_privs, lw_okq q := by
  show ∀ q ∈ lw_privs_1 ++ (lw_privs_2 ++ (lw_privs_3 ++ (lw_privs_4 ++ (lw_privs_5 ++ (lw_privs_6 ++ (lw_privs_7 ++ (lw_privs_8 ++ (lw_privs_9)))))))), lw_okq q
  exact List.forall_mem_append.mpr ⟨lw_r1, List.forall_mem_append.mpr ⟨lw_r2, List.forall_mem_append.mpr ⟨lw_r3, List.forall_mem_append.mpr ⟨lw_r4, List.forall_mem_append.mpr ⟨lw_r5, List.forall_mem_append.mpr ⟨lw_r6, List.forall_mem_append.mpr ⟨lw_r7, List.forall_mem_append.mpr ⟨lw_r8, lw_r9⟩⟩⟩⟩⟩⟩⟩⟩
-- ===== ONE list of words for every method: the tables' words that hold all through a run =====
def lw_all : List Cond := lw_tbl.filter goodWord
/-- a word of the tables by its place: claim/WORDS.tsv -/
theorem lw_w {w : Cond} (i : Nat) (h : lw_tbl[i]? = some w) (g : goodWord w = true) : w ∈ lw_all := List.mem_filter.mpr ⟨List.mem_of_getElem? h, g⟩
theorem lw_all_tbl {w : Cond} (h : w ∈ lw_all) : w ∈ lw_tbl := (List.mem_filter.mp h).1
theorem lw_self : GoodIn lw_all lw_all := fun w h => ⟨h, good_of_word (List.mem_filter.mp h).2⟩
/-- a class's field words, by their places -/
theorem lw_in (ws : List Cond) (ps : List Nat) (hp : ws = ps.filterMap (fun i => lw_tbl[i]?)) (hg : ws.all goodWord = true) : ∀ w ∈ ws, w ∈ lw_all := by
  intro w h
  have h1 := List.all_eq_true.mp hg w h
  rw [hp] at h
  obtain ⟨i, -, hi⟩ := List.mem_filterMap.mp h
  exact lw_w i hi h1
/-- the words of a contract for the method y with code b, L locals, answer r -/
abbrev ws_ (y : MethodName) (b : ByteArray) (L : Nat) (r : Option FieldType) : List Cond := Cond.code y b L r :: lw_all
theorem lw_meth {y : MethodName} {b : ByteArray} {L : Nat} {r : Option FieldType} (h : Cond.code y b L r ∈ lw_all) : GoodIn lw_all (ws_ y b L r) := by
  intro w hw
  rcases List.mem_cons.mp hw with e | e
  · rw [e]
    exact lw_self _ h
  · exact lw_self _ e
theorem lw_app {a c : List Cond} (ha : ∀ w ∈ a, w ∈ lw_all) (hc : GoodIn lw_all c) : GoodIn lw_all (a ++ c) := by
  intro w hw
  rcases List.mem_append.mp hw with e | e
  · exact lw_self w (ha w e)
  · exact hc w e
/-- what a call through an object asks: cwV n hts (lw_V ..) -/
theorem lw_V {own : String} {idx : Nat} {C : String} {y : MethodName} {b : ByteArray} {L : Nat} {r : Option FieldType} (h1 : Cond.methodLink own idx y ∈ lw_all) (h2 : Cond.instanceMethod y ∈ lw_all) (h3 : Cond.selects C y y ∈ lw_all) (h4 : Cond.initialized C ∈ lw_all) (h5 : Cond.code y b L r ∈ lw_all) : GoodIn lw_all (wsV own idx C y (ws_ y b L r)) := by
  refine lw_app ?_ (lw_meth h5)
  intro w hw
  simp only [List.mem_cons, List.not_mem_nil, or_false] at hw
  rcases hw with e | e | e | e
  · rw [e]; exact h1
  · rw [e]; exact h2
  · rw [e]; exact h3
  · rw [e]; exact h4
/-- what a static call asks: va_cwS n hts (lw_S ..) -/
theorem lw_S {own : String} {idx : Nat} {y : MethodName} {b : ByteArray} {L : Nat} {r : Option FieldType} (h1 : Cond.methodLink own idx y ∈ lw_all) (h2 : Cond.static y ∈ lw_all) (h3 : Cond.initialized y.cls ∈ lw_all) (h4 : Cond.code y b L r ∈ lw_all) : GoodIn lw_all (va_wsS own idx y (ws_ y b L r)) := by
  refine lw_app ?_ (lw_meth h4)
  intro w hw
  simp only [List.mem_cons, List.not_mem_nil, or_false] at hw
  rcases hw with e | e | e
  · rw [e]; exact h1
  · rw [e]; exact h2
  · rw [e]; exact h3
/-- the words of a contract for a method WITH HANDLERS (hh: its table) -/
abbrev wsW_ (y : MethodName) (b : ByteArray) (L : Nat) (r : Option FieldType) (hh : List (Nat × Nat × Nat × Nat)) : List Cond := Cond.codeWith y b L r hh :: lw_all
theorem lw_methW {y : MethodName} {b : ByteArray} {L : Nat} {r : Option FieldType} {hh : List (Nat × Nat × Nat × Nat)} (h : Cond.codeWith y b L r hh ∈ lw_all) : GoodIn lw_all (wsW_ y b L r hh) := by
  intro w hw
  rcases List.mem_cons.mp hw with e | e
  · rw [e]
    exact lw_self _ h
  · exact lw_self _ e
/-- any list of words by their places (lw_in), good -/
theorem lw_good {ws : List Cond} (h : ∀ w ∈ ws, w ∈ lw_all) : GoodIn lw_all ws := fun w hw => lw_self w (h w hw)
/-- what a call of a method with handlers asks: vx_cwVW n hts (lw_VW ..), vx_cwSW n hts (lw_SW ..) -/
theorem lw_VW {own : String} {idx : Nat} {C : String} {y : MethodName} {b : ByteArray} {L : Nat} {r : Option FieldType} {hh : List (Nat × Nat × Nat × Nat)} (h1 : Cond.methodLink own idx y ∈ lw_all) (h2 : Cond.instanceMethod y ∈ lw_all) (h3 : Cond.selects C y y ∈ lw_all) (h4 : Cond.initialized C ∈ lw_all) (h5 : Cond.codeWith y b L r hh ∈ lw_all) : GoodIn lw_all (wsV own idx C y (wsW_ y b L r hh)) := by
  refine lw_app ?_ (lw_methW h5)
  intro w hw
  simp only [List.mem_cons, List.not_mem_nil, or_false] at hw
  rcases hw with e | e | e | e
  · rw [e]; exact h1
  · rw [e]; exact h2
  · rw [e]; exact h3
  · rw [e]; exact h4
theorem lw_SW {own : String} {idx : Nat} {y : MethodName} {b : ByteArray} {L : Nat} {r : Option FieldType} {hh : List (Nat × Nat × Nat × Nat)} (h1 : Cond.methodLink own idx y ∈ lw_all) (h2 : Cond.static y ∈ lw_all) (h3 : Cond.initialized y.cls ∈ lw_all) (h4 : Cond.codeWith y b L r hh ∈ lw_all) : GoodIn lw_all (va_wsS own idx y (wsW_ y b L r hh)) := by
  refine lw_app ?_ (lw_methW h4)
  intro w hw
  simp only [List.mem_cons, List.not_mem_nil, or_false] at hw
  rcases hw with e | e | e
  · rw [e]; exact h1
  · rw [e]; exact h2
  · rw [e]; exact h3
/-- a word by its place in its run of the tables -/
theorem lw_at {r : List Cond} (hr : ∀ w ∈ r, w ∈ lw_tbl) {w : Cond} (i : Nat) (h : r[i]? = some w) : w ∈ lw_tbl := hr w (List.mem_of_getElem? h)
theorem lw_g {w : Cond} (h : w ∈ lw_tbl) (g : goodWord w = true) : w ∈ lw_all := List.mem_filter.mpr ⟨h, g⟩
theorem lw_ms : ∀ w ∈ k2_sels lw_privs, w ∈ lw_tbl := fun w h => show w ∈ k2_sels lw_privs ++ tables_1 from List.mem_append_left _ h
theorem lw_m1 : ∀ w ∈ tables_1_1, w ∈ lw_tbl := fun w h => show w ∈ k2_sels lw_privs ++ tables_1 from List.mem_append_right (k2_sels lw_privs) (show w ∈ tables_1 from List.mem_append_left _ h)
theorem lw_m2 : ∀ w ∈ tables_1_2, w ∈ lw_tbl := fun w h => show w ∈ k2_sels lw_privs ++ tables_1 from List.mem_append_right (k2_sels lw_privs) (show w ∈ tables_1 from List.mem_append_right _ (List.mem_append_left _ h))
theorem lw_m3 : ∀ w ∈ tables_1_3, w ∈ lw_tbl := fun w h => show w ∈ k2_sels lw_privs ++ tables_1 from List.mem_append_right (k2_sels lw_privs) (show w ∈ tables_1 from List.mem_append_right _ (List.mem_append_right _ (List.mem_append_left _ h)))
theorem lw_m4 : ∀ w ∈ tables_1_4, w ∈ lw_tbl := fun w h => show w ∈ k2_sels lw_privs ++ tables_1 from List.mem_append_right (k2_sels lw_privs) (show w ∈ tables_1 from List.mem_append_right _ (List.mem_append_right _ (List.mem_append_right _ (List.mem_append_left _ h))))
theorem lw_m5 : ∀ w ∈ tables_1_5, w ∈ lw_tbl := fun w h => show w ∈ k2_sels lw_privs ++ tables_1 from List.mem_append_right (k2_sels lw_privs) (show w ∈ tables_1 from List.mem_append_right _ (List.mem_append_right _ (List.mem_append_right _ (List.mem_append_right _ (List.mem_append_left _ h)))))
theorem lw_m6 : ∀ w ∈ tables_1_6, w ∈ lw_tbl := fun w h => show w ∈ k2_sels lw_privs ++ tables_1 from List.mem_append_right (k2_sels lw_privs) (show w ∈ tables_1 from List.mem_append_right _ (List.mem_append_right _ (List.mem_append_right _ (List.mem_append_right _ (List.mem_append_right _ (List.mem_append_left _ h))))))
theorem lw_m7 : ∀ w ∈ tables_1_7, w ∈ lw_tbl := fun w h => show w ∈ k2_sels lw_privs ++ tables_1 from List.mem_append_right (k2_sels lw_privs) (show w ∈ tables_1 from List.mem_append_right _ (List.mem_append_right _ (List.mem_append_right _ (List.mem_append_right _ (List.mem_append_right _ (List.mem_append_right _ (List.mem_append_left _ h)))))))
theorem lw_m8 : ∀ w ∈ tables_1_8, w ∈ lw_tbl := fun w h => show w ∈ k2_sels lw_privs ++ tables_1 from List.mem_append_right (k2_sels lw_privs) (show w ∈ tables_1 from List.mem_append_right _ (List.mem_append_right _ (List.mem_append_right _ (List.mem_append_right _ (List.mem_append_right _ (List.mem_append_right _ (List.mem_append_right _ (List.mem_append_left _ h))))))))
theorem lw_m9 : ∀ w ∈ tables_1_9, w ∈ lw_tbl := fun w h => show w ∈ k2_sels lw_privs ++ tables_1 from List.mem_append_right (k2_sels lw_privs) (show w ∈ tables_1 from List.mem_append_right _ (List.mem_append_right _ (List.mem_append_right _ (List.mem_append_right _ (List.mem_append_right _ (List.mem_append_right _ (List.mem_append_right _ (List.mem_append_right _ (List.mem_append_left _ h)))))))))
theorem lw_m10 : ∀ w ∈ tables_1_10, w ∈ lw_tbl := fun w h => show w ∈ k2_sels lw_privs ++ tables_1 from List.mem_append_right (k2_sels lw_privs) (show w ∈ tables_1 from List.mem_append_right _ (List.mem_append_right _ (List.mem_append_right _ (List.mem_append_right _ (List.mem_append_right _ (List.mem_append_right _ (List.mem_append_right _ (List.mem_append_right _ (List.mem_append_right _ (List.mem_append_left _ h))))))))))
theorem lw_m11 : ∀ w ∈ tables_1_11, w ∈ lw_tbl := fun w h => show w ∈ k2_sels lw_privs ++ tables_1 from List.mem_append_right (k2_sels lw_privs) (show w ∈ tables_1 from List.mem_append_right _ (List.mem_append_right _ (List.mem_append_right _ (List.mem_append_right _ (List.mem_append_right _ (List.mem_append_right _ (List.mem_append_right _ (List.mem_append_right _ (List.mem_append_right _ (List.mem_append_right _ (List.mem_append_left _ h)))))))))))
theorem lw_m12 : ∀ w ∈ tables_1_12, w ∈ lw_tbl := fun w h => show w ∈ k2_sels lw_privs ++ tables_1 from List.mem_append_right (k2_sels lw_privs) (show w ∈ tables_1 from List.mem_append_right _ (List.mem_append_right _ (List.mem_append_right _ (List.mem_append_right _ (List.mem_append_right _ (List.mem_append_right _ (List.mem_append_right _ (List.mem_append_right _ (List.mem_append_right _ (List.mem_append_right _ (List.mem_append_right _ h)))))))))))
theorem qs0 : (Cond.selects "java/lang/Throwable" ⟨"java/lang/Throwable", "fillInStackTrace", "(I)Ljava/lang/Throwable;"⟩ ⟨"java/lang/Throwable", "fillInStackTrace", "(I)Ljava/lang/Throwable;"⟩) ∈ lw_all := lw_g (lw_at lw_ms 0 rfl) rfl
theorem qs1 : (Cond.selects "OldWeather" ⟨"OldWeather", "refuse", "(I)I"⟩ ⟨"OldWeather", "refuse", "(I)I"⟩) ∈ lw_all := lw_g (lw_at lw_ms 1 rfl) rfl
theorem qs2 : (Cond.selects "java/util/ArrayList" ⟨"java/util/ArrayList", "grow", "(I)[Ljava/lang/Object;"⟩ ⟨"java/util/ArrayList", "grow", "(I)[Ljava/lang/Object;"⟩) ∈ lw_all := lw_g (lw_at lw_ms 2 rfl) rfl
theorem qs3 : (Cond.selects "OldWeather" ⟨"OldWeather", "done", "(I)I"⟩ ⟨"OldWeather", "done", "(I)I"⟩) ∈ lw_all := lw_g (lw_at lw_ms 3 rfl) rfl
theorem qs4 : (Cond.selects "OldWeather" ⟨"OldWeather", "told", "(I)I"⟩ ⟨"OldWeather", "told", "(I)I"⟩) ∈ lw_all := lw_g (lw_at lw_ms 4 rfl) rfl
theorem qs5 : (Cond.selects "OldWeather" ⟨"OldWeather", "isPlace", "(I)Z"⟩ ⟨"OldWeather", "isPlace", "(I)Z"⟩) ∈ lw_all := lw_g (lw_at lw_ms 5 rfl) rfl
theorem qs6 : (Cond.selects "OldWeather" ⟨"OldWeather", "isSource", "(I)Z"⟩ ⟨"OldWeather", "isSource", "(I)Z"⟩) ∈ lw_all := lw_g (lw_at lw_ms 6 rfl) rfl
theorem qs7 : (Cond.selects "OldWeather" ⟨"OldWeather", "lacks", "(IIIII)I"⟩ ⟨"OldWeather", "lacks", "(IIIII)I"⟩) ∈ lw_all := lw_g (lw_at lw_ms 7 rfl) rfl
theorem qs8 : (Cond.selects "OldWeather" ⟨"OldWeather", "puts", "(LOldWeather$Reading;I)I"⟩ ⟨"OldWeather", "puts", "(LOldWeather$Reading;I)I"⟩) ∈ lw_all := lw_g (lw_at lw_ms 8 rfl) rfl
theorem qs9 : (Cond.selects "java/util/ArrayList" ⟨"java/util/ArrayList", "add", "(Ljava/lang/Object;[Ljava/lang/Object;I)V"⟩ ⟨"java/util/ArrayList", "add", "(Ljava/lang/Object;[Ljava/lang/Object;I)V"⟩) ∈ lw_all := lw_g (lw_at lw_ms 9 rfl) rfl
theorem qs10 : (Cond.selects "java/util/ArrayList" ⟨"java/util/ArrayList", "grow", "()[Ljava/lang/Object;"⟩ ⟨"java/util/ArrayList", "grow", "()[Ljava/lang/Object;"⟩) ∈ lw_all := lw_g (lw_at lw_ms 10 rfl) rfl
theorem qs11 : (Cond.selects "OldWeather" ⟨"OldWeather", "isReading", "(I)Z"⟩ ⟨"OldWeather", "isReading", "(I)Z"⟩) ∈ lw_all := lw_g (lw_at lw_ms 11 rfl) rfl
theorem qs12 : (Cond.selects "OldWeather" ⟨"OldWeather", "keeps", "(IIIIII)I"⟩ ⟨"OldWeather", "keeps", "(IIIIII)I"⟩) ∈ lw_all := lw_g (lw_at lw_ms 12 rfl) rfl
theorem qs13 : (Cond.selects "OldWeather" ⟨"OldWeather", "dates", "()V"⟩ ⟨"OldWeather", "dates", "()V"⟩) ∈ lw_all := lw_g (lw_at lw_ms 13 rfl) rfl
theorem qs14 : (Cond.selects "OldWeather" ⟨"OldWeather", "four", "(I)V"⟩ ⟨"OldWeather", "four", "(I)V"⟩) ∈ lw_all := lw_g (lw_at lw_ms 14 rfl) rfl
theorem qs15 : (Cond.selects "OldWeather$Reader" ⟨"OldWeather$Reader", "next", "()V"⟩ ⟨"OldWeather$Reader", "next", "()V"⟩) ∈ lw_all := lw_g (lw_at lw_ms 15 rfl) rfl
theorem qs16 : (Cond.selects "OldWeather$Reader" ⟨"OldWeather$Reader", "isIn", "(III)Z"⟩ ⟨"OldWeather$Reader", "isIn", "(III)Z"⟩) ∈ lw_all := lw_g (lw_at lw_ms 16 rfl) rfl
theorem qs17 : (Cond.selects "OldWeather$Reader" ⟨"OldWeather$Reader", "clause", "()V"⟩ ⟨"OldWeather$Reader", "clause", "()V"⟩) ∈ lw_all := lw_g (lw_at lw_ms 17 rfl) rfl
theorem qs18 : (Cond.selects "OldWeather$Reader" ⟨"OldWeather$Reader", "takes", "(Ljava/lang/String;)Z"⟩ ⟨"OldWeather$Reader", "takes", "(Ljava/lang/String;)Z"⟩) ∈ lw_all := lw_g (lw_at lw_ms 18 rfl) rfl
theorem qs19 : (Cond.selects "OldWeather$Reader" ⟨"OldWeather$Reader", "is", "(Ljava/lang/String;)Z"⟩ ⟨"OldWeather$Reader", "is", "(Ljava/lang/String;)Z"⟩) ∈ lw_all := lw_g (lw_at lw_ms 19 rfl) rfl
theorem qs20 : (Cond.selects "OldWeather$Reader" ⟨"OldWeather$Reader", "number", "(II)I"⟩ ⟨"OldWeather$Reader", "number", "(II)I"⟩) ∈ lw_all := lw_g (lw_at lw_ms 20 rfl) rfl
theorem qs21 : (Cond.selects "OldWeather$Reader" ⟨"OldWeather$Reader", "need", "(Ljava/lang/String;)V"⟩ ⟨"OldWeather$Reader", "need", "(Ljava/lang/String;)V"⟩) ∈ lw_all := lw_g (lw_at lw_ms 21 rfl) rfl
theorem qs22 : (Cond.selects "OldWeather$Reader" ⟨"OldWeather$Reader", "head", "()LOldWeather$Clause;"⟩ ⟨"OldWeather$Reader", "head", "()LOldWeather$Clause;"⟩) ∈ lw_all := lw_g (lw_at lw_ms 22 rfl) rfl
theorem qs23 : (Cond.selects "OldWeather$Reader" ⟨"OldWeather$Reader", "sum", "()LOldWeather$Sum;"⟩ ⟨"OldWeather$Reader", "sum", "()LOldWeather$Sum;"⟩) ∈ lw_all := lw_g (lw_at lw_ms 23 rfl) rfl
theorem qs24 : (Cond.selects "OldWeather$Reader" ⟨"OldWeather$Reader", "term", "()LOldWeather$Sum;"⟩ ⟨"OldWeather$Reader", "term", "()LOldWeather$Sum;"⟩) ∈ lw_all := lw_g (lw_at lw_ms 24 rfl) rfl
theorem qs25 : (Cond.selects "OldWeather$Reader" ⟨"OldWeather$Reader", "part", "()LOldWeather$Sum;"⟩ ⟨"OldWeather$Reader", "part", "()LOldWeather$Sum;"⟩) ∈ lw_all := lw_g (lw_at lw_ms 25 rfl) rfl
theorem qs26 : (Cond.selects "OldWeather$Reader" ⟨"OldWeather$Reader", "opens", "()V"⟩ ⟨"OldWeather$Reader", "opens", "()V"⟩) ∈ lw_all := lw_g (lw_at lw_ms 26 rfl) rfl
theorem qs27 : (Cond.selects "OldWeather$Reader" ⟨"OldWeather$Reader", "leaf", "()V"⟩ ⟨"OldWeather$Reader", "leaf", "()V"⟩) ∈ lw_all := lw_g (lw_at lw_ms 27 rfl) rfl
theorem qs28 : (Cond.selects "OldWeather$Reader" ⟨"OldWeather$Reader", "field", "()I"⟩ ⟨"OldWeather$Reader", "field", "()I"⟩) ∈ lw_all := lw_g (lw_at lw_ms 28 rfl) rfl
theorem qs29 : (Cond.selects "OldWeather$Reader" ⟨"OldWeather$Reader", "kind", "()I"⟩ ⟨"OldWeather$Reader", "kind", "()I"⟩) ∈ lw_all := lw_g (lw_at lw_ms 29 rfl) rfl
theorem qs30 : (Cond.selects "OldWeather$Reader" ⟨"OldWeather$Reader", "test", "()LOldWeather$Test;"⟩ ⟨"OldWeather$Reader", "test", "()LOldWeather$Test;"⟩) ∈ lw_all := lw_g (lw_at lw_ms 30 rfl) rfl
theorem qs31 : (Cond.selects "OldWeather$Reader" ⟨"OldWeather$Reader", "both", "()LOldWeather$Test;"⟩ ⟨"OldWeather$Reader", "both", "()LOldWeather$Test;"⟩) ∈ lw_all := lw_g (lw_at lw_ms 31 rfl) rfl
theorem qs32 : (Cond.selects "OldWeather$Reader" ⟨"OldWeather$Reader", "plain", "()LOldWeather$Test;"⟩ ⟨"OldWeather$Reader", "plain", "()LOldWeather$Test;"⟩) ∈ lw_all := lw_g (lw_at lw_ms 32 rfl) rfl
theorem qs33 : (Cond.selects "OldWeather$Reader" ⟨"OldWeather$Reader", "positive", "()LOldWeather$Test;"⟩ ⟨"OldWeather$Reader", "positive", "()LOldWeather$Test;"⟩) ∈ lw_all := lw_g (lw_at lw_ms 33 rfl) rfl
theorem qs34 : (Cond.selects "OldWeather$Force" ⟨"OldWeather$Force", "goes", "(LOldWeather$Rules;)V"⟩ ⟨"OldWeather$Force", "goes", "(LOldWeather$Rules;)V"⟩) ∈ lw_all := lw_g (lw_at lw_ms 34 rfl) rfl
theorem qs35 : (Cond.selects "OldWeather" ⟨"OldWeather", "isSure", "(II)Z"⟩ ⟨"OldWeather", "isSure", "(II)Z"⟩) ∈ lw_all := lw_g (lw_at lw_ms 35 rfl) rfl
theorem qs36 : (Cond.selects "OldWeather" ⟨"OldWeather", "isKnown", "(II)Z"⟩ ⟨"OldWeather", "isKnown", "(II)Z"⟩) ∈ lw_all := lw_g (lw_at lw_ms 36 rfl) rfl
theorem qs37 : (Cond.selects "OldWeather$Pairs" ⟨"OldWeather$Pairs", "beside", "(II)I"⟩ ⟨"OldWeather$Pairs", "beside", "(II)I"⟩) ∈ lw_all := lw_g (lw_at lw_ms 37 rfl) rfl
theorem qs38 : (Cond.selects "OldWeather" ⟨"OldWeather", "rightOf", "(III)J"⟩ ⟨"OldWeather", "rightOf", "(III)J"⟩) ∈ lw_all := lw_g (lw_at lw_ms 38 rfl) rfl
theorem qs39 : (Cond.selects "OldWeather" ⟨"OldWeather", "last", "(IIIII)I"⟩ ⟨"OldWeather", "last", "(IIIII)I"⟩) ∈ lw_all := lw_g (lw_at lw_ms 39 rfl) rfl
theorem qs40 : (Cond.selects "OldWeather" ⟨"OldWeather", "learns", "(III)Z"⟩ ⟨"OldWeather", "learns", "(III)Z"⟩) ∈ lw_all := lw_g (lw_at lw_ms 40 rfl) rfl
theorem qs41 : (Cond.selects "OldWeather$Desk" ⟨"OldWeather$Desk", "joins", "(I)V"⟩ ⟨"OldWeather$Desk", "joins", "(I)V"⟩) ∈ lw_all := lw_g (lw_at lw_ms 41 rfl) rfl
theorem qs42 : (Cond.selects "OldWeather$Desk" ⟨"OldWeather$Desk", "sharesOf", "(III)I"⟩ ⟨"OldWeather$Desk", "sharesOf", "(III)I"⟩) ∈ lw_all := lw_g (lw_at lw_ms 42 rfl) rfl
theorem qs43 : (Cond.selects "OldWeather$Desk" ⟨"OldWeather$Desk", "merges", "(II)V"⟩ ⟨"OldWeather$Desk", "merges", "(II)V"⟩) ∈ lw_all := lw_g (lw_at lw_ms 43 rfl) rfl
theorem qs44 : (Cond.selects "OldWeather" ⟨"OldWeather", "bounds", "(III)Z"⟩ ⟨"OldWeather", "bounds", "(III)Z"⟩) ∈ lw_all := lw_g (lw_at lw_ms 44 rfl) rfl
theorem qs45 : (Cond.selects "OldWeather" ⟨"OldWeather", "spans", "(JJ)Z"⟩ ⟨"OldWeather", "spans", "(JJ)Z"⟩) ∈ lw_all := lw_g (lw_at lw_ms 45 rfl) rfl
theorem qs46 : (Cond.selects "OldWeather" ⟨"OldWeather", "weightOf", "(III)J"⟩ ⟨"OldWeather", "weightOf", "(III)J"⟩) ∈ lw_all := lw_g (lw_at lw_ms 46 rfl) rfl
theorem qs47 : (Cond.selects "OldWeather$Desk" ⟨"OldWeather$Desk", "isStopped", "(I)Z"⟩ ⟨"OldWeather$Desk", "isStopped", "(I)Z"⟩) ∈ lw_all := lw_g (lw_at lw_ms 47 rfl) rfl
theorem qs48 : (Cond.selects "OldWeather$Desk" ⟨"OldWeather$Desk", "isTold", "(II)Z"⟩ ⟨"OldWeather$Desk", "isTold", "(II)Z"⟩) ∈ lw_all := lw_g (lw_at lw_ms 48 rfl) rfl
theorem qs49 : (Cond.selects "OldWeather" ⟨"OldWeather", "joins", "(IIIIZ)V"⟩ ⟨"OldWeather", "joins", "(IIIIZ)V"⟩) ∈ lw_all := lw_g (lw_at lw_ms 49 rfl) rfl
theorem qs50 : (Cond.selects "OldWeather" ⟨"OldWeather", "isOn", "(IIIZ)Z"⟩ ⟨"OldWeather", "isOn", "(IIIZ)Z"⟩) ∈ lw_all := lw_g (lw_at lw_ms 50 rfl) rfl
theorem qs51 : (Cond.selects "OldWeather" ⟨"OldWeather", "tells", "(I)I"⟩ ⟨"OldWeather", "tells", "(I)I"⟩) ∈ lw_all := lw_g (lw_at lw_ms 51 rfl) rfl
theorem qs52 : (Cond.selects "OldWeather" ⟨"OldWeather", "quarrels", "(I)V"⟩ ⟨"OldWeather", "quarrels", "(I)V"⟩) ∈ lw_all := lw_g (lw_at lw_ms 52 rfl) rfl
theorem qs53 : (Cond.selects "OldWeather" ⟨"OldWeather", "wishOf", "(I)I"⟩ ⟨"OldWeather", "wishOf", "(I)I"⟩) ∈ lw_all := lw_g (lw_at lw_ms 53 rfl) rfl
theorem qs54 : (Cond.selects "OldWeather" ⟨"OldWeather", "areLike", "(II)Z"⟩ ⟨"OldWeather", "areLike", "(II)Z"⟩) ∈ lw_all := lw_g (lw_at lw_ms 54 rfl) rfl
theorem qs55 : (Cond.selects "OldWeather" ⟨"OldWeather", "quarrel", "(IIII)Z"⟩ ⟨"OldWeather", "quarrel", "(IIII)Z"⟩) ∈ lw_all := lw_g (lw_at lw_ms 55 rfl) rfl
theorem qs56 : (Cond.selects "OldWeather" ⟨"OldWeather", "counts", "(IIII)V"⟩ ⟨"OldWeather", "counts", "(IIII)V"⟩) ∈ lw_all := lw_g (lw_at lw_ms 56 rfl) rfl
theorem qs57 : (Cond.selects "OldWeather" ⟨"OldWeather", "tries", "(I)V"⟩ ⟨"OldWeather", "tries", "(I)V"⟩) ∈ lw_all := lw_g (lw_at lw_ms 57 rfl) rfl
theorem qs58 : (Cond.selects "OldWeather" ⟨"OldWeather", "quarrelsOfRow", "()I"⟩ ⟨"OldWeather", "quarrelsOfRow", "()I"⟩) ∈ lw_all := lw_g (lw_at lw_ms 58 rfl) rfl
theorem qs59 : (Cond.selects "OldWeather" ⟨"OldWeather", "winters", "(III)V"⟩ ⟨"OldWeather", "winters", "(III)V"⟩) ∈ lw_all := lw_g (lw_at lw_ms 59 rfl) rfl
theorem qs60 : (Cond.selects "OldWeather" ⟨"OldWeather", "widthsOf", "(IIII)I"⟩ ⟨"OldWeather", "widthsOf", "(IIII)I"⟩) ∈ lw_all := lw_g (lw_at lw_ms 60 rfl) rfl
theorem qs61 : (Cond.selects "OldWeather" ⟨"OldWeather", "hoursOf", "(I)I"⟩ ⟨"OldWeather", "hoursOf", "(I)I"⟩) ∈ lw_all := lw_g (lw_at lw_ms 61 rfl) rfl
theorem qs62 : (Cond.selects "OldWeather" ⟨"OldWeather", "sums", "(II)V"⟩ ⟨"OldWeather", "sums", "(II)V"⟩) ∈ lw_all := lw_g (lw_at lw_ms 62 rfl) rfl
theorem qs63 : (Cond.selects "OldWeather" ⟨"OldWeather", "isIn", "(III)Z"⟩ ⟨"OldWeather", "isIn", "(III)Z"⟩) ∈ lw_all := lw_g (lw_at lw_ms 63 rfl) rfl
theorem qs64 : (Cond.selects "OldWeatherModel" ⟨"OldWeatherModel", "told", "(I)I"⟩ ⟨"OldWeatherModel", "told", "(I)I"⟩) ∈ lw_all := lw_g (lw_at lw_ms 64 rfl) rfl
theorem qs65 : (Cond.selects "OldWeatherModel" ⟨"OldWeatherModel", "findDate", "(II)V"⟩ ⟨"OldWeatherModel", "findDate", "(II)V"⟩) ∈ lw_all := lw_g (lw_at lw_ms 65 rfl) rfl
theorem qs66 : (Cond.selects "OldWeatherModel" ⟨"OldWeatherModel", "isPlace", "(I)Z"⟩ ⟨"OldWeatherModel", "isPlace", "(I)Z"⟩) ∈ lw_all := lw_g (lw_at lw_ms 66 rfl) rfl
theorem qs67 : (Cond.selects "OldWeatherModel" ⟨"OldWeatherModel", "addFour", "(IIIII)V"⟩ ⟨"OldWeatherModel", "addFour", "(IIIII)V"⟩) ∈ lw_all := lw_g (lw_at lw_ms 67 rfl) rfl
theorem qs68 : (Cond.selects "OldWeatherModel" ⟨"OldWeatherModel", "isSource", "(I)Z"⟩ ⟨"OldWeatherModel", "isSource", "(I)Z"⟩) ∈ lw_all := lw_g (lw_at lw_ms 68 rfl) rfl
theorem qs69 : (Cond.selects "OldWeatherModel" ⟨"OldWeatherModel", "tell", "(IIIIIIZII)I"⟩ ⟨"OldWeatherModel", "tell", "(IIIIIIZII)I"⟩) ∈ lw_all := lw_g (lw_at lw_ms 69 rfl) rfl
theorem qs70 : (Cond.selects "OldWeatherModel" ⟨"OldWeatherModel", "isReading", "(I)Z"⟩ ⟨"OldWeatherModel", "isReading", "(I)Z"⟩) ∈ lw_all := lw_g (lw_at lw_ms 70 rfl) rfl
theorem qs71 : (Cond.selects "OldWeatherModel" ⟨"OldWeatherModel", "keep", "(IIIIIIII)I"⟩ ⟨"OldWeatherModel", "keep", "(IIIIIIII)I"⟩) ∈ lw_all := lw_g (lw_at lw_ms 71 rfl) rfl
theorem qs72 : (Cond.selects "OldWeatherModel" ⟨"OldWeatherModel", "findDays", "(I)V"⟩ ⟨"OldWeatherModel", "findDays", "(I)V"⟩) ∈ lw_all := lw_g (lw_at lw_ms 72 rfl) rfl
theorem qs73 : (Cond.selects "OldWeatherModel" ⟨"OldWeatherModel", "sourceOf", "(I)I"⟩ ⟨"OldWeatherModel", "sourceOf", "(I)I"⟩) ∈ lw_all := lw_g (lw_at lw_ms 73 rfl) rfl
theorem qs74 : (Cond.selects "OldWeatherModel" ⟨"OldWeatherModel", "get", "(II)I"⟩ ⟨"OldWeatherModel", "get", "(II)I"⟩) ∈ lw_all := lw_g (lw_at lw_ms 74 rfl) rfl
theorem qs75 : (Cond.selects "OldWeatherModel" ⟨"OldWeatherModel", "bitsAt", "(I)I"⟩ ⟨"OldWeatherModel", "bitsAt", "(I)I"⟩) ∈ lw_all := lw_g (lw_at lw_ms 75 rfl) rfl
theorem qs76 : (Cond.selects "OldWeatherModel" ⟨"OldWeatherModel", "dayOn", "(I)V"⟩ ⟨"OldWeatherModel", "dayOn", "(I)V"⟩) ∈ lw_all := lw_g (lw_at lw_ms 76 rfl) rfl
theorem qs77 : (Cond.selects "OldWeatherModel" ⟨"OldWeatherModel", "four", "(I)V"⟩ ⟨"OldWeatherModel", "four", "(I)V"⟩) ∈ lw_all := lw_g (lw_at lw_ms 77 rfl) rfl
theorem qs78 : (Cond.selects "OldWeatherModel" ⟨"OldWeatherModel", "begin", "()V"⟩ ⟨"OldWeatherModel", "begin", "()V"⟩) ∈ lw_all := lw_g (lw_at lw_ms 78 rfl) rfl
theorem qs79 : (Cond.selects "OldWeatherModel" ⟨"OldWeatherModel", "next", "()V"⟩ ⟨"OldWeatherModel", "next", "()V"⟩) ∈ lw_all := lw_g (lw_at lw_ms 79 rfl) rfl
theorem qs80 : (Cond.selects "OldWeatherModel" ⟨"OldWeatherModel", "readClause", "()V"⟩ ⟨"OldWeatherModel", "readClause", "()V"⟩) ∈ lw_all := lw_g (lw_at lw_ms 80 rfl) rfl
theorem qs81 : (Cond.selects "OldWeatherModel" ⟨"OldWeatherModel", "headAt", "()I"⟩ ⟨"OldWeatherModel", "headAt", "()I"⟩) ∈ lw_all := lw_g (lw_at lw_ms 81 rfl) rfl
theorem qs82 : (Cond.selects "OldWeatherModel" ⟨"OldWeatherModel", "isWord", "(J)Z"⟩ ⟨"OldWeatherModel", "isWord", "(J)Z"⟩) ∈ lw_all := lw_g (lw_at lw_ms 82 rfl) rfl
theorem qs83 : (Cond.selects "OldWeatherModel" ⟨"OldWeatherModel", "must", "(Z)V"⟩ ⟨"OldWeatherModel", "must", "(Z)V"⟩) ∈ lw_all := lw_g (lw_at lw_ms 83 rfl) rfl
theorem qs84 : (Cond.selects "OldWeatherModel" ⟨"OldWeatherModel", "number", "(JJ)I"⟩ ⟨"OldWeatherModel", "number", "(JJ)I"⟩) ∈ lw_all := lw_g (lw_at lw_ms 84 rfl) rfl
theorem qs85 : (Cond.selects "OldWeatherModel" ⟨"OldWeatherModel", "kindAt", "()I"⟩ ⟨"OldWeatherModel", "kindAt", "()I"⟩) ∈ lw_all := lw_g (lw_at lw_ms 85 rfl) rfl
theorem qs86 : (Cond.selects "OldWeatherModel" ⟨"OldWeatherModel", "choice", "(I)I"⟩ ⟨"OldWeatherModel", "choice", "(I)I"⟩) ∈ lw_all := lw_g (lw_at lw_ms 86 rfl) rfl
theorem qs87 : (Cond.selects "OldWeatherModel" ⟨"OldWeatherModel", "readPieces", "(IZZ)V"⟩ ⟨"OldWeatherModel", "readPieces", "(IZZ)V"⟩) ∈ lw_all := lw_g (lw_at lw_ms 87 rfl) rfl
theorem qs88 : (Cond.selects "OldWeatherModel" ⟨"OldWeatherModel", "readExpression", "(Z)V"⟩ ⟨"OldWeatherModel", "readExpression", "(Z)V"⟩) ∈ lw_all := lw_g (lw_at lw_ms 88 rfl) rfl
theorem qs89 : (Cond.selects "OldWeatherModel" ⟨"OldWeatherModel", "readPlain", "()I"⟩ ⟨"OldWeatherModel", "readPlain", "()I"⟩) ∈ lw_all := lw_g (lw_at lw_ms 89 rfl) rfl
theorem qs90 : (Cond.selects "OldWeatherModel" ⟨"OldWeatherModel", "push", "(II)V"⟩ ⟨"OldWeatherModel", "push", "(II)V"⟩) ∈ lw_all := lw_g (lw_at lw_ms 90 rfl) rfl
theorem qs91 : (Cond.selects "OldWeatherModel" ⟨"OldWeatherModel", "isSign", "(I)Z"⟩ ⟨"OldWeatherModel", "isSign", "(I)Z"⟩) ∈ lw_all := lw_g (lw_at lw_ms 91 rfl) rfl
theorem qs92 : (Cond.selects "OldWeatherModel" ⟨"OldWeatherModel", "open", "(I)V"⟩ ⟨"OldWeatherModel", "open", "(I)V"⟩) ∈ lw_all := lw_g (lw_at lw_ms 92 rfl) rfl
theorem qs93 : (Cond.selects "OldWeatherModel" ⟨"OldWeatherModel", "readPart", "()I"⟩ ⟨"OldWeatherModel", "readPart", "()I"⟩) ∈ lw_all := lw_g (lw_at lw_ms 93 rfl) rfl
theorem qs94 : (Cond.selects "OldWeatherModel" ⟨"OldWeatherModel", "partAt", "()I"⟩ ⟨"OldWeatherModel", "partAt", "()I"⟩) ∈ lw_all := lw_g (lw_at lw_ms 94 rfl) rfl
theorem qs95 : (Cond.selects "OldWeatherModel" ⟨"OldWeatherModel", "emit", "(II)V"⟩ ⟨"OldWeatherModel", "emit", "(II)V"⟩) ∈ lw_all := lw_g (lw_at lw_ms 95 rfl) rfl
theorem qs96 : (Cond.selects "OldWeatherModel" ⟨"OldWeatherModel", "settle", "(I)V"⟩ ⟨"OldWeatherModel", "settle", "(I)V"⟩) ∈ lw_all := lw_g (lw_at lw_ms 96 rfl) rfl
theorem qs97 : (Cond.selects "OldWeatherModel" ⟨"OldWeatherModel", "behindSum", "(Z)I"⟩ ⟨"OldWeatherModel", "behindSum", "(Z)I"⟩) ∈ lw_all := lw_g (lw_at lw_ms 97 rfl) rfl
theorem qs98 : (Cond.selects "OldWeatherModel" ⟨"OldWeatherModel", "inner", "()I"⟩ ⟨"OldWeatherModel", "inner", "()I"⟩) ∈ lw_all := lw_g (lw_at lw_ms 98 rfl) rfl
theorem qs99 : (Cond.selects "OldWeatherModel" ⟨"OldWeatherModel", "isCompared", "()Z"⟩ ⟨"OldWeatherModel", "isCompared", "()Z"⟩) ∈ lw_all := lw_g (lw_at lw_ms 99 rfl) rfl
theorem qs100 : (Cond.selects "OldWeatherModel" ⟨"OldWeatherModel", "behindTest", "()I"⟩ ⟨"OldWeatherModel", "behindTest", "()I"⟩) ∈ lw_all := lw_g (lw_at lw_ms 100 rfl) rfl
theorem qs101 : (Cond.selects "OldWeatherModel" ⟨"OldWeatherModel", "knowBy", "(I)V"⟩ ⟨"OldWeatherModel", "knowBy", "(I)V"⟩) ∈ lw_all := lw_g (lw_at lw_ms 101 rfl) rfl
theorem qs102 : (Cond.selects "OldWeatherModel" ⟨"OldWeatherModel", "findAllDays", "()V"⟩ ⟨"OldWeatherModel", "findAllDays", "()V"⟩) ∈ lw_all := lw_g (lw_at lw_ms 102 rfl) rfl
theorem qs103 : (Cond.selects "OldWeatherModel" ⟨"OldWeatherModel", "findOnes", "()V"⟩ ⟨"OldWeatherModel", "findOnes", "()V"⟩) ∈ lw_all := lw_g (lw_at lw_ms 103 rfl) rfl
theorem qs104 : (Cond.selects "OldWeatherModel" ⟨"OldWeatherModel", "lastOf", "(II)I"⟩ ⟨"OldWeatherModel", "lastOf", "(II)I"⟩) ∈ lw_all := lw_g (lw_at lw_ms 104 rfl) rfl
theorem qs105 : (Cond.selects "OldWeatherModel" ⟨"OldWeatherModel", "shared", "(II)I"⟩ ⟨"OldWeatherModel", "shared", "(II)I"⟩) ∈ lw_all := lw_g (lw_at lw_ms 105 rfl) rfl
theorem qs106 : (Cond.selects "OldWeatherModel" ⟨"OldWeatherModel", "dayFirst", "(I)I"⟩ ⟨"OldWeatherModel", "dayFirst", "(I)I"⟩) ∈ lw_all := lw_g (lw_at lw_ms 106 rfl) rfl
theorem qs107 : (Cond.selects "OldWeatherModel" ⟨"OldWeatherModel", "isTold", "(I)Z"⟩ ⟨"OldWeatherModel", "isTold", "(I)Z"⟩) ∈ lw_all := lw_g (lw_at lw_ms 107 rfl) rfl
theorem qs108 : (Cond.selects "OldWeatherModel" ⟨"OldWeatherModel", "findBounds", "(II)Z"⟩ ⟨"OldWeatherModel", "findBounds", "(II)Z"⟩) ∈ lw_all := lw_g (lw_at lw_ms 108 rfl) rfl
theorem qs109 : (Cond.selects "OldWeatherModel" ⟨"OldWeatherModel", "putRight", "(II)J"⟩ ⟨"OldWeatherModel", "putRight", "(II)J"⟩) ∈ lw_all := lw_g (lw_at lw_ms 109 rfl) rfl
theorem qs110 : (Cond.selects "OldWeatherModel" ⟨"OldWeatherModel", "find", "(IIIII)Z"⟩ ⟨"OldWeatherModel", "find", "(IIIII)Z"⟩) ∈ lw_all := lw_g (lw_at lw_ms 110 rfl) rfl
theorem qs111 : (Cond.selects "OldWeatherModel" ⟨"OldWeatherModel", "setFor", "(II)V"⟩ ⟨"OldWeatherModel", "setFor", "(II)V"⟩) ∈ lw_all := lw_g (lw_at lw_ms 111 rfl) rfl
theorem qs112 : (Cond.selects "OldWeatherModel" ⟨"OldWeatherModel", "placeOf", "(I)I"⟩ ⟨"OldWeatherModel", "placeOf", "(I)I"⟩) ∈ lw_all := lw_g (lw_at lw_ms 112 rfl) rfl
theorem qs113 : (Cond.selects "OldWeatherModel" ⟨"OldWeatherModel", "handOf", "(I)I"⟩ ⟨"OldWeatherModel", "handOf", "(I)I"⟩) ∈ lw_all := lw_g (lw_at lw_ms 113 rfl) rfl
theorem qs114 : (Cond.selects "OldWeatherModel" ⟨"OldWeatherModel", "holds", "(II)Z"⟩ ⟨"OldWeatherModel", "holds", "(II)Z"⟩) ∈ lw_all := lw_g (lw_at lw_ms 114 rfl) rfl
theorem qs115 : (Cond.selects "OldWeatherModel" ⟨"OldWeatherModel", "run", "(III)V"⟩ ⟨"OldWeatherModel", "run", "(III)V"⟩) ∈ lw_all := lw_g (lw_at lw_ms 115 rfl) rfl
theorem qs116 : (Cond.selects "OldWeatherModel" ⟨"OldWeatherModel", "reckon", "(IJJ)J"⟩ ⟨"OldWeatherModel", "reckon", "(IJJ)J"⟩) ∈ lw_all := lw_g (lw_at lw_ms 116 rfl) rfl
theorem qs117 : (Cond.selects "OldWeatherModel" ⟨"OldWeatherModel", "keepSpan", "(JJ)Z"⟩ ⟨"OldWeatherModel", "keepSpan", "(JJ)Z"⟩) ∈ lw_all := lw_g (lw_at lw_ms 117 rfl) rfl
theorem qs118 : (Cond.selects "OldWeatherModel" ⟨"OldWeatherModel", "findLearned", "(II)Z"⟩ ⟨"OldWeatherModel", "findLearned", "(II)Z"⟩) ∈ lw_all := lw_g (lw_at lw_ms 118 rfl) rfl
theorem qs119 : (Cond.selects "OldWeatherModel" ⟨"OldWeatherModel", "learn", "(II)V"⟩ ⟨"OldWeatherModel", "learn", "(II)V"⟩) ∈ lw_all := lw_g (lw_at lw_ms 119 rfl) rfl
theorem qs120 : (Cond.selects "OldWeatherModel" ⟨"OldWeatherModel", "findPairs", "(II)V"⟩ ⟨"OldWeatherModel", "findPairs", "(II)V"⟩) ∈ lw_all := lw_g (lw_at lw_ms 120 rfl) rfl
theorem qs121 : (Cond.selects "OldWeatherModel" ⟨"OldWeatherModel", "isSure", "(I)Z"⟩ ⟨"OldWeatherModel", "isSure", "(I)Z"⟩) ∈ lw_all := lw_g (lw_at lw_ms 121 rfl) rfl
theorem qs122 : (Cond.selects "OldWeatherModel" ⟨"OldWeatherModel", "gaugeBy", "(II)I"⟩ ⟨"OldWeatherModel", "gaugeBy", "(II)I"⟩) ∈ lw_all := lw_g (lw_at lw_ms 122 rfl) rfl
theorem qs123 : (Cond.selects "OldWeatherModel" ⟨"OldWeatherModel", "at", "(I)I"⟩ ⟨"OldWeatherModel", "at", "(I)I"⟩) ∈ lw_all := lw_g (lw_at lw_ms 123 rfl) rfl
theorem qs124 : (Cond.selects "OldWeatherModel" ⟨"OldWeatherModel", "ordered", "(II)I"⟩ ⟨"OldWeatherModel", "ordered", "(II)I"⟩) ∈ lw_all := lw_g (lw_at lw_ms 124 rfl) rfl
theorem qs125 : (Cond.selects "OldWeatherModel" ⟨"OldWeatherModel", "doesCount", "(I)Z"⟩ ⟨"OldWeatherModel", "doesCount", "(I)Z"⟩) ∈ lw_all := lw_g (lw_at lw_ms 125 rfl) rfl
theorem qs126 : (Cond.selects "OldWeatherModel" ⟨"OldWeatherModel", "noShifts", "()V"⟩ ⟨"OldWeatherModel", "noShifts", "()V"⟩) ∈ lw_all := lw_g (lw_at lw_ms 126 rfl) rfl
theorem qs127 : (Cond.selects "OldWeatherModel" ⟨"OldWeatherModel", "join", "(II)V"⟩ ⟨"OldWeatherModel", "join", "(II)V"⟩) ∈ lw_all := lw_g (lw_at lw_ms 127 rfl) rfl
theorem qs128 : (Cond.selects "OldWeatherModel" ⟨"OldWeatherModel", "likeOf", "(II)I"⟩ ⟨"OldWeatherModel", "likeOf", "(II)I"⟩) ∈ lw_all := lw_g (lw_at lw_ms 128 rfl) rfl
theorem qs129 : (Cond.selects "OldWeatherModel" ⟨"OldWeatherModel", "weightOf", "(II)J"⟩ ⟨"OldWeatherModel", "weightOf", "(II)J"⟩) ∈ lw_all := lw_g (lw_at lw_ms 129 rfl) rfl
theorem qs130 : (Cond.selects "OldWeatherModel" ⟨"OldWeatherModel", "tellJoined", "(I)I"⟩ ⟨"OldWeatherModel", "tellJoined", "(I)I"⟩) ∈ lw_all := lw_g (lw_at lw_ms 130 rfl) rfl
theorem qs131 : (Cond.selects "OldWeatherModel" ⟨"OldWeatherModel", "countClashes", "()V"⟩ ⟨"OldWeatherModel", "countClashes", "()V"⟩) ∈ lw_all := lw_g (lw_at lw_ms 131 rfl) rfl
theorem qs132 : (Cond.selects "OldWeatherModel" ⟨"OldWeatherModel", "findShifts", "()V"⟩ ⟨"OldWeatherModel", "findShifts", "()V"⟩) ∈ lw_all := lw_g (lw_at lw_ms 132 rfl) rfl
theorem qs133 : (Cond.selects "OldWeatherModel" ⟨"OldWeatherModel", "wishOf", "(I)I"⟩ ⟨"OldWeatherModel", "wishOf", "(I)I"⟩) ∈ lw_all := lw_g (lw_at lw_ms 133 rfl) rfl
theorem qs134 : (Cond.selects "OldWeatherModel" ⟨"OldWeatherModel", "clash", "(IIII)Z"⟩ ⟨"OldWeatherModel", "clash", "(IIII)Z"⟩) ∈ lw_all := lw_g (lw_at lw_ms 134 rfl) rfl
theorem qs135 : (Cond.selects "OldWeatherModel" ⟨"OldWeatherModel", "rowsOf", "()I"⟩ ⟨"OldWeatherModel", "rowsOf", "()I"⟩) ∈ lw_all := lw_g (lw_at lw_ms 135 rfl) rfl
theorem qs136 : (Cond.selects "OldWeatherModel" ⟨"OldWeatherModel", "quarrels", "()I"⟩ ⟨"OldWeatherModel", "quarrels", "()I"⟩) ∈ lw_all := lw_g (lw_at lw_ms 136 rfl) rfl
theorem qs137 : (Cond.selects "OldWeatherModel" ⟨"OldWeatherModel", "findWinter", "(II)V"⟩ ⟨"OldWeatherModel", "findWinter", "(II)V"⟩) ∈ lw_all := lw_g (lw_at lw_ms 137 rfl) rfl
theorem qs138 : (Cond.selects "OldWeatherModel" ⟨"OldWeatherModel", "addDays", "(III)V"⟩ ⟨"OldWeatherModel", "addDays", "(III)V"⟩) ∈ lw_all := lw_g (lw_at lw_ms 138 rfl) rfl
theorem qs139 : (Cond.selects "OldWeatherModel" ⟨"OldWeatherModel", "widthsBy", "(IIII)I"⟩ ⟨"OldWeatherModel", "widthsBy", "(IIII)I"⟩) ∈ lw_all := lw_g (lw_at lw_ms 139 rfl) rfl
theorem qs140 : (Cond.selects "OldWeatherModel" ⟨"OldWeatherModel", "addMonth", "(II)V"⟩ ⟨"OldWeatherModel", "addMonth", "(II)V"⟩) ∈ lw_all := lw_g (lw_at lw_ms 140 rfl) rfl
theorem qs141 : (Cond.selects "OldWeatherModel" ⟨"OldWeatherModel", "isOf", "(III)Z"⟩ ⟨"OldWeatherModel", "isOf", "(III)Z"⟩) ∈ lw_all := lw_g (lw_at lw_ms 141 rfl) rfl
/-! OldWeather -/
def RX0 : String := "OldWeather"
def TX0 : u_T := fun k => match k with
  | 0 => ("OldWeather", "status", "I", false)
  | 1 => ("OldWeather", "version", "I", false)
  | 2 => ("OldWeather", "now", "LOldWeather$Told;", true)
  | 3 => ("OldWeather", "images", "[LOldWeather$Told;", true)
  | 4 => ("OldWeather", "dayOne", "[I", true)
  | 5 => ("OldWeather", "dayTwo", "[I", true)
  | 6 => ("OldWeather", "daysVersion", "I", false)
  | 7 => ("OldWeather", "tape", "[B", true)
  | 8 => ("OldWeather", "taped", "I", false)
  | 9 => ("OldWeather", "fault", "I", false)
  | 10 => ("OldWeather", "force", "LOldWeather$Force;", true)
  | 11 => ("OldWeather", "setting", "LOldWeather$Setting;", true)
  | 12 => ("OldWeather", "told", "[J", true)
  | 13 => ("OldWeather", "some", "[J", true)
  | 14 => ("OldWeather", "low", "I", false)
  | 15 => ("OldWeather", "high", "I", false)
  | 16 => ("OldWeather", "by", "I", false)
  | 17 => ("OldWeather", "right", "I", false)
  | 18 => ("OldWeather", "pairs", "LOldWeather$Pairs;", true)
  | 19 => ("OldWeather", "learnLow", "J", false)
  | 20 => ("OldWeather", "learnHigh", "J", false)
  | 21 => ("OldWeather", "desk", "LOldWeather$Desk;", true)
  | 22 => ("OldWeather", "joinLow", "I", false)
  | 23 => ("OldWeather", "joinHigh", "I", false)
  | 24 => ("OldWeather", "joinMany", "I", false)
  | 25 => ("OldWeather", "joinDegrees", "I", false)
  | 26 => ("OldWeather", "joinQuarrel", "Z", false)
  | 27 => ("OldWeather", "joinOf", "[I", true)
  | 28 => ("OldWeather", "weight", "J", false)
  | 29 => ("OldWeather", "byDays", "[I", true)
  | 30 => ("OldWeather", "wishes", "[I", true)
  | 31 => ("OldWeather", "row", "[I", true)
  | 32 => ("OldWeather", "chosen", "[I", true)
  | 33 => ("OldWeather", "shifts", "[I", true)
  | 34 => ("OldWeather", "alone", "[I", true)
  | 35 => ("OldWeather", "both", "[I", true)
  | 36 => ("OldWeather", "shiftLow", "[I", true)
  | 37 => ("OldWeather", "shiftHigh", "[I", true)
  | 38 => ("OldWeather", "shiftHas", "[Z", true)
  | 39 => ("OldWeather", "wished", "I", false)
  | 40 => ("OldWeather", "chosenMany", "I", false)
  | 41 => ("OldWeather", "rivals", "I", false)
  | 42 => ("OldWeather", "fewest", "I", false)
  | 43 => ("OldWeather", "fewestMoved", "I", false)
  | 44 => ("OldWeather", "winterDays", "I", false)
  | 45 => ("OldWeather", "winterLow", "J", false)
  | 46 => ("OldWeather", "winterHigh", "J", false)
  | 47 => ("OldWeather", "widths", "[I", true)
  | 48 => ("OldWeather", "sumNow", "J", false)
  | 49 => ("OldWeather", "weightNow", "J", false)
  | _ => ("OldWeather", "manyNow", "I", false)
def tyX0 : Nat → FieldType := fun k => match k with
  | 0 => .int
  | 1 => .int
  | 2 => .object "OldWeather$Told"
  | 3 => .array (.object "OldWeather$Told")
  | 4 => .array .int
  | 5 => .array .int
  | 6 => .int
  | 7 => .array .byte
  | 8 => .int
  | 9 => .int
  | 10 => .object "OldWeather$Force"
  | 11 => .object "OldWeather$Setting"
  | 12 => .array .long
  | 13 => .array .long
  | 14 => .int
  | 15 => .int
  | 16 => .int
  | 17 => .int
  | 18 => .object "OldWeather$Pairs"
  | 19 => .long
  | 20 => .long
  | 21 => .object "OldWeather$Desk"
  | 22 => .int
  | 23 => .int
  | 24 => .int
  | 25 => .int
  | 26 => .boolean
  | 27 => .array .int
  | 28 => .long
  | 29 => .array .int
  | 30 => .array .int
  | 31 => .array .int
  | 32 => .array .int
  | 33 => .array .int
  | 34 => .array .int
  | 35 => .array .int
  | 36 => .array .int
  | 37 => .array .int
  | 38 => .array .boolean
  | 39 => .int
  | 40 => .int
  | 41 => .int
  | 42 => .int
  | 43 => .int
  | 44 => .int
  | 45 => .long
  | 46 => .long
  | 47 => .array .int
  | 48 => .long
  | 49 => .long
  | _ => .int
abbrev wsX00 : List Cond := u_ws RX0 TX0 51
set_option maxRecDepth 100000 in
theorem nmX0 : ∀ a, a < 51 → ∀ b, b < 51 → a ≠ b → (TX0 a).2.1 ≠ (TX0 b).2.1 := by decide +kernel
set_option maxRecDepth 100000 in
theorem tyX0_ok : ∀ k, k < 51 → parseFieldDescriptor (TX0 k).2.2.1 = some (tyX0 k) := by decide +kernel
theorem in_X0 : ∀ w ∈ wsX00, w ∈ lw_all := lw_in wsX00 [604, 606, 608, 610, 612, 614, 616, 618, 620, 622, 624, 626, 628, 630, 632, 634, 636, 638, 640, 642, 644, 646, 648, 650, 652, 654, 656, 658, 660, 662, 664, 666, 668, 670, 672, 674, 676, 678, 680, 682, 684, 686, 688, 690, 692, 694, 696, 698, 700, 702, 704] (by decide +kernel) (by decide +kernel)
/-! OldWeather$Told -/
def RX1 : String := "OldWeather$Told"
def TX1 : u_T := fun k => match k with
  | 0 => ("OldWeather$Told", "readings", "Ljava/util/ArrayList;", true)
  | 1 => ("OldWeather$Told", "texts", "Ljava/util/ArrayList;", true)
  | 2 => ("OldWeather$Told", "slips", "Ljava/util/ArrayList;", true)
  | 3 => ("OldWeather$Told", "offers", "Ljava/util/ArrayList;", true)
  | 4 => ("OldWeather$Told", "heights", "[I", true)
  | 5 => ("OldWeather$Told", "means", "[I", true)
  | 6 => ("OldWeather$Told", "spreads", "[I", true)
  | 7 => ("OldWeather$Told", "likes", "[I", true)
  | 8 => ("OldWeather$Told", "hands", "[I", true)
  | 9 => ("OldWeather$Told", "at", "[I", true)
  | 10 => ("OldWeather$Told", "turns", "[I", true)
  | 11 => ("OldWeather$Told", "stops", "[I", true)
  | 12 => ("OldWeather$Told", "values", "[I", true)
  | 13 => ("OldWeather$Told", "struck", "[I", true)
  | 14 => ("OldWeather$Told", "scales", "[I", true)
  | 15 => ("OldWeather$Told", "sealed", "[I", true)
  | 16 => ("OldWeather$Told", "sums", "[J", true)
  | 17 => ("OldWeather$Told", "weights", "[J", true)
  | 18 => ("OldWeather$Told", "places", "I", false)
  | _ => ("OldWeather$Told", "sources", "I", false)
def tyX1 : Nat → FieldType := fun k => match k with
  | 0 => .object "java/util/ArrayList"
  | 1 => .object "java/util/ArrayList"
  | 2 => .object "java/util/ArrayList"
  | 3 => .object "java/util/ArrayList"
  | 4 => .array .int
  | 5 => .array .int
  | 6 => .array .int
  | 7 => .array .int
  | 8 => .array .int
  | 9 => .array .int
  | 10 => .array .int
  | 11 => .array .int
  | 12 => .array .int
  | 13 => .array .int
  | 14 => .array .int
  | 15 => .array .int
  | 16 => .array .long
  | 17 => .array .long
  | 18 => .int
  | _ => .int
abbrev wsX10 : List Cond := u_ws RX1 TX1 20
set_option maxRecDepth 100000 in
theorem nmX1 : ∀ a, a < 20 → ∀ b, b < 20 → a ≠ b → (TX1 a).2.1 ≠ (TX1 b).2.1 := by decide +kernel
set_option maxRecDepth 100000 in
theorem tyX1_ok : ∀ k, k < 20 → parseFieldDescriptor (TX1 k).2.2.1 = some (tyX1 k) := by decide +kernel
theorem in_X1 : ∀ w ∈ wsX10, w ∈ lw_all := lw_in wsX10 [284, 286, 288, 290, 292, 294, 296, 298, 300, 302, 304, 306, 308, 310, 312, 314, 316, 318, 320, 322] (by decide +kernel) (by decide +kernel)
/-! OldWeather$Force -/
def RX2 : String := "OldWeather$Force"
def TX2 : u_T := fun k => match k with
  | 0 => ("OldWeather$Force", "is", "[Z", true)
  | 1 => ("OldWeather$Force", "struck", "[Z", true)
  | 2 => ("OldWeather$Force", "known", "I", false)
  | 3 => ("OldWeather$Force", "version", "I", false)
  | 4 => ("OldWeather$Force", "same", "I", false)
  | 5 => ("OldWeather$Force", "cold", "I", false)
  | _ => ("OldWeather$Force", "this$0", "LOldWeather;", true)
def tyX2 : Nat → FieldType := fun k => match k with
  | 0 => .array .boolean
  | 1 => .array .boolean
  | 2 => .int
  | 3 => .int
  | 4 => .int
  | 5 => .int
  | _ => .object "OldWeather"
abbrev wsX20 : List Cond := u_ws RX2 TX2 7
theorem nmX2 : ∀ a, a < 7 → ∀ b, b < 7 → a ≠ b → (TX2 a).2.1 ≠ (TX2 b).2.1 := by decide +kernel
theorem tyX2_ok : ∀ k, k < 7 → parseFieldDescriptor (TX2 k).2.2.1 = some (tyX2 k) := by decide +kernel
theorem in_X2 : ∀ w ∈ wsX20, w ∈ lw_all := lw_in wsX20 [344, 346, 348, 350, 352, 354, 356] (by decide +kernel) (by decide +kernel)
/-! OldWeather$Setting -/
def RX3 : String := "OldWeather$Setting"
def TX3 : u_T := fun k => match k with
  | 0 => ("OldWeather$Setting", "broken", "LOldWeather$Broken;", true)
  | 1 => ("OldWeather$Setting", "month", "I", false)
  | 2 => ("OldWeather$Setting", "year", "I", false)
  | 3 => ("OldWeather$Setting", "height", "I", false)
  | 4 => ("OldWeather$Setting", "hand", "I", false)
  | 5 => ("OldWeather$Setting", "value", "I", false)
  | 6 => ("OldWeather$Setting", "source", "I", false)
  | _ => ("OldWeather$Setting", "mean", "I", false)
def tyX3 : Nat → FieldType := fun k => match k with
  | 0 => .object "OldWeather$Broken"
  | 1 => .int
  | 2 => .int
  | 3 => .int
  | 4 => .int
  | 5 => .int
  | 6 => .int
  | _ => .int
abbrev wsX30 : List Cond := u_ws RX3 TX3 8
theorem nmX3 : ∀ a, a < 8 → ∀ b, b < 8 → a ≠ b → (TX3 a).2.1 ≠ (TX3 b).2.1 := by decide +kernel
theorem tyX3_ok : ∀ k, k < 8 → parseFieldDescriptor (TX3 k).2.2.1 = some (tyX3 k) := by decide +kernel
theorem in_X3 : ∀ w ∈ wsX30, w ∈ lw_all := lw_in wsX30 [445, 447, 449, 451, 453, 455, 457, 459] (by decide +kernel) (by decide +kernel)
/-! OldWeather$Pairs -/
def RX5 : String := "OldWeather$Pairs"
def TX5 : u_T := fun k => match k with
  | 0 => ("OldWeather$Pairs", "many", "[I", true)
  | 1 => ("OldWeather$Pairs", "word", "[I", true)
  | 2 => ("OldWeather$Pairs", "degrees", "[J", true)
  | 3 => ("OldWeather$Pairs", "known", "I", false)
  | 4 => ("OldWeather$Pairs", "version", "I", false)
  | 5 => ("OldWeather$Pairs", "all", "I", false)
  | _ => ("OldWeather$Pairs", "this$0", "LOldWeather;", true)
def tyX5 : Nat → FieldType := fun k => match k with
  | 0 => .array .int
  | 1 => .array .int
  | 2 => .array .long
  | 3 => .int
  | 4 => .int
  | 5 => .int
  | _ => .object "OldWeather"
abbrev wsX50 : List Cond := u_ws RX5 TX5 7
theorem nmX5 : ∀ a, a < 7 → ∀ b, b < 7 → a ≠ b → (TX5 a).2.1 ≠ (TX5 b).2.1 := by decide +kernel
theorem tyX5_ok : ∀ k, k < 7 → parseFieldDescriptor (TX5 k).2.2.1 = some (tyX5 k) := by decide +kernel
theorem in_X5 : ∀ w ∈ wsX50, w ∈ lw_all := lw_in wsX50 [476, 478, 480, 482, 484, 486, 488] (by decide +kernel) (by decide +kernel)
/-! OldWeather$Desk -/
def RX6 : String := "OldWeather$Desk"
def TX6 : u_T := fun k => match k with
  | 0 => ("OldWeather$Desk", "one", "[I", true)
  | 1 => ("OldWeather$Desk", "lows", "[I", true)
  | 2 => ("OldWeather$Desk", "highs", "[I", true)
  | 3 => ("OldWeather$Desk", "bys", "[I", true)
  | 4 => ("OldWeather$Desk", "rights", "[I", true)
  | 5 => ("OldWeather$Desk", "has", "[Z", true)
  | 6 => ("OldWeather$Desk", "counts", "[Z", true)
  | 7 => ("OldWeather$Desk", "weights", "[J", true)
  | 8 => ("OldWeather$Desk", "known", "I", false)
  | 9 => ("OldWeather$Desk", "version", "I", false)
  | _ => ("OldWeather$Desk", "this$0", "LOldWeather;", true)
def tyX6 : Nat → FieldType := fun k => match k with
  | 0 => .array .int
  | 1 => .array .int
  | 2 => .array .int
  | 3 => .array .int
  | 4 => .array .int
  | 5 => .array .boolean
  | 6 => .array .boolean
  | 7 => .array .long
  | 8 => .int
  | 9 => .int
  | _ => .object "OldWeather"
abbrev wsX60 : List Cond := u_ws RX6 TX6 11
theorem nmX6 : ∀ a, a < 11 → ∀ b, b < 11 → a ≠ b → (TX6 a).2.1 ≠ (TX6 b).2.1 := by decide +kernel
theorem tyX6_ok : ∀ k, k < 11 → parseFieldDescriptor (TX6 k).2.2.1 = some (tyX6 k) := by decide +kernel
theorem in_X6 : ∀ w ∈ wsX60, w ∈ lw_all := lw_in wsX60 [516, 518, 520, 522, 524, 526, 528, 530, 532, 534, 536] (by decide +kernel) (by decide +kernel)
/-! java/util/ArrayList -/
def RJ2 : String := "java/util/ArrayList"
def TJ2 : u_T := fun k => match k with
  | 0 => ("java/util/AbstractList", "modCount", "I", false)
  | 1 => ("java/util/ArrayList", "elementData", "[Ljava/lang/Object;", false)
  | _ => ("java/util/ArrayList", "size", "I", false)
def tyJ2 : Nat → FieldType := fun k => match k with
  | 0 => .int
  | 1 => .array (.object "java/lang/Object")
  | _ => .int
abbrev wsJ20 : List Cond := u_ws RJ2 TJ2 3
theorem nmJ2 : ∀ a, a < 3 → ∀ b, b < 3 → a ≠ b → (TJ2 a).2.1 ≠ (TJ2 b).2.1 := by decide +kernel
theorem tyJ2_ok : ∀ k, k < 3 → parseFieldDescriptor (TJ2 k).2.2.1 = some (tyJ2 k) := by decide +kernel
theorem in_J2 : ∀ w ∈ wsJ20, w ∈ lw_all := lw_in wsJ20 [231, 227, 229] (by decide +kernel) (by decide +kernel)
/-! OldWeather$Word -/
def RX9 : String := "OldWeather$Word"
def TX9 : u_T := fun k => match k with
  | 0 => ("OldWeather$Reading", "place", "I", true)
  | 1 => ("OldWeather$Reading", "source", "I", true)
  | 2 => ("OldWeather$Reading", "year", "I", true)
  | 3 => ("OldWeather$Reading", "month", "I", true)
  | 4 => ("OldWeather$Reading", "day", "I", true)
  | _ => ("OldWeather$Reading", "known", "I", true)
def tyX9 : Nat → FieldType := fun k => match k with
  | 0 => .int
  | 1 => .int
  | 2 => .int
  | 3 => .int
  | 4 => .int
  | _ => .int
abbrev wsX90 : List Cond := u_ws RX9 TX9 6
theorem nmX9 : ∀ a, a < 6 → ∀ b, b < 6 → a ≠ b → (TX9 a).2.1 ≠ (TX9 b).2.1 := by decide +kernel
theorem tyX9_ok : ∀ k, k < 6 → parseFieldDescriptor (TX9 k).2.2.1 = some (tyX9 k) := by decide +kernel
theorem in_X9 : ∀ w ∈ wsX90, w ∈ lw_all := lw_in wsX90 [939, 941, 943, 945, 947, 949] (by decide +kernel) (by decide +kernel)
/-! OldWeather$Gauge -/
def RX10 : String := "OldWeather$Gauge"
def TX10 : u_T := fun k => match k with
  | 0 => ("OldWeather$Reading", "place", "I", true)
  | 1 => ("OldWeather$Reading", "source", "I", true)
  | 2 => ("OldWeather$Reading", "year", "I", true)
  | 3 => ("OldWeather$Reading", "month", "I", true)
  | 4 => ("OldWeather$Reading", "day", "I", true)
  | _ => ("OldWeather$Reading", "known", "I", true)
def tyX10 : Nat → FieldType := fun k => match k with
  | 0 => .int
  | 1 => .int
  | 2 => .int
  | 3 => .int
  | 4 => .int
  | _ => .int
abbrev wsX100 : List Cond := u_ws RX10 TX10 6
theorem nmX10 : ∀ a, a < 6 → ∀ b, b < 6 → a ≠ b → (TX10 a).2.1 ≠ (TX10 b).2.1 := by decide +kernel
theorem tyX10_ok : ∀ k, k < 6 → parseFieldDescriptor (TX10 k).2.2.1 = some (tyX10 k) := by decide +kernel
theorem in_X10 : ∀ w ∈ wsX100, w ∈ lw_all := lw_in wsX100 [978, 979, 980, 981, 982, 983] (by decide +kernel) (by decide +kernel)
/-! OldWeather$Log -/
def RX11 : String := "OldWeather$Log"
def TX11 : u_T := fun k => match k with
  | 0 => ("OldWeather$Reading", "place", "I", true)
  | 1 => ("OldWeather$Reading", "source", "I", true)
  | 2 => ("OldWeather$Reading", "year", "I", true)
  | 3 => ("OldWeather$Reading", "month", "I", true)
  | 4 => ("OldWeather$Reading", "day", "I", true)
  | _ => ("OldWeather$Reading", "known", "I", true)
def tyX11 : Nat → FieldType := fun k => match k with
  | 0 => .int
  | 1 => .int
  | 2 => .int
  | 3 => .int
  | 4 => .int
  | _ => .int
abbrev wsX110 : List Cond := u_ws RX11 TX11 6
theorem nmX11 : ∀ a, a < 6 → ∀ b, b < 6 → a ≠ b → (TX11 a).2.1 ≠ (TX11 b).2.1 := by decide +kernel
theorem tyX11_ok : ∀ k, k < 6 → parseFieldDescriptor (TX11 k).2.2.1 = some (tyX11 k) := by decide +kernel
theorem in_X11 : ∀ w ∈ wsX110, w ∈ lw_all := lw_in wsX110 [995, 996, 997, 998, 999, 1000] (by decide +kernel) (by decide +kernel)
/-! OldWeather$Proxy -/
def RX12 : String := "OldWeather$Proxy"
def TX12 : u_T := fun k => match k with
  | 0 => ("OldWeather$Reading", "place", "I", true)
  | 1 => ("OldWeather$Reading", "source", "I", true)
  | 2 => ("OldWeather$Reading", "year", "I", true)
  | 3 => ("OldWeather$Reading", "month", "I", true)
  | 4 => ("OldWeather$Reading", "day", "I", true)
  | 5 => ("OldWeather$Reading", "known", "I", true)
  | _ => ("OldWeather$Proxy", "sort", "I", true)
def tyX12 : Nat → FieldType := fun k => match k with
  | 0 => .int
  | 1 => .int
  | 2 => .int
  | 3 => .int
  | 4 => .int
  | 5 => .int
  | _ => .int
abbrev wsX120 : List Cond := u_ws RX12 TX12 7
theorem nmX12 : ∀ a, a < 7 → ∀ b, b < 7 → a ≠ b → (TX12 a).2.1 ≠ (TX12 b).2.1 := by decide +kernel
theorem tyX12_ok : ∀ k, k < 7 → parseFieldDescriptor (TX12 k).2.2.1 = some (tyX12 k) := by decide +kernel
theorem in_X12 : ∀ w ∈ wsX120, w ∈ lw_all := lw_in wsX120 [1016, 1017, 1018, 1019, 1020, 1021, 1014] (by decide +kernel) (by decide +kernel)
/-! OldWeather$Copied -/
def RX13 : String := "OldWeather$Copied"
def TX13 : u_T := fun k => match k with
  | 0 => ("OldWeather$Reading", "place", "I", true)
  | 1 => ("OldWeather$Reading", "source", "I", true)
  | 2 => ("OldWeather$Reading", "year", "I", true)
  | 3 => ("OldWeather$Reading", "month", "I", true)
  | 4 => ("OldWeather$Reading", "day", "I", true)
  | 5 => ("OldWeather$Reading", "known", "I", true)
  | _ => ("OldWeather$Copied", "of", "I", true)
def tyX13 : Nat → FieldType := fun k => match k with
  | 0 => .int
  | 1 => .int
  | 2 => .int
  | 3 => .int
  | 4 => .int
  | 5 => .int
  | _ => .int
abbrev wsX130 : List Cond := u_ws RX13 TX13 7
theorem nmX13 : ∀ a, a < 7 → ∀ b, b < 7 → a ≠ b → (TX13 a).2.1 ≠ (TX13 b).2.1 := by decide +kernel
theorem tyX13_ok : ∀ k, k < 7 → parseFieldDescriptor (TX13 k).2.2.1 = some (tyX13 k) := by decide +kernel
theorem in_X13 : ∀ w ∈ wsX130, w ∈ lw_all := lw_in wsX130 [1041, 1042, 1043, 1044, 1045, 1046, 1039] (by decide +kernel) (by decide +kernel)
/-! OldWeather$Floats -/
def RX14 : String := "OldWeather$Floats"
def TX14 : u_T := fun k => match k with
  | 0 => ("OldWeather$Floats", "row", "[B", true)
  | _ => ("OldWeather$Floats", "at", "I", false)
def tyX14 : Nat → FieldType := fun k => match k with
  | 0 => .array .byte
  | _ => .int
abbrev wsX140 : List Cond := u_ws RX14 TX14 2
theorem nmX14 : ∀ a, a < 2 → ∀ b, b < 2 → a ≠ b → (TX14 a).2.1 ≠ (TX14 b).2.1 := by decide +kernel
theorem tyX14_ok : ∀ k, k < 2 → parseFieldDescriptor (TX14 k).2.2.1 = some (tyX14 k) := by decide +kernel
theorem in_X14 : ∀ w ∈ wsX140, w ∈ lw_all := lw_in wsX140 [1099, 1101] (by decide +kernel) (by decide +kernel)
/-! OldWeather$Reader -/
def RX15 : String := "OldWeather$Reader"
def TX15 : u_T := fun k => match k with
  | 0 => ("OldWeather$Reader", "tape", "[B", true)
  | 1 => ("OldWeather$Reader", "size", "I", true)
  | 2 => ("OldWeather$Reader", "made", "Ljava/util/ArrayList;", true)
  | 3 => ("OldWeather$Reader", "from", "I", false)
  | 4 => ("OldWeather$Reader", "to", "I", false)
  | 5 => ("OldWeather$Reader", "leaves", "I", false)
  | _ => ("OldWeather$Reader", "deep", "I", false)
def tyX15 : Nat → FieldType := fun k => match k with
  | 0 => .array .byte
  | 1 => .int
  | 2 => .object "java/util/ArrayList"
  | 3 => .int
  | 4 => .int
  | 5 => .int
  | _ => .int
abbrev wsX150 : List Cond := u_ws RX15 TX15 7
theorem nmX15 : ∀ a, a < 7 → ∀ b, b < 7 → a ≠ b → (TX15 a).2.1 ≠ (TX15 b).2.1 := by decide +kernel
theorem tyX15_ok : ∀ k, k < 7 → parseFieldDescriptor (TX15 k).2.2.1 = some (tyX15 k) := by decide +kernel
theorem in_X15 : ∀ w ∈ wsX150, w ∈ lw_all := lw_in wsX150 [1228, 1230, 1232, 1234, 1236, 1238, 1240] (by decide +kernel) (by decide +kernel)
/-! OldWeather$Fault -/
def RX16 : String := "OldWeather$Fault"
def TX16 : u_T := fun k => match k with
  | 0 => ("java/lang/Throwable", "cause", "Ljava/lang/Throwable;", false)
  | 1 => ("java/lang/Throwable", "stackTrace", "[Ljava/lang/StackTraceElement;", false)
  | 2 => ("java/lang/Throwable", "suppressedExceptions", "Ljava/util/List;", false)
  | 3 => ("java/lang/Throwable", "detailMessage", "Ljava/lang/String;", false)
  | 4 => ("java/lang/Throwable", "backtrace", "Ljava/lang/Object;", false)
  | 5 => ("java/lang/Throwable", "depth", "I", false)
  | _ => ("OldWeather$Fault", "place", "I", true)
def tyX16 : Nat → FieldType := fun k => match k with
  | 0 => .object "java/lang/Throwable"
  | 1 => .array (.object "java/lang/StackTraceElement")
  | 2 => .object "java/util/List"
  | 3 => .object "java/lang/String"
  | 4 => .object "java/lang/Object"
  | 5 => .int
  | _ => .int
abbrev wsX160 : List Cond := u_ws RX16 TX16 7
theorem nmX16 : ∀ a, a < 7 → ∀ b, b < 7 → a ≠ b → (TX16 a).2.1 ≠ (TX16 b).2.1 := by decide +kernel
theorem tyX16_ok : ∀ k, k < 7 → parseFieldDescriptor (TX16 k).2.2.1 = some (tyX16 k) := by decide +kernel
theorem in_X16 : ∀ w ∈ wsX160, w ∈ lw_all := lw_in wsX160 [1264, 1265, 1266, 1267, 1268, 1277, 1275] (by decide +kernel) (by decide +kernel)
/-! OldWeather$Broken -/
def RX4 : String := "OldWeather$Broken"
def TX4 : u_T := fun k => match k with
  | 0 => ("java/lang/Throwable", "cause", "Ljava/lang/Throwable;", false)
  | 1 => ("java/lang/Throwable", "stackTrace", "[Ljava/lang/StackTraceElement;", false)
  | 2 => ("java/lang/Throwable", "suppressedExceptions", "Ljava/util/List;", false)
  | 3 => ("java/lang/Throwable", "detailMessage", "Ljava/lang/String;", false)
  | 4 => ("java/lang/Throwable", "backtrace", "Ljava/lang/Object;", false)
  | _ => ("java/lang/Throwable", "depth", "I", false)
def tyX4 : Nat → FieldType := fun k => match k with
  | 0 => .object "java/lang/Throwable"
  | 1 => .array (.object "java/lang/StackTraceElement")
  | 2 => .object "java/util/List"
  | 3 => .object "java/lang/String"
  | 4 => .object "java/lang/Object"
  | _ => .int
abbrev wsX40 : List Cond := u_ws RX4 TX4 6
theorem nmX4 : ∀ a, a < 6 → ∀ b, b < 6 → a ≠ b → (TX4 a).2.1 ≠ (TX4 b).2.1 := by decide +kernel
theorem tyX4_ok : ∀ k, k < 6 → parseFieldDescriptor (TX4 k).2.2.1 = some (tyX4 k) := by decide +kernel
theorem in_X4 : ∀ w ∈ wsX40, w ∈ lw_all := lw_in wsX40 [376, 378, 380, 382, 384, 425] (by decide +kernel) (by decide +kernel)
/-! OldWeather$Clause -/
def RX17 : String := "OldWeather$Clause"
def TX17 : u_T := fun k => match k with
  | 0 => ("OldWeather$Clause", "kind", "I", true)
  | 1 => ("OldWeather$Clause", "which", "I", true)
  | 2 => ("OldWeather$Clause", "number", "I", true)
  | 3 => ("OldWeather$Clause", "first", "LOldWeather$Sum;", false)
  | 4 => ("OldWeather$Clause", "second", "LOldWeather$Sum;", false)
  | _ => ("OldWeather$Clause", "when", "LOldWeather$Test;", false)
def tyX17 : Nat → FieldType := fun k => match k with
  | 0 => .int
  | 1 => .int
  | 2 => .int
  | 3 => .object "OldWeather$Sum"
  | 4 => .object "OldWeather$Sum"
  | _ => .object "OldWeather$Test"
abbrev wsX170 : List Cond := u_ws RX17 TX17 6
theorem nmX17 : ∀ a, a < 6 → ∀ b, b < 6 → a ≠ b → (TX17 a).2.1 ≠ (TX17 b).2.1 := by decide +kernel
theorem tyX17_ok : ∀ k, k < 6 → parseFieldDescriptor (TX17 k).2.2.1 = some (tyX17 k) := by decide +kernel
theorem in_X17 : ∀ w ∈ wsX170, w ∈ lw_all := lw_in wsX170 [1363, 1365, 1367, 1369, 1371, 1373] (by decide +kernel) (by decide +kernel)
/-! OldWeather$Turned -/
def RX19 : String := "OldWeather$Turned"
def TX19 : u_T := fun k => match k with
  | _ => ("OldWeather$Turned", "of", "LOldWeather$Sum;", true)
def tyX19 : Nat → FieldType := fun k => match k with
  | _ => .object "OldWeather$Sum"
abbrev wsX190 : List Cond := u_ws RX19 TX19 1
theorem nmX19 : ∀ a, a < 1 → ∀ b, b < 1 → a ≠ b → (TX19 a).2.1 ≠ (TX19 b).2.1 := by decide +kernel
theorem tyX19_ok : ∀ k, k < 1 → parseFieldDescriptor (TX19 k).2.2.1 = some (tyX19 k) := by decide +kernel
theorem in_X19 : ∀ w ∈ wsX190, w ∈ lw_all := lw_in wsX190 [1411] (by decide +kernel) (by decide +kernel)
/-! OldWeather$Number -/
def RX20 : String := "OldWeather$Number"
def TX20 : u_T := fun k => match k with
  | _ => ("OldWeather$Number", "number", "I", true)
def tyX20 : Nat → FieldType := fun k => match k with
  | _ => .int
abbrev wsX200 : List Cond := u_ws RX20 TX20 1
theorem nmX20 : ∀ a, a < 1 → ∀ b, b < 1 → a ≠ b → (TX20 a).2.1 ≠ (TX20 b).2.1 := by decide +kernel
theorem tyX20_ok : ∀ k, k < 1 → parseFieldDescriptor (TX20 k).2.2.1 = some (tyX20 k) := by decide +kernel
theorem in_X20 : ∀ w ∈ wsX200, w ∈ lw_all := lw_in wsX200 [1427] (by decide +kernel) (by decide +kernel)
/-! OldWeather$Field -/
def RX21 : String := "OldWeather$Field"
def TX21 : u_T := fun k => match k with
  | _ => ("OldWeather$Field", "which", "I", true)
def tyX21 : Nat → FieldType := fun k => match k with
  | _ => .int
abbrev wsX210 : List Cond := u_ws RX21 TX21 1
theorem nmX21 : ∀ a, a < 1 → ∀ b, b < 1 → a ≠ b → (TX21 a).2.1 ≠ (TX21 b).2.1 := by decide +kernel
theorem tyX21_ok : ∀ k, k < 1 → parseFieldDescriptor (TX21 k).2.2.1 = some (tyX21 k) := by decide +kernel
theorem in_X21 : ∀ w ∈ wsX210, w ∈ lw_all := lw_in wsX210 [1448] (by decide +kernel) (by decide +kernel)
/-! OldWeather$Two -/
def RX22 : String := "OldWeather$Two"
def TX22 : u_T := fun k => match k with
  | 0 => ("OldWeather$Two", "sign", "C", true)
  | 1 => ("OldWeather$Two", "left", "LOldWeather$Sum;", true)
  | _ => ("OldWeather$Two", "right", "LOldWeather$Sum;", true)
def tyX22 : Nat → FieldType := fun k => match k with
  | 0 => .char
  | 1 => .object "OldWeather$Sum"
  | _ => .object "OldWeather$Sum"
abbrev wsX220 : List Cond := u_ws RX22 TX22 3
theorem nmX22 : ∀ a, a < 3 → ∀ b, b < 3 → a ≠ b → (TX22 a).2.1 ≠ (TX22 b).2.1 := by decide +kernel
theorem tyX22_ok : ∀ k, k < 3 → parseFieldDescriptor (TX22 k).2.2.1 = some (tyX22 k) := by decide +kernel
theorem in_X22 : ∀ w ∈ wsX220, w ∈ lw_all := lw_in wsX220 [1462, 1464, 1466] (by decide +kernel) (by decide +kernel)
/-! OldWeather$Compare -/
def RX24 : String := "OldWeather$Compare"
def TX24 : u_T := fun k => match k with
  | 0 => ("OldWeather$Compare", "sign", "C", true)
  | 1 => ("OldWeather$Compare", "left", "LOldWeather$Sum;", true)
  | _ => ("OldWeather$Compare", "right", "LOldWeather$Sum;", true)
def tyX24 : Nat → FieldType := fun k => match k with
  | 0 => .char
  | 1 => .object "OldWeather$Sum"
  | _ => .object "OldWeather$Sum"
abbrev wsX240 : List Cond := u_ws RX24 TX24 3
theorem nmX24 : ∀ a, a < 3 → ∀ b, b < 3 → a ≠ b → (TX24 a).2.1 ≠ (TX24 b).2.1 := by decide +kernel
theorem tyX24_ok : ∀ k, k < 3 → parseFieldDescriptor (TX24 k).2.2.1 = some (tyX24 k) := by decide +kernel
theorem in_X24 : ∀ w ∈ wsX240, w ∈ lw_all := lw_in wsX240 [1518, 1520, 1522] (by decide +kernel) (by decide +kernel)
/-! OldWeather$Not -/
def RX25 : String := "OldWeather$Not"
def TX25 : u_T := fun k => match k with
  | _ => ("OldWeather$Not", "of", "LOldWeather$Test;", true)
def tyX25 : Nat → FieldType := fun k => match k with
  | _ => .object "OldWeather$Test"
abbrev wsX250 : List Cond := u_ws RX25 TX25 1
theorem nmX25 : ∀ a, a < 1 → ∀ b, b < 1 → a ≠ b → (TX25 a).2.1 ≠ (TX25 b).2.1 := by decide +kernel
theorem tyX25_ok : ∀ k, k < 1 → parseFieldDescriptor (TX25 k).2.2.1 = some (tyX25 k) := by decide +kernel
theorem in_X25 : ∀ w ∈ wsX250, w ∈ lw_all := lw_in wsX250 [1532] (by decide +kernel) (by decide +kernel)
/-! OldWeather$Several -/
def RX26 : String := "OldWeather$Several"
def TX26 : u_T := fun k => match k with
  | 0 => ("OldWeather$Several", "all", "Z", true)
  | _ => ("OldWeather$Several", "of", "Ljava/util/ArrayList;", true)
def tyX26 : Nat → FieldType := fun k => match k with
  | 0 => .boolean
  | _ => .object "java/util/ArrayList"
abbrev wsX260 : List Cond := u_ws RX26 TX26 2
theorem nmX26 : ∀ a, a < 2 → ∀ b, b < 2 → a ≠ b → (TX26 a).2.1 ≠ (TX26 b).2.1 := by decide +kernel
theorem tyX26_ok : ∀ k, k < 2 → parseFieldDescriptor (TX26 k).2.2.1 = some (tyX26 k) := by decide +kernel
theorem in_X26 : ∀ w ∈ wsX260, w ∈ lw_all := lw_in wsX260 [1547, 1549] (by decide +kernel) (by decide +kernel)
/-! OldWeather$Rules -/
def RX27 : String := "OldWeather$Rules"
def TX27 : u_T := fun k => match k with
  | 0 => ("OldWeather$Rules", "place", "I", true)
  | 1 => ("OldWeather$Rules", "from", "I", true)
  | _ => ("OldWeather$Rules", "clauses", "Ljava/util/ArrayList;", true)
def tyX27 : Nat → FieldType := fun k => match k with
  | 0 => .int
  | 1 => .int
  | _ => .object "java/util/ArrayList"
abbrev wsX270 : List Cond := u_ws RX27 TX27 3
theorem nmX27 : ∀ a, a < 3 → ∀ b, b < 3 → a ≠ b → (TX27 a).2.1 ≠ (TX27 b).2.1 := by decide +kernel
theorem tyX27_ok : ∀ k, k < 3 → parseFieldDescriptor (TX27 k).2.2.1 = some (tyX27 k) := by decide +kernel
theorem in_X27 : ∀ w ∈ wsX270, w ∈ lw_all := lw_in wsX270 [1567, 1569, 1571] (by decide +kernel) (by decide +kernel)
/-! OldWeather$Note -/
def RX28 : String := "OldWeather$Note"
def TX28 : u_T := fun k => match k with
  | 0 => ("OldWeather$Note", "a", "I", true)
  | 1 => ("OldWeather$Note", "b", "I", true)
  | 2 => ("OldWeather$Note", "c", "I", true)
  | 3 => ("OldWeather$Note", "d", "I", true)
  | _ => ("OldWeather$Note", "e", "I", true)
def tyX28 : Nat → FieldType := fun k => match k with
  | 0 => .int
  | 1 => .int
  | 2 => .int
  | 3 => .int
  | _ => .int
abbrev wsX280 : List Cond := u_ws RX28 TX28 5
theorem nmX28 : ∀ a, a < 5 → ∀ b, b < 5 → a ≠ b → (TX28 a).2.1 ≠ (TX28 b).2.1 := by decide +kernel
theorem tyX28_ok : ∀ k, k < 5 → parseFieldDescriptor (TX28 k).2.2.1 = some (tyX28 k) := by decide +kernel
theorem in_X28 : ∀ w ∈ wsX280, w ∈ lw_all := lw_in wsX280 [1784, 1786, 1788, 1790, 1792] (by decide +kernel) (by decide +kernel)
/-! OldWeatherModel -/
def RX7 : String := "OldWeatherModel"
def TX7 : u_T := fun k => match k with
  | 0 => ("OldWeatherModel", "thrown", "I", false)
  | 1 => ("OldWeatherModel", "status", "I", false)
  | 2 => ("OldWeatherModel", "row", "[I", true)
  | 3 => ("OldWeatherModel", "images", "[I", true)
  | 4 => ("OldWeatherModel", "isKept", "[Z", true)
  | 5 => ("OldWeatherModel", "yearAt", "I", false)
  | 6 => ("OldWeatherModel", "monthAt", "I", false)
  | 7 => ("OldWeatherModel", "dayAt", "I", false)
  | 8 => ("OldWeatherModel", "dayMany", "I", false)
  | 9 => ("OldWeatherModel", "firstDay", "I", false)
  | 10 => ("OldWeatherModel", "secondDay", "I", false)
  | 11 => ("OldWeatherModel", "firstDays", "[I", true)
  | 12 => ("OldWeatherModel", "dayManies", "[I", true)
  | 13 => ("OldWeatherModel", "tape", "[I", true)
  | 14 => ("OldWeatherModel", "taped", "I", false)
  | 15 => ("OldWeatherModel", "from", "I", false)
  | 16 => ("OldWeatherModel", "to", "I", false)
  | 17 => ("OldWeatherModel", "sort", "I", false)
  | 18 => ("OldWeatherModel", "worth", "J", false)
  | 19 => ("OldWeatherModel", "fault", "I", false)
  | 20 => ("OldWeatherModel", "bad", "Z", false)
  | 21 => ("OldWeatherModel", "nClauses", "I", false)
  | 22 => ("OldWeatherModel", "nClause", "[I", true)
  | 23 => ("OldWeatherModel", "nCode", "I", false)
  | 24 => ("OldWeatherModel", "nOp", "[I", true)
  | 25 => ("OldWeatherModel", "nArg", "[I", true)
  | 26 => ("OldWeatherModel", "nLeaves", "I", false)
  | 27 => ("OldWeatherModel", "pile", "[I", true)
  | 28 => ("OldWeatherModel", "pileAt", "[I", true)
  | 29 => ("OldWeatherModel", "piled", "I", false)
  | 30 => ("OldWeatherModel", "opened", "I", false)
  | 31 => ("OldWeatherModel", "known", "I", false)
  | 32 => ("OldWeatherModel", "isStruck", "[Z", true)
  | 33 => ("OldWeatherModel", "isOn", "[Z", true)
  | 34 => ("OldWeatherModel", "set", "[I", true)
  | 35 => ("OldWeatherModel", "rest", "[J", true)
  | 36 => ("OldWeatherModel", "broken", "Z", false)
  | 37 => ("OldWeatherModel", "value", "J", false)
  | 38 => ("OldWeatherModel", "first", "J", false)
  | 39 => ("OldWeatherModel", "second", "J", false)
  | 40 => ("OldWeatherModel", "by", "I", false)
  | 41 => ("OldWeatherModel", "low", "I", false)
  | 42 => ("OldWeatherModel", "high", "I", false)
  | 43 => ("OldWeatherModel", "boundBy", "I", false)
  | 44 => ("OldWeatherModel", "rightDegrees", "I", false)
  | 45 => ("OldWeatherModel", "learnedMany", "[I", true)
  | 46 => ("OldWeatherModel", "learnedLeast", "[J", true)
  | 47 => ("OldWeatherModel", "learnedMost", "[J", true)
  | 48 => ("OldWeatherModel", "learnedLow", "J", false)
  | 49 => ("OldWeatherModel", "learnedHigh", "J", false)
  | 50 => ("OldWeatherModel", "pairs", "[J", true)
  | 51 => ("OldWeatherModel", "pairMany", "I", false)
  | 52 => ("OldWeatherModel", "ones", "[I", true)
  | 53 => ("OldWeatherModel", "shifts", "[I", true)
  | 54 => ("OldWeatherModel", "without", "I", false)
  | 55 => ("OldWeatherModel", "joinedMany", "I", false)
  | 56 => ("OldWeatherModel", "joinedLow", "I", false)
  | 57 => ("OldWeatherModel", "joinedHigh", "I", false)
  | 58 => ("OldWeatherModel", "joinedDegrees", "I", false)
  | 59 => ("OldWeatherModel", "joinedQuarrel", "Z", false)
  | 60 => ("OldWeatherModel", "joinedBy", "[I", true)
  | 61 => ("OldWeatherModel", "wishes", "I", false)
  | 62 => ("OldWeatherModel", "wish", "[I", true)
  | 63 => ("OldWeatherModel", "hasBest", "Z", false)
  | 64 => ("OldWeatherModel", "bestMany", "I", false)
  | 65 => ("OldWeatherModel", "bestWish", "[I", true)
  | 66 => ("OldWeatherModel", "bestChoice", "[I", true)
  | 67 => ("OldWeatherModel", "bestRivals", "I", false)
  | 68 => ("OldWeatherModel", "shiftLow", "[I", true)
  | 69 => ("OldWeatherModel", "shiftHigh", "[I", true)
  | 70 => ("OldWeatherModel", "hasShift", "[Z", true)
  | 71 => ("OldWeatherModel", "ownDay", "[I", true)
  | 72 => ("OldWeatherModel", "clashes", "[I", true)
  | 73 => ("OldWeatherModel", "choice", "[I", true)
  | 74 => ("OldWeatherModel", "winterDays", "I", false)
  | 75 => ("OldWeatherModel", "winterLow", "I", false)
  | 76 => ("OldWeatherModel", "winterHigh", "I", false)
  | 77 => ("OldWeatherModel", "widths", "[I", true)
  | 78 => ("OldWeatherModel", "planHours", "I", false)
  | 79 => ("OldWeatherModel", "planMany", "I", false)
  | 80 => ("OldWeatherModel", "sealMany", "I", false)
  | 81 => ("OldWeatherModel", "sealSum", "I", false)
  | _ => ("OldWeatherModel", "sealPlaces", "I", false)
def tyX7 : Nat → FieldType := fun k => match k with
  | 0 => .int
  | 1 => .int
  | 2 => .array .int
  | 3 => .array .int
  | 4 => .array .boolean
  | 5 => .int
  | 6 => .int
  | 7 => .int
  | 8 => .int
  | 9 => .int
  | 10 => .int
  | 11 => .array .int
  | 12 => .array .int
  | 13 => .array .int
  | 14 => .int
  | 15 => .int
  | 16 => .int
  | 17 => .int
  | 18 => .long
  | 19 => .int
  | 20 => .boolean
  | 21 => .int
  | 22 => .array .int
  | 23 => .int
  | 24 => .array .int
  | 25 => .array .int
  | 26 => .int
  | 27 => .array .int
  | 28 => .array .int
  | 29 => .int
  | 30 => .int
  | 31 => .int
  | 32 => .array .boolean
  | 33 => .array .boolean
  | 34 => .array .int
  | 35 => .array .long
  | 36 => .boolean
  | 37 => .long
  | 38 => .long
  | 39 => .long
  | 40 => .int
  | 41 => .int
  | 42 => .int
  | 43 => .int
  | 44 => .int
  | 45 => .array .int
  | 46 => .array .long
  | 47 => .array .long
  | 48 => .long
  | 49 => .long
  | 50 => .array .long
  | 51 => .int
  | 52 => .array .int
  | 53 => .array .int
  | 54 => .int
  | 55 => .int
  | 56 => .int
  | 57 => .int
  | 58 => .int
  | 59 => .boolean
  | 60 => .array .int
  | 61 => .int
  | 62 => .array .int
  | 63 => .boolean
  | 64 => .int
  | 65 => .array .int
  | 66 => .array .int
  | 67 => .int
  | 68 => .array .int
  | 69 => .array .int
  | 70 => .array .boolean
  | 71 => .array .int
  | 72 => .array .int
  | 73 => .array .int
  | 74 => .int
  | 75 => .int
  | 76 => .int
  | 77 => .array .int
  | 78 => .int
  | 79 => .int
  | 80 => .int
  | 81 => .int
  | _ => .int
abbrev wsX70 : List Cond := u_ws RX7 TX7 83
set_option maxRecDepth 100000 in
theorem nmX7 : ∀ a, a < 83 → ∀ b, b < 83 → a ≠ b → (TX7 a).2.1 ≠ (TX7 b).2.1 := by decide +kernel
set_option maxRecDepth 100000 in
theorem tyX7_ok : ∀ k, k < 83 → parseFieldDescriptor (TX7 k).2.2.1 = some (tyX7 k) := by decide +kernel
theorem in_X7 : ∀ w ∈ wsX70, w ∈ lw_all := lw_in wsX70 [2061, 2063, 2065, 2067, 2069, 2071, 2073, 2075, 2077, 2079, 2081, 2083, 2085, 2087, 2089, 2091, 2093, 2095, 2097, 2099, 2101, 2103, 2105, 2107, 2109, 2111, 2113, 2115, 2117, 2119, 2121, 2123, 2125, 2127, 2129, 2131, 2133, 2135, 2137, 2139, 2141, 2143, 2145, 2147, 2149, 2151, 2153, 2155, 2157, 2159, 2161, 2163, 2165, 2167, 2169, 2171, 2173, 2175, 2177, 2179, 2181, 2183, 2185, 2187, 2189, 2191, 2193, 2195, 2197, 2199, 2201, 2203, 2205, 2207, 2209, 2211, 2213, 2215, 2217, 2219, 2221, 2223, 2225] (by decide +kernel) (by decide +kernel)
def CL : List vw_C := [(RX0, TX0, 51), (RX1, TX1, 20), (RX2, TX2, 7), (RX3, TX3, 8), (RX5, TX5, 7), (RX6, TX6, 11), (RJ2, TJ2, 3), (RX9, TX9, 6), (RX10, TX10, 6), (RX11, TX11, 6), (RX12, TX12, 7), (RX13, TX13, 7), (RX14, TX14, 2), (RX15, TX15, 7), (RX16, TX16, 7), (RX4, TX4, 6), (RX17, TX17, 6), (RX19, TX19, 1), (RX20, TX20, 1), (RX21, TX21, 1), (RX22, TX22, 3), (RX24, TX24, 3), (RX25, TX25, 1), (RX26, TX26, 2), (RX27, TX27, 3), (RX28, TX28, 5), (RX7, TX7, 83)]
def CTY : List (List Nat) := [[0, 0, 2, 2, 2, 2, 0, 2, 0, 0, 2, 2, 2, 2, 0, 0, 0, 0, 2, 1, 1, 2, 0, 0, 0, 0, 3, 2, 1, 2, 2, 2, 2, 2, 2, 2, 2, 2, 2, 0, 0, 0, 0, 0, 0, 1, 1, 2, 1, 1, 0], [2, 2, 2, 2, 2, 2, 2, 2, 2, 2, 2, 2, 2, 2, 2, 2, 2, 2, 0, 0], [2, 2, 0, 0, 0, 0, 2], [2, 0, 0, 0, 0, 0, 0, 0], [2, 2, 2, 0, 0, 0, 2], [2, 2, 2, 2, 2, 2, 2, 2, 0, 0, 2], [0, 2, 0], [0, 0, 0, 0, 0, 0], [0, 0, 0, 0, 0, 0], [0, 0, 0, 0, 0, 0], [0, 0, 0, 0, 0, 0, 0], [0, 0, 0, 0, 0, 0, 0], [2, 0], [2, 0, 2, 0, 0, 0, 0], [2, 2, 2, 2, 2, 0, 0], [2, 2, 2, 2, 2, 0], [0, 0, 0, 2, 2, 2], [2], [0], [0], [5, 2, 2], [5, 2, 2], [2], [3, 2], [0, 0, 2], [0, 0, 0, 0, 0], [0, 0, 2, 2, 2, 0, 0, 0, 0, 0, 0, 2, 2, 2, 0, 0, 0, 0, 1, 0, 3, 0, 2, 0, 2, 2, 0, 2, 2, 0, 0, 0, 2, 2, 2, 2, 3, 1, 1, 1, 0, 0, 0, 0, 0, 2, 2, 2, 1, 1, 2, 0, 2, 2, 0, 0, 0, 0, 0, 3, 2, 0, 2, 3, 0, 2, 2, 0, 2, 2, 2, 2, 2, 2, 0, 0, 0, 2, 0, 0, 0, 0, 0]]
