-- ===== PART A: goes FIRST, ahead of the names: the tables' words, and 'selects' of the private methods out of them =====
/-- a private method of a class that the tables say can be made, by its rows of tables_1 -/
def lw_okq (q : MethodName × Nat) : Prop := (q.1.cls ≠ "java/lang/invoke/MethodHandle" ∧ q.1.cls ≠ "java/lang/invoke/VarHandle") ∧ Cond.instantiable q.1.cls q.2 ∈ tables_1 ∧ Cond.privateMethod q.1 ∈ tables_1 ∧ Cond.instanceMethod q.1 ∈ tables_1
set_option maxRecDepth 100000
theorem lw_t1 {w : Cond} (h : w ∈ tables_1_1) : w ∈ tables_1 := List.mem_append_left _ h
theorem lw_t2 {w : Cond} (h : w ∈ tables_1_2) : w ∈ tables_1 := List.mem_append_right _ (List.mem_append_left _ h)
theorem lw_t3 {w : Cond} (h : w ∈ tables_1_3) : w ∈ tables_1 := List.mem_append_right _ (List.mem_append_right _ (List.mem_append_left _ h))
theorem lw_t4 {w : Cond} (h : w ∈ tables_1_4) : w ∈ tables_1 := List.mem_append_right _ (List.mem_append_right _ (List.mem_append_right _ (List.mem_append_left _ h)))
theorem lw_t5 {w : Cond} (h : w ∈ tables_1_5) : w ∈ tables_1 := List.mem_append_right _ (List.mem_append_right _ (List.mem_append_right _ (List.mem_append_right _ (List.mem_append_left _ h))))
theorem lw_t6 {w : Cond} (h : w ∈ tables_1_6) : w ∈ tables_1 := List.mem_append_right _ (List.mem_append_right _ (List.mem_append_right _ (List.mem_append_right _ (List.mem_append_right _ (List.mem_append_left _ h)))))
theorem lw_t7 {w : Cond} (h : w ∈ tables_1_7) : w ∈ tables_1 := List.mem_append_right _ (List.mem_append_right _ (List.mem_append_right _ (List.mem_append_right _ (List.mem_append_right _ (List.mem_append_right _ (List.mem_append_left _ h))))))
theorem lw_t8 {w : Cond} (h : w ∈ tables_1_8) : w ∈ tables_1 := List.mem_append_right _ (List.mem_append_right _ (List.mem_append_right _ (List.mem_append_right _ (List.mem_append_right _ (List.mem_append_right _ (List.mem_append_right _ (List.mem_append_left _ h)))))))
theorem lw_t9 {w : Cond} (h : w ∈ tables_1_9) : w ∈ tables_1 := List.mem_append_right _ (List.mem_append_right _ (List.mem_append_right _ (List.mem_append_right _ (List.mem_append_right _ (List.mem_append_right _ (List.mem_append_right _ (List.mem_append_right _ (List.mem_append_left _ h))))))))
theorem lw_t10 {w : Cond} (h : w ∈ tables_1_10) : w ∈ tables_1 := List.mem_append_right _ (List.mem_append_right _ (List.mem_append_right _ (List.mem_append_right _ (List.mem_append_right _ (List.mem_append_right _ (List.mem_append_right _ (List.mem_append_right _ (List.mem_append_right _ h))))))))
theorem lw_p0 : lw_okq (⟨"ValleyGuides", "isPlace", "(I)Z"⟩, 42) := ⟨⟨by decide +kernel, by decide +kernel⟩, lw_t1 (List.mem_of_getElem? (i := 64) rfl), lw_t1 (List.mem_of_getElem? (i := 62) rfl), lw_t1 (List.mem_of_getElem? (i := 63) rfl)⟩
theorem lw_p1 : lw_okq (⟨"ValleyGuides", "isStep", "(I)Z"⟩, 42) := ⟨⟨by decide +kernel, by decide +kernel⟩, lw_t1 (List.mem_of_getElem? (i := 64) rfl), lw_t1 (List.mem_of_getElem? (i := 168) rfl), lw_t1 (List.mem_of_getElem? (i := 169) rfl)⟩
theorem lw_p2 : lw_okq (⟨"java/util/ArrayList", "add", "(Ljava/lang/Object;[Ljava/lang/Object;I)V"⟩, 3) := ⟨⟨by decide +kernel, by decide +kernel⟩, lw_t1 (List.mem_of_getElem? (i := 204) rfl), lw_t2 (List.mem_of_getElem? (i := 5) rfl), lw_t2 (List.mem_of_getElem? (i := 6) rfl)⟩
theorem lw_p3 : lw_okq (⟨"java/util/ArrayList", "grow", "()[Ljava/lang/Object;"⟩, 3) := ⟨⟨by decide +kernel, by decide +kernel⟩, lw_t1 (List.mem_of_getElem? (i := 204) rfl), lw_t2 (List.mem_of_getElem? (i := 9) rfl), lw_t2 (List.mem_of_getElem? (i := 10) rfl)⟩
theorem lw_p4 : lw_okq (⟨"java/util/ArrayList", "grow", "(I)[Ljava/lang/Object;"⟩, 3) := ⟨⟨by decide +kernel, by decide +kernel⟩, lw_t1 (List.mem_of_getElem? (i := 204) rfl), lw_t2 (List.mem_of_getElem? (i := 13) rfl), lw_t2 (List.mem_of_getElem? (i := 14) rfl)⟩
theorem lw_p5 : lw_okq (⟨"ValleyGuides", "isRoute", "(I)Z"⟩, 42) := ⟨⟨by decide +kernel, by decide +kernel⟩, lw_t1 (List.mem_of_getElem? (i := 64) rfl), lw_t2 (List.mem_of_getElem? (i := 79) rfl), lw_t2 (List.mem_of_getElem? (i := 80) rfl)⟩
theorem lw_p6 : lw_okq (⟨"ValleyGuides", "numberOf", "(LValleyGuides$Step;)I"⟩, 42) := ⟨⟨by decide +kernel, by decide +kernel⟩, lw_t1 (List.mem_of_getElem? (i := 64) rfl), lw_t2 (List.mem_of_getElem? (i := 143) rfl), lw_t2 (List.mem_of_getElem? (i := 144) rfl)⟩
theorem lw_p7 : lw_okq (⟨"java/lang/NullPointerException", "getExtendedNPEMessage", "()Ljava/lang/String;"⟩, 8) := ⟨⟨by decide +kernel, by decide +kernel⟩, lw_t3 (List.mem_of_getElem? (i := 131) rfl), lw_t3 (List.mem_of_getElem? (i := 129) rfl), lw_t3 (List.mem_of_getElem? (i := 130) rfl)⟩
theorem lw_p8 : lw_okq (⟨"java/lang/Throwable", "fillInStackTrace", "(I)Ljava/lang/Throwable;"⟩, 6) := ⟨⟨by decide +kernel, by decide +kernel⟩, lw_t3 (List.mem_of_getElem? (i := 143) rfl), lw_t3 (List.mem_of_getElem? (i := 141) rfl), lw_t3 (List.mem_of_getElem? (i := 142) rfl)⟩
theorem lw_p9 : lw_okq (⟨"ValleyGuides", "look", "(I)V"⟩, 42) := ⟨⟨by decide +kernel, by decide +kernel⟩, lw_t1 (List.mem_of_getElem? (i := 64) rfl), lw_t4 (List.mem_of_getElem? (i := 16) rfl), lw_t4 (List.mem_of_getElem? (i := 17) rfl)⟩
theorem lw_p10 : lw_okq (⟨"ValleyGuides", "read", "(II)I"⟩, 42) := ⟨⟨by decide +kernel, by decide +kernel⟩, lw_t1 (List.mem_of_getElem? (i := 64) rfl), lw_t4 (List.mem_of_getElem? (i := 34) rfl), lw_t4 (List.mem_of_getElem? (i := 35) rfl)⟩
theorem lw_p11 : lw_okq (⟨"ValleyGuides", "lookAll", "()V"⟩, 42) := ⟨⟨by decide +kernel, by decide +kernel⟩, lw_t1 (List.mem_of_getElem? (i := 64) rfl), lw_t4 (List.mem_of_getElem? (i := 76) rfl), lw_t4 (List.mem_of_getElem? (i := 77) rfl)⟩
theorem lw_p12 : lw_okq (⟨"ValleyGuides", "takesOf", "(LValleyGuides$Step;II)I"⟩, 42) := ⟨⟨by decide +kernel, by decide +kernel⟩, lw_t1 (List.mem_of_getElem? (i := 64) rfl), lw_t4 (List.mem_of_getElem? (i := 80) rfl), lw_t4 (List.mem_of_getElem? (i := 81) rfl)⟩
theorem lw_p13 : lw_okq (⟨"ValleyGuides", "hourOf", "(LValleyGuides$Route;II)I"⟩, 42) := ⟨⟨by decide +kernel, by decide +kernel⟩, lw_t1 (List.mem_of_getElem? (i := 64) rfl), lw_t4 (List.mem_of_getElem? (i := 110) rfl), lw_t4 (List.mem_of_getElem? (i := 111) rfl)⟩
theorem lw_p14 : lw_okq (⟨"ValleyGuides", "spread", "(III)V"⟩, 42) := ⟨⟨by decide +kernel, by decide +kernel⟩, lw_t1 (List.mem_of_getElem? (i := 64) rfl), lw_t4 (List.mem_of_getElem? (i := 122) rfl), lw_t4 (List.mem_of_getElem? (i := 123) rfl)⟩
theorem lw_p15 : lw_okq (⟨"ValleyGuides$Reader", "next", "()V"⟩, 6) := ⟨⟨by decide +kernel, by decide +kernel⟩, lw_t4 (List.mem_of_getElem? (i := 140) rfl), lw_t4 (List.mem_of_getElem? (i := 146) rfl), lw_t4 (List.mem_of_getElem? (i := 147) rfl)⟩
def lw_privs_1 : List (MethodName × Nat) := [(⟨"ValleyGuides", "isPlace", "(I)Z"⟩, 42), (⟨"ValleyGuides", "isStep", "(I)Z"⟩, 42), (⟨"java/util/ArrayList", "add", "(Ljava/lang/Object;[Ljava/lang/Object;I)V"⟩, 3), (⟨"java/util/ArrayList", "grow", "()[Ljava/lang/Object;"⟩, 3), (⟨"java/util/ArrayList", "grow", "(I)[Ljava/lang/Object;"⟩, 3), (⟨"ValleyGuides", "isRoute", "(I)Z"⟩, 42), (⟨"ValleyGuides", "numberOf", "(LValleyGuides$Step;)I"⟩, 42), (⟨"java/lang/NullPointerException", "getExtendedNPEMessage", "()Ljava/lang/String;"⟩, 8), (⟨"java/lang/Throwable", "fillInStackTrace", "(I)Ljava/lang/Throwable;"⟩, 6), (⟨"ValleyGuides", "look", "(I)V"⟩, 42), (⟨"ValleyGuides", "read", "(II)I"⟩, 42), (⟨"ValleyGuides", "lookAll", "()V"⟩, 42), (⟨"ValleyGuides", "takesOf", "(LValleyGuides$Step;II)I"⟩, 42), (⟨"ValleyGuides", "hourOf", "(LValleyGuides$Route;II)I"⟩, 42), (⟨"ValleyGuides", "spread", "(III)V"⟩, 42), (⟨"ValleyGuides$Reader", "next", "()V"⟩, 6)]
theorem lw_r1 : ∀ q ∈ lw_privs_1, lw_okq q := List.forall_mem_cons.mpr ⟨lw_p0, List.forall_mem_cons.mpr ⟨lw_p1, List.forall_mem_cons.mpr ⟨lw_p2, List.forall_mem_cons.mpr ⟨lw_p3, List.forall_mem_cons.mpr ⟨lw_p4, List.forall_mem_cons.mpr ⟨lw_p5, List.forall_mem_cons.mpr ⟨lw_p6, List.forall_mem_cons.mpr ⟨lw_p7, List.forall_mem_cons.mpr ⟨lw_p8, List.forall_mem_cons.mpr ⟨lw_p9, List.forall_mem_cons.mpr ⟨lw_p10, List.forall_mem_cons.mpr ⟨lw_p11, List.forall_mem_cons.mpr ⟨lw_p12, List.forall_mem_cons.mpr ⟨lw_p13, List.forall_mem_cons.mpr ⟨lw_p14, List.forall_mem_cons.mpr ⟨lw_p15, fun _ h => absurd h List.not_mem_nil⟩⟩⟩⟩⟩⟩⟩⟩⟩⟩⟩⟩⟩⟩⟩⟩
theorem lw_p16 : lw_okq (⟨"ValleyGuides$Reader", "at", "(I)I"⟩, 6) := ⟨⟨by decide +kernel, by decide +kernel⟩, lw_t4 (List.mem_of_getElem? (i := 140) rfl), lw_t4 (List.mem_of_getElem? (i := 150) rfl), lw_t4 (List.mem_of_getElem? (i := 151) rfl)⟩
theorem lw_p17 : lw_okq (⟨"ValleyGuides$Reader", "isWord", "(Ljava/lang/String;)Z"⟩, 6) := ⟨⟨by decide +kernel, by decide +kernel⟩, lw_t4 (List.mem_of_getElem? (i := 140) rfl), lw_t4 (List.mem_of_getElem? (i := 159) rfl), lw_t4 (List.mem_of_getElem? (i := 160) rfl)⟩
theorem lw_p18 : lw_okq (⟨"ValleyGuides$Reader", "must", "(ZI)V"⟩, 6) := ⟨⟨by decide +kernel, by decide +kernel⟩, lw_t4 (List.mem_of_getElem? (i := 140) rfl), lw_t4 (List.mem_of_getElem? (i := 209) rfl), lw_t4 (List.mem_of_getElem? (i := 210) rfl)⟩
theorem lw_p19 : lw_okq (⟨"ValleyGuides$Reader", "test", "()LValleyGuides$Part;"⟩, 6) := ⟨⟨by decide +kernel, by decide +kernel⟩, lw_t4 (List.mem_of_getElem? (i := 140) rfl), lw_t5 (List.mem_of_getElem? (i := 35) rfl), lw_t5 (List.mem_of_getElem? (i := 36) rfl)⟩
theorem lw_p20 : lw_okq (⟨"ValleyGuides$Reader", "conjunction", "()LValleyGuides$Part;"⟩, 6) := ⟨⟨by decide +kernel, by decide +kernel⟩, lw_t4 (List.mem_of_getElem? (i := 140) rfl), lw_t5 (List.mem_of_getElem? (i := 39) rfl), lw_t5 (List.mem_of_getElem? (i := 40) rfl)⟩
theorem lw_p21 : lw_okq (⟨"ValleyGuides$Reader", "one", "()LValleyGuides$Part;"⟩, 6) := ⟨⟨by decide +kernel, by decide +kernel⟩, lw_t4 (List.mem_of_getElem? (i := 140) rfl), lw_t5 (List.mem_of_getElem? (i := 43) rfl), lw_t5 (List.mem_of_getElem? (i := 44) rfl)⟩
theorem lw_p22 : lw_okq (⟨"ValleyGuides$Reader", "isName", "(I)Z"⟩, 6) := ⟨⟨by decide +kernel, by decide +kernel⟩, lw_t4 (List.mem_of_getElem? (i := 140) rfl), lw_t5 (List.mem_of_getElem? (i := 47) rfl), lw_t5 (List.mem_of_getElem? (i := 48) rfl)⟩
theorem lw_p23 : lw_okq (⟨"ValleyGuides$Reader", "sum", "()LValleyGuides$Part;"⟩, 6) := ⟨⟨by decide +kernel, by decide +kernel⟩, lw_t4 (List.mem_of_getElem? (i := 140) rfl), lw_t5 (List.mem_of_getElem? (i := 51) rfl), lw_t5 (List.mem_of_getElem? (i := 52) rfl)⟩
theorem lw_p24 : lw_okq (⟨"ValleyGuides$Reader", "product", "()LValleyGuides$Part;"⟩, 6) := ⟨⟨by decide +kernel, by decide +kernel⟩, lw_t4 (List.mem_of_getElem? (i := 140) rfl), lw_t5 (List.mem_of_getElem? (i := 55) rfl), lw_t5 (List.mem_of_getElem? (i := 56) rfl)⟩
theorem lw_p25 : lw_okq (⟨"ValleyGuides$Reader", "value", "()LValleyGuides$Part;"⟩, 6) := ⟨⟨by decide +kernel, by decide +kernel⟩, lw_t4 (List.mem_of_getElem? (i := 140) rfl), lw_t5 (List.mem_of_getElem? (i := 59) rfl), lw_t5 (List.mem_of_getElem? (i := 60) rfl)⟩
theorem lw_p26 : lw_okq (⟨"ValleyGuides$Reader", "isSign", "(I)Z"⟩, 6) := ⟨⟨by decide +kernel, by decide +kernel⟩, lw_t4 (List.mem_of_getElem? (i := 140) rfl), lw_t5 (List.mem_of_getElem? (i := 86) rfl), lw_t5 (List.mem_of_getElem? (i := 87) rfl)⟩
theorem lw_p27 : lw_okq (⟨"ValleyGuides", "isAsked", "(III)Z"⟩, 42) := ⟨⟨by decide +kernel, by decide +kernel⟩, lw_t1 (List.mem_of_getElem? (i := 64) rfl), lw_t5 (List.mem_of_getElem? (i := 184) rfl), lw_t5 (List.mem_of_getElem? (i := 185) rfl)⟩
theorem lw_p28 : lw_okq (⟨"ValleyGuides", "ask", "(III)V"⟩, 42) := ⟨⟨by decide +kernel, by decide +kernel⟩, lw_t1 (List.mem_of_getElem? (i := 64) rfl), lw_t5 (List.mem_of_getElem? (i := 188) rfl), lw_t5 (List.mem_of_getElem? (i := 189) rfl)⟩
theorem lw_p29 : lw_okq (⟨"ValleyGuides", "layVars", "(LValleyGuides$Route;II)V"⟩, 42) := ⟨⟨by decide +kernel, by decide +kernel⟩, lw_t1 (List.mem_of_getElem? (i := 64) rfl), lw_t5 (List.mem_of_getElem? (i := 192) rfl), lw_t5 (List.mem_of_getElem? (i := 193) rfl)⟩
theorem lw_p30 : lw_okq (⟨"ValleyGuides", "first", "(I)I"⟩, 42) := ⟨⟨by decide +kernel, by decide +kernel⟩, lw_t1 (List.mem_of_getElem? (i := 64) rfl), lw_t5 (List.mem_of_getElem? (i := 196) rfl), lw_t5 (List.mem_of_getElem? (i := 197) rfl)⟩
theorem lw_p31 : lw_okq (⟨"ValleyGuides", "paid", "()I"⟩, 42) := ⟨⟨by decide +kernel, by decide +kernel⟩, lw_t1 (List.mem_of_getElem? (i := 64) rfl), lw_t6 (List.mem_of_getElem? (i := 14) rfl), lw_t6 (List.mem_of_getElem? (i := 15) rfl)⟩
def lw_privs_2 : List (MethodName × Nat) := [(⟨"ValleyGuides$Reader", "at", "(I)I"⟩, 6), (⟨"ValleyGuides$Reader", "isWord", "(Ljava/lang/String;)Z"⟩, 6), (⟨"ValleyGuides$Reader", "must", "(ZI)V"⟩, 6), (⟨"ValleyGuides$Reader", "test", "()LValleyGuides$Part;"⟩, 6), (⟨"ValleyGuides$Reader", "conjunction", "()LValleyGuides$Part;"⟩, 6), (⟨"ValleyGuides$Reader", "one", "()LValleyGuides$Part;"⟩, 6), (⟨"ValleyGuides$Reader", "isName", "(I)Z"⟩, 6), (⟨"ValleyGuides$Reader", "sum", "()LValleyGuides$Part;"⟩, 6), (⟨"ValleyGuides$Reader", "product", "()LValleyGuides$Part;"⟩, 6), (⟨"ValleyGuides$Reader", "value", "()LValleyGuides$Part;"⟩, 6), (⟨"ValleyGuides$Reader", "isSign", "(I)Z"⟩, 6), (⟨"ValleyGuides", "isAsked", "(III)Z"⟩, 42), (⟨"ValleyGuides", "ask", "(III)V"⟩, 42), (⟨"ValleyGuides", "layVars", "(LValleyGuides$Route;II)V"⟩, 42), (⟨"ValleyGuides", "first", "(I)I"⟩, 42), (⟨"ValleyGuides", "paid", "()I"⟩, 42)]
theorem lw_r2 : ∀ q ∈ lw_privs_2, lw_okq q := List.forall_mem_cons.mpr ⟨lw_p16, List.forall_mem_cons.mpr ⟨lw_p17, List.forall_mem_cons.mpr ⟨lw_p18, List.forall_mem_cons.mpr ⟨lw_p19, List.forall_mem_cons.mpr ⟨lw_p20, List.forall_mem_cons.mpr ⟨lw_p21, List.forall_mem_cons.mpr ⟨lw_p22, List.forall_mem_cons.mpr ⟨lw_p23, List.forall_mem_cons.mpr ⟨lw_p24, List.forall_mem_cons.mpr ⟨lw_p25, List.forall_mem_cons.mpr ⟨lw_p26, List.forall_mem_cons.mpr ⟨lw_p27, List.forall_mem_cons.mpr ⟨lw_p28, List.forall_mem_cons.mpr ⟨lw_p29, List.forall_mem_cons.mpr ⟨lw_p30, List.forall_mem_cons.mpr ⟨lw_p31, fun _ h => absurd h List.not_mem_nil⟩⟩⟩⟩⟩⟩⟩⟩⟩⟩⟩⟩⟩⟩⟩⟩
theorem lw_p32 : lw_okq (⟨"ValleyGuides", "wanted", "()I"⟩, 42) := ⟨⟨by decide +kernel, by decide +kernel⟩, lw_t1 (List.mem_of_getElem? (i := 64) rfl), lw_t6 (List.mem_of_getElem? (i := 22) rfl), lw_t6 (List.mem_of_getElem? (i := 23) rfl)⟩
theorem lw_p33 : lw_okq (⟨"ValleyGuides", "isGuide", "(I)Z"⟩, 42) := ⟨⟨by decide +kernel, by decide +kernel⟩, lw_t1 (List.mem_of_getElem? (i := 64) rfl), lw_t6 (List.mem_of_getElem? (i := 66) rfl), lw_t6 (List.mem_of_getElem? (i := 67) rfl)⟩
theorem lw_p34 : lw_okq (⟨"ValleyGuides", "take", "(I)I"⟩, 42) := ⟨⟨by decide +kernel, by decide +kernel⟩, lw_t1 (List.mem_of_getElem? (i := 64) rfl), lw_t6 (List.mem_of_getElem? (i := 137) rfl), lw_t6 (List.mem_of_getElem? (i := 138) rfl)⟩
theorem lw_p35 : lw_okq (⟨"java/util/ArrayList", "fastRemove", "([Ljava/lang/Object;I)V"⟩, 3) := ⟨⟨by decide +kernel, by decide +kernel⟩, lw_t1 (List.mem_of_getElem? (i := 204) rfl), lw_t6 (List.mem_of_getElem? (i := 154) rfl), lw_t6 (List.mem_of_getElem? (i := 155) rfl)⟩
theorem lw_p36 : lw_okq (⟨"ValleyGuides", "isPerson", "(I)Z"⟩, 42) := ⟨⟨by decide +kernel, by decide +kernel⟩, lw_t1 (List.mem_of_getElem? (i := 64) rfl), lw_t6 (List.mem_of_getElem? (i := 167) rfl), lw_t6 (List.mem_of_getElem? (i := 168) rfl)⟩
theorem lw_p37 : lw_okq (⟨"ValleyGuides", "layRopes", "(I)V"⟩, 42) := ⟨⟨by decide +kernel, by decide +kernel⟩, lw_t1 (List.mem_of_getElem? (i := 64) rfl), lw_t6 (List.mem_of_getElem? (i := 177) rfl), lw_t6 (List.mem_of_getElem? (i := 178) rfl)⟩
theorem lw_p38 : lw_okq (⟨"ValleyGuides", "canRope", "(III)Z"⟩, 42) := ⟨⟨by decide +kernel, by decide +kernel⟩, lw_t1 (List.mem_of_getElem? (i := 64) rfl), lw_t6 (List.mem_of_getElem? (i := 182) rfl), lw_t6 (List.mem_of_getElem? (i := 183) rfl)⟩
theorem lw_p39 : lw_okq (⟨"ValleyGuides", "strengthOf", "(I)I"⟩, 42) := ⟨⟨by decide +kernel, by decide +kernel⟩, lw_t1 (List.mem_of_getElem? (i := 64) rfl), lw_t6 (List.mem_of_getElem? (i := 195) rfl), lw_t6 (List.mem_of_getElem? (i := 196) rfl)⟩
theorem lw_p40 : lw_okq (⟨"ValleyGuides", "worthOf", "(I)I"⟩, 42) := ⟨⟨by decide +kernel, by decide +kernel⟩, lw_t1 (List.mem_of_getElem? (i := 64) rfl), lw_t6 (List.mem_of_getElem? (i := 199) rfl), lw_t6 (List.mem_of_getElem? (i := 200) rfl)⟩
theorem lw_p41 : lw_okq (⟨"ValleyGuides", "isRope", "(I)Z"⟩, 42) := ⟨⟨by decide +kernel, by decide +kernel⟩, lw_t1 (List.mem_of_getElem? (i := 64) rfl), lw_t7 (List.mem_of_getElem? (i := 36) rfl), lw_t7 (List.mem_of_getElem? (i := 37) rfl)⟩
theorem lw_p42 : lw_okq (⟨"ValleyGuides", "play", "()V"⟩, 42) := ⟨⟨by decide +kernel, by decide +kernel⟩, lw_t1 (List.mem_of_getElem? (i := 64) rfl), lw_t7 (List.mem_of_getElem? (i := 40) rfl), lw_t7 (List.mem_of_getElem? (i := 41) rfl)⟩
theorem lw_p43 : lw_okq (⟨"ValleyGuides", "arrive", "(I)V"⟩, 42) := ⟨⟨by decide +kernel, by decide +kernel⟩, lw_t1 (List.mem_of_getElem? (i := 64) rfl), lw_t7 (List.mem_of_getElem? (i := 49) rfl), lw_t7 (List.mem_of_getElem? (i := 50) rfl)⟩
theorem lw_p44 : lw_okq (⟨"ValleyGuides", "decide", "(LValleyGuides$Rope;I)V"⟩, 42) := ⟨⟨by decide +kernel, by decide +kernel⟩, lw_t1 (List.mem_of_getElem? (i := 64) rfl), lw_t7 (List.mem_of_getElem? (i := 57) rfl), lw_t7 (List.mem_of_getElem? (i := 58) rfl)⟩
theorem lw_p45 : lw_okq (⟨"ValleyGuides", "finish", "(LValleyGuides$Rope;I)V"⟩, 42) := ⟨⟨by decide +kernel, by decide +kernel⟩, lw_t1 (List.mem_of_getElem? (i := 64) rfl), lw_t7 (List.mem_of_getElem? (i := 61) rfl), lw_t7 (List.mem_of_getElem? (i := 62) rfl)⟩
theorem lw_p46 : lw_okq (⟨"ValleyGuides", "isTaken", "(LValleyGuides$Step;)Z"⟩, 42) := ⟨⟨by decide +kernel, by decide +kernel⟩, lw_t1 (List.mem_of_getElem? (i := 64) rfl), lw_t7 (List.mem_of_getElem? (i := 65) rfl), lw_t7 (List.mem_of_getElem? (i := 66) rfl)⟩
theorem lw_p47 : lw_okq (⟨"ValleyGuides", "layPieces", "()V"⟩, 42) := ⟨⟨by decide +kernel, by decide +kernel⟩, lw_t1 (List.mem_of_getElem? (i := 64) rfl), lw_t7 (List.mem_of_getElem? (i := 91) rfl), lw_t7 (List.mem_of_getElem? (i := 92) rfl)⟩
def lw_privs_3 : List (MethodName × Nat) := [(⟨"ValleyGuides", "wanted", "()I"⟩, 42), (⟨"ValleyGuides", "isGuide", "(I)Z"⟩, 42), (⟨"ValleyGuides", "take", "(I)I"⟩, 42), (⟨"java/util/ArrayList", "fastRemove", "([Ljava/lang/Object;I)V"⟩, 3), (⟨"ValleyGuides", "isPerson", "(I)Z"⟩, 42), (⟨"ValleyGuides", "layRopes", "(I)V"⟩, 42), (⟨"ValleyGuides", "canRope", "(III)Z"⟩, 42), (⟨"ValleyGuides", "strengthOf", "(I)I"⟩, 42), (⟨"ValleyGuides", "worthOf", "(I)I"⟩, 42), (⟨"ValleyGuides", "isRope", "(I)Z"⟩, 42), (⟨"ValleyGuides", "play", "()V"⟩, 42), (⟨"ValleyGuides", "arrive", "(I)V"⟩, 42), (⟨"ValleyGuides", "decide", "(LValleyGuides$Rope;I)V"⟩, 42), (⟨"ValleyGuides", "finish", "(LValleyGuides$Rope;I)V"⟩, 42), (⟨"ValleyGuides", "isTaken", "(LValleyGuides$Step;)Z"⟩, 42), (⟨"ValleyGuides", "layPieces", "()V"⟩, 42)]
theorem lw_r3 : ∀ q ∈ lw_privs_3, lw_okq q := List.forall_mem_cons.mpr ⟨lw_p32, List.forall_mem_cons.mpr ⟨lw_p33, List.forall_mem_cons.mpr ⟨lw_p34, List.forall_mem_cons.mpr ⟨lw_p35, List.forall_mem_cons.mpr ⟨lw_p36, List.forall_mem_cons.mpr ⟨lw_p37, List.forall_mem_cons.mpr ⟨lw_p38, List.forall_mem_cons.mpr ⟨lw_p39, List.forall_mem_cons.mpr ⟨lw_p40, List.forall_mem_cons.mpr ⟨lw_p41, List.forall_mem_cons.mpr ⟨lw_p42, List.forall_mem_cons.mpr ⟨lw_p43, List.forall_mem_cons.mpr ⟨lw_p44, List.forall_mem_cons.mpr ⟨lw_p45, List.forall_mem_cons.mpr ⟨lw_p46, List.forall_mem_cons.mpr ⟨lw_p47, fun _ h => absurd h List.not_mem_nil⟩⟩⟩⟩⟩⟩⟩⟩⟩⟩⟩⟩⟩⟩⟩⟩
theorem lw_p48 : lw_okq (⟨"ValleyGuides", "solve", "(I)V"⟩, 42) := ⟨⟨by decide +kernel, by decide +kernel⟩, lw_t1 (List.mem_of_getElem? (i := 64) rfl), lw_t7 (List.mem_of_getElem? (i := 96) rfl), lw_t7 (List.mem_of_getElem? (i := 97) rfl)⟩
theorem lw_p49 : lw_okq (⟨"ValleyGuides", "part", "(I)J"⟩, 42) := ⟨⟨by decide +kernel, by decide +kernel⟩, lw_t1 (List.mem_of_getElem? (i := 64) rfl), lw_t7 (List.mem_of_getElem? (i := 101) rfl), lw_t7 (List.mem_of_getElem? (i := 102) rfl)⟩
theorem lw_p50 : lw_okq (⟨"ValleyGuidesModel", "isPlace", "(I)Z"⟩, 90) := ⟨⟨by decide +kernel, by decide +kernel⟩, lw_t7 (List.mem_of_getElem? (i := 151) rfl), lw_t8 (List.mem_of_getElem? (i := 200) rfl), lw_t8 (List.mem_of_getElem? (i := 201) rfl)⟩
theorem lw_p51 : lw_okq (⟨"ValleyGuidesModel", "isStep", "(I)Z"⟩, 90) := ⟨⟨by decide +kernel, by decide +kernel⟩, lw_t7 (List.mem_of_getElem? (i := 151) rfl), lw_t8 (List.mem_of_getElem? (i := 210) rfl), lw_t8 (List.mem_of_getElem? (i := 211) rfl)⟩
theorem lw_p52 : lw_okq (⟨"ValleyGuidesModel", "isRoute", "(I)Z"⟩, 90) := ⟨⟨by decide +kernel, by decide +kernel⟩, lw_t7 (List.mem_of_getElem? (i := 151) rfl), lw_t8 (List.mem_of_getElem? (i := 222) rfl), lw_t8 (List.mem_of_getElem? (i := 223) rfl)⟩
theorem lw_p53 : lw_okq (⟨"ValleyGuidesModel", "endOf", "(I)I"⟩, 90) := ⟨⟨by decide +kernel, by decide +kernel⟩, lw_t7 (List.mem_of_getElem? (i := 151) rfl), lw_t8 (List.mem_of_getElem? (i := 226) rfl), lw_t8 (List.mem_of_getElem? (i := 227) rfl)⟩
theorem lw_p54 : lw_okq (⟨"ValleyGuidesModel", "stepAt", "(II)I"⟩, 90) := ⟨⟨by decide +kernel, by decide +kernel⟩, lw_t7 (List.mem_of_getElem? (i := 151) rfl), lw_t8 (List.mem_of_getElem? (i := 230) rfl), lw_t8 (List.mem_of_getElem? (i := 231) rfl)⟩
theorem lw_p55 : lw_okq (⟨"ValleyGuidesModel", "greatestHard", "(I)I"⟩, 90) := ⟨⟨by decide +kernel, by decide +kernel⟩, lw_t7 (List.mem_of_getElem? (i := 151) rfl), lw_t8 (List.mem_of_getElem? (i := 239) rfl), lw_t9 (List.mem_of_getElem? (i := 0) rfl)⟩
theorem lw_p56 : lw_okq (⟨"ValleyGuidesModel", "sumHard", "(I)I"⟩, 90) := ⟨⟨by decide +kernel, by decide +kernel⟩, lw_t7 (List.mem_of_getElem? (i := 151) rfl), lw_t9 (List.mem_of_getElem? (i := 3) rfl), lw_t9 (List.mem_of_getElem? (i := 4) rfl)⟩
theorem lw_p57 : lw_okq (⟨"ValleyGuidesModel", "sumLength", "(I)I"⟩, 90) := ⟨⟨by decide +kernel, by decide +kernel⟩, lw_t7 (List.mem_of_getElem? (i := 151) rfl), lw_t9 (List.mem_of_getElem? (i := 7) rfl), lw_t9 (List.mem_of_getElem? (i := 8) rfl)⟩
theorem lw_p58 : lw_okq (⟨"ValleyGuidesModel", "weatherOf", "(II)I"⟩, 90) := ⟨⟨by decide +kernel, by decide +kernel⟩, lw_t7 (List.mem_of_getElem? (i := 151) rfl), lw_t9 (List.mem_of_getElem? (i := 30) rfl), lw_t9 (List.mem_of_getElem? (i := 31) rfl)⟩
theorem lw_p59 : lw_okq (⟨"ValleyGuidesModel", "faultOf", "(II)I"⟩, 90) := ⟨⟨by decide +kernel, by decide +kernel⟩, lw_t7 (List.mem_of_getElem? (i := 151) rfl), lw_t9 (List.mem_of_getElem? (i := 34) rfl), lw_t9 (List.mem_of_getElem? (i := 35) rfl)⟩
theorem lw_p60 : lw_okq (⟨"ValleyGuidesModel", "takesOf", "(III)I"⟩, 90) := ⟨⟨by decide +kernel, by decide +kernel⟩, lw_t7 (List.mem_of_getElem? (i := 151) rfl), lw_t9 (List.mem_of_getElem? (i := 50) rfl), lw_t9 (List.mem_of_getElem? (i := 51) rfl)⟩
theorem lw_p61 : lw_okq (⟨"ValleyGuidesModel", "hourOf", "(III)I"⟩, 90) := ⟨⟨by decide +kernel, by decide +kernel⟩, lw_t7 (List.mem_of_getElem? (i := 151) rfl), lw_t9 (List.mem_of_getElem? (i := 58) rfl), lw_t9 (List.mem_of_getElem? (i := 59) rfl)⟩
theorem lw_p62 : lw_okq (⟨"ValleyGuidesModel", "wayOf", "(IIII)I"⟩, 90) := ⟨⟨by decide +kernel, by decide +kernel⟩, lw_t7 (List.mem_of_getElem? (i := 151) rfl), lw_t9 (List.mem_of_getElem? (i := 70) rfl), lw_t9 (List.mem_of_getElem? (i := 71) rfl)⟩
theorem lw_p63 : lw_okq (⟨"ValleyGuidesModel", "isGuide", "(I)Z"⟩, 90) := ⟨⟨by decide +kernel, by decide +kernel⟩, lw_t7 (List.mem_of_getElem? (i := 151) rfl), lw_t9 (List.mem_of_getElem? (i := 83) rfl), lw_t9 (List.mem_of_getElem? (i := 84) rfl)⟩
def lw_privs_4 : List (MethodName × Nat) := [(⟨"ValleyGuides", "solve", "(I)V"⟩, 42), (⟨"ValleyGuides", "part", "(I)J"⟩, 42), (⟨"ValleyGuidesModel", "isPlace", "(I)Z"⟩, 90), (⟨"ValleyGuidesModel", "isStep", "(I)Z"⟩, 90), (⟨"ValleyGuidesModel", "isRoute", "(I)Z"⟩, 90), (⟨"ValleyGuidesModel", "endOf", "(I)I"⟩, 90), (⟨"ValleyGuidesModel", "stepAt", "(II)I"⟩, 90), (⟨"ValleyGuidesModel", "greatestHard", "(I)I"⟩, 90), (⟨"ValleyGuidesModel", "sumHard", "(I)I"⟩, 90), (⟨"ValleyGuidesModel", "sumLength", "(I)I"⟩, 90), (⟨"ValleyGuidesModel", "weatherOf", "(II)I"⟩, 90), (⟨"ValleyGuidesModel", "faultOf", "(II)I"⟩, 90), (⟨"ValleyGuidesModel", "takesOf", "(III)I"⟩, 90), (⟨"ValleyGuidesModel", "hourOf", "(III)I"⟩, 90), (⟨"ValleyGuidesModel", "wayOf", "(IIII)I"⟩, 90), (⟨"ValleyGuidesModel", "isGuide", "(I)Z"⟩, 90)]
theorem lw_r4 : ∀ q ∈ lw_privs_4, lw_okq q := List.forall_mem_cons.mpr ⟨lw_p48, List.forall_mem_cons.mpr ⟨lw_p49, List.forall_mem_cons.mpr ⟨lw_p50, List.forall_mem_cons.mpr ⟨lw_p51, List.forall_mem_cons.mpr ⟨lw_p52, List.forall_mem_cons.mpr ⟨lw_p53, List.forall_mem_cons.mpr ⟨lw_p54, List.forall_mem_cons.mpr ⟨lw_p55, List.forall_mem_cons.mpr ⟨lw_p56, List.forall_mem_cons.mpr ⟨lw_p57, List.forall_mem_cons.mpr ⟨lw_p58, List.forall_mem_cons.mpr ⟨lw_p59, List.forall_mem_cons.mpr ⟨lw_p60, List.forall_mem_cons.mpr ⟨lw_p61, List.forall_mem_cons.mpr ⟨lw_p62, List.forall_mem_cons.mpr ⟨lw_p63, fun _ h => absurd h List.not_mem_nil⟩⟩⟩⟩⟩⟩⟩⟩⟩⟩⟩⟩⟩⟩⟩⟩
theorem lw_p64 : lw_okq (⟨"ValleyGuidesModel", "placeInList", "(I)I"⟩, 90) := ⟨⟨by decide +kernel, by decide +kernel⟩, lw_t7 (List.mem_of_getElem? (i := 151) rfl), lw_t9 (List.mem_of_getElem? (i := 92) rfl), lw_t9 (List.mem_of_getElem? (i := 93) rfl)⟩
theorem lw_p65 : lw_okq (⟨"ValleyGuidesModel", "next", "()V"⟩, 90) := ⟨⟨by decide +kernel, by decide +kernel⟩, lw_t7 (List.mem_of_getElem? (i := 151) rfl), lw_t9 (List.mem_of_getElem? (i := 117) rfl), lw_t9 (List.mem_of_getElem? (i := 118) rfl)⟩
theorem lw_p66 : lw_okq (⟨"ValleyGuidesModel", "look", "(I)I"⟩, 90) := ⟨⟨by decide +kernel, by decide +kernel⟩, lw_t7 (List.mem_of_getElem? (i := 151) rfl), lw_t9 (List.mem_of_getElem? (i := 121) rfl), lw_t9 (List.mem_of_getElem? (i := 122) rfl)⟩
theorem lw_p67 : lw_okq (⟨"ValleyGuidesModel", "nameNow", "()I"⟩, 90) := ⟨⟨by decide +kernel, by decide +kernel⟩, lw_t7 (List.mem_of_getElem? (i := 151) rfl), lw_t9 (List.mem_of_getElem? (i := 127) rfl), lw_t9 (List.mem_of_getElem? (i := 128) rfl)⟩
theorem lw_p68 : lw_okq (⟨"ValleyGuidesModel", "is", "(IIIII)Z"⟩, 90) := ⟨⟨by decide +kernel, by decide +kernel⟩, lw_t7 (List.mem_of_getElem? (i := 151) rfl), lw_t9 (List.mem_of_getElem? (i := 131) rfl), lw_t9 (List.mem_of_getElem? (i := 132) rfl)⟩
theorem lw_p69 : lw_okq (⟨"ValleyGuidesModel", "variableNow", "()I"⟩, 90) := ⟨⟨by decide +kernel, by decide +kernel⟩, lw_t7 (List.mem_of_getElem? (i := 151) rfl), lw_t9 (List.mem_of_getElem? (i := 135) rfl), lw_t9 (List.mem_of_getElem? (i := 136) rfl)⟩
theorem lw_p70 : lw_okq (⟨"ValleyGuidesModel", "goesWith", "(III)Z"⟩, 90) := ⟨⟨by decide +kernel, by decide +kernel⟩, lw_t7 (List.mem_of_getElem? (i := 151) rfl), lw_t9 (List.mem_of_getElem? (i := 139) rfl), lw_t9 (List.mem_of_getElem? (i := 140) rfl)⟩
theorem lw_p71 : lw_okq (⟨"ValleyGuidesModel", "wants", "(ZI)V"⟩, 90) := ⟨⟨by decide +kernel, by decide +kernel⟩, lw_t7 (List.mem_of_getElem? (i := 151) rfl), lw_t9 (List.mem_of_getElem? (i := 143) rfl), lw_t9 (List.mem_of_getElem? (i := 144) rfl)⟩
theorem lw_p72 : lw_okq (⟨"ValleyGuidesModel", "readLine", "()V"⟩, 90) := ⟨⟨by decide +kernel, by decide +kernel⟩, lw_t7 (List.mem_of_getElem? (i := 151) rfl), lw_t9 (List.mem_of_getElem? (i := 149) rfl), lw_t9 (List.mem_of_getElem? (i := 150) rfl)⟩
theorem lw_p73 : lw_okq (⟨"ValleyGuidesModel", "readSum", "()V"⟩, 90) := ⟨⟨by decide +kernel, by decide +kernel⟩, lw_t7 (List.mem_of_getElem? (i := 151) rfl), lw_t9 (List.mem_of_getElem? (i := 153) rfl), lw_t9 (List.mem_of_getElem? (i := 154) rfl)⟩
theorem lw_p74 : lw_okq (⟨"ValleyGuidesModel", "isSign", "(I)Z"⟩, 90) := ⟨⟨by decide +kernel, by decide +kernel⟩, lw_t7 (List.mem_of_getElem? (i := 151) rfl), lw_t9 (List.mem_of_getElem? (i := 157) rfl), lw_t9 (List.mem_of_getElem? (i := 158) rfl)⟩
theorem lw_p75 : lw_okq (⟨"ValleyGuidesModel", "code", "(I)V"⟩, 90) := ⟨⟨by decide +kernel, by decide +kernel⟩, lw_t7 (List.mem_of_getElem? (i := 151) rfl), lw_t9 (List.mem_of_getElem? (i := 161) rfl), lw_t9 (List.mem_of_getElem? (i := 162) rfl)⟩
theorem lw_p76 : lw_okq (⟨"ValleyGuidesModel", "pops", "(I)V"⟩, 90) := ⟨⟨by decide +kernel, by decide +kernel⟩, lw_t7 (List.mem_of_getElem? (i := 151) rfl), lw_t9 (List.mem_of_getElem? (i := 168) rfl), lw_t9 (List.mem_of_getElem? (i := 169) rfl)⟩
theorem lw_p77 : lw_okq (⟨"ValleyGuidesModel", "readTest", "()V"⟩, 90) := ⟨⟨by decide +kernel, by decide +kernel⟩, lw_t7 (List.mem_of_getElem? (i := 151) rfl), lw_t9 (List.mem_of_getElem? (i := 172) rfl), lw_t9 (List.mem_of_getElem? (i := 173) rfl)⟩
theorem lw_p78 : lw_okq (⟨"ValleyGuidesModel", "readOne", "()V"⟩, 90) := ⟨⟨by decide +kernel, by decide +kernel⟩, lw_t7 (List.mem_of_getElem? (i := 151) rfl), lw_t9 (List.mem_of_getElem? (i := 176) rfl), lw_t9 (List.mem_of_getElem? (i := 177) rfl)⟩
theorem lw_p79 : lw_okq (⟨"ValleyGuidesModel", "isName", "(I)Z"⟩, 90) := ⟨⟨by decide +kernel, by decide +kernel⟩, lw_t7 (List.mem_of_getElem? (i := 151) rfl), lw_t9 (List.mem_of_getElem? (i := 180) rfl), lw_t9 (List.mem_of_getElem? (i := 181) rfl)⟩
def lw_privs_5 : List (MethodName × Nat) := [(⟨"ValleyGuidesModel", "placeInList", "(I)I"⟩, 90), (⟨"ValleyGuidesModel", "next", "()V"⟩, 90), (⟨"ValleyGuidesModel", "look", "(I)I"⟩, 90), (⟨"ValleyGuidesModel", "nameNow", "()I"⟩, 90), (⟨"ValleyGuidesModel", "is", "(IIIII)Z"⟩, 90), (⟨"ValleyGuidesModel", "variableNow", "()I"⟩, 90), (⟨"ValleyGuidesModel", "goesWith", "(III)Z"⟩, 90), (⟨"ValleyGuidesModel", "wants", "(ZI)V"⟩, 90), (⟨"ValleyGuidesModel", "readLine", "()V"⟩, 90), (⟨"ValleyGuidesModel", "readSum", "()V"⟩, 90), (⟨"ValleyGuidesModel", "isSign", "(I)Z"⟩, 90), (⟨"ValleyGuidesModel", "code", "(I)V"⟩, 90), (⟨"ValleyGuidesModel", "pops", "(I)V"⟩, 90), (⟨"ValleyGuidesModel", "readTest", "()V"⟩, 90), (⟨"ValleyGuidesModel", "readOne", "()V"⟩, 90), (⟨"ValleyGuidesModel", "isName", "(I)Z"⟩, 90)]
theorem lw_r5 : ∀ q ∈ lw_privs_5, lw_okq q := List.forall_mem_cons.mpr ⟨lw_p64, List.forall_mem_cons.mpr ⟨lw_p65, List.forall_mem_cons.mpr ⟨lw_p66, List.forall_mem_cons.mpr ⟨lw_p67, List.forall_mem_cons.mpr ⟨lw_p68, List.forall_mem_cons.mpr ⟨lw_p69, List.forall_mem_cons.mpr ⟨lw_p70, List.forall_mem_cons.mpr ⟨lw_p71, List.forall_mem_cons.mpr ⟨lw_p72, List.forall_mem_cons.mpr ⟨lw_p73, List.forall_mem_cons.mpr ⟨lw_p74, List.forall_mem_cons.mpr ⟨lw_p75, List.forall_mem_cons.mpr ⟨lw_p76, List.forall_mem_cons.mpr ⟨lw_p77, List.forall_mem_cons.mpr ⟨lw_p78, List.forall_mem_cons.mpr ⟨lw_p79, fun _ h => absurd h List.not_mem_nil⟩⟩⟩⟩⟩⟩⟩⟩⟩⟩⟩⟩⟩⟩⟩⟩
theorem lw_p80 : lw_okq (⟨"ValleyGuidesModel", "isAsked", "(III)Z"⟩, 90) := ⟨⟨by decide +kernel, by decide +kernel⟩, lw_t7 (List.mem_of_getElem? (i := 151) rfl), lw_t9 (List.mem_of_getElem? (i := 192) rfl), lw_t9 (List.mem_of_getElem? (i := 193) rfl)⟩
theorem lw_p81 : lw_okq (⟨"ValleyGuidesModel", "sets", "(III)V"⟩, 90) := ⟨⟨by decide +kernel, by decide +kernel⟩, lw_t7 (List.mem_of_getElem? (i := 151) rfl), lw_t9 (List.mem_of_getElem? (i := 196) rfl), lw_t9 (List.mem_of_getElem? (i := 197) rfl)⟩
theorem lw_p82 : lw_okq (⟨"ValleyGuidesModel", "whyNow", "()I"⟩, 90) := ⟨⟨by decide +kernel, by decide +kernel⟩, lw_t7 (List.mem_of_getElem? (i := 151) rfl), lw_t9 (List.mem_of_getElem? (i := 200) rfl), lw_t9 (List.mem_of_getElem? (i := 201) rfl)⟩
theorem lw_p83 : lw_okq (⟨"ValleyGuidesModel", "worked", "(I)I"⟩, 90) := ⟨⟨by decide +kernel, by decide +kernel⟩, lw_t7 (List.mem_of_getElem? (i := 151) rfl), lw_t9 (List.mem_of_getElem? (i := 204) rfl), lw_t9 (List.mem_of_getElem? (i := 205) rfl)⟩
theorem lw_p84 : lw_okq (⟨"ValleyGuidesModel", "payNow", "()I"⟩, 90) := ⟨⟨by decide +kernel, by decide +kernel⟩, lw_t7 (List.mem_of_getElem? (i := 151) rfl), lw_t9 (List.mem_of_getElem? (i := 217) rfl), lw_t9 (List.mem_of_getElem? (i := 218) rfl)⟩
theorem lw_p85 : lw_okq (⟨"ValleyGuidesModel", "askedNow", "()I"⟩, 90) := ⟨⟨by decide +kernel, by decide +kernel⟩, lw_t7 (List.mem_of_getElem? (i := 151) rfl), lw_t9 (List.mem_of_getElem? (i := 226) rfl), lw_t9 (List.mem_of_getElem? (i := 227) rfl)⟩
theorem lw_p86 : lw_okq (⟨"ValleyGuidesModel", "findTurn", "()I"⟩, 90) := ⟨⟨by decide +kernel, by decide +kernel⟩, lw_t7 (List.mem_of_getElem? (i := 151) rfl), lw_t9 (List.mem_of_getElem? (i := 234) rfl), lw_t9 (List.mem_of_getElem? (i := 235) rfl)⟩
theorem lw_p87 : lw_okq (⟨"ValleyGuidesModel", "findRoping", "(I)V"⟩, 90) := ⟨⟨by decide +kernel, by decide +kernel⟩, lw_t7 (List.mem_of_getElem? (i := 151) rfl), lw_t10 (List.mem_of_getElem? (i := 16) rfl), lw_t10 (List.mem_of_getElem? (i := 17) rfl)⟩
theorem lw_p88 : lw_okq (⟨"ValleyGuidesModel", "ropeWorth", "(II)I"⟩, 90) := ⟨⟨by decide +kernel, by decide +kernel⟩, lw_t7 (List.mem_of_getElem? (i := 151) rfl), lw_t10 (List.mem_of_getElem? (i := 21) rfl), lw_t10 (List.mem_of_getElem? (i := 22) rfl)⟩
theorem lw_p89 : lw_okq (⟨"ValleyGuidesModel", "goesTo", "(I)V"⟩, 90) := ⟨⟨by decide +kernel, by decide +kernel⟩, lw_t7 (List.mem_of_getElem? (i := 151) rfl), lw_t10 (List.mem_of_getElem? (i := 40) rfl), lw_t10 (List.mem_of_getElem? (i := 41) rfl)⟩
theorem lw_p90 : lw_okq (⟨"ValleyGuidesModel", "quarter", "(I)V"⟩, 90) := ⟨⟨by decide +kernel, by decide +kernel⟩, lw_t7 (List.mem_of_getElem? (i := 151) rfl), lw_t10 (List.mem_of_getElem? (i := 44) rfl), lw_t10 (List.mem_of_getElem? (i := 45) rfl)⟩
theorem lw_p91 : lw_okq (⟨"ValleyGuidesModel", "comes", "(III)V"⟩, 90) := ⟨⟨by decide +kernel, by decide +kernel⟩, lw_t7 (List.mem_of_getElem? (i := 151) rfl), lw_t10 (List.mem_of_getElem? (i := 48) rfl), lw_t10 (List.mem_of_getElem? (i := 49) rfl)⟩
theorem lw_p92 : lw_okq (⟨"ValleyGuidesModel", "decides", "(II)V"⟩, 90) := ⟨⟨by decide +kernel, by decide +kernel⟩, lw_t7 (List.mem_of_getElem? (i := 151) rfl), lw_t10 (List.mem_of_getElem? (i := 52) rfl), lw_t10 (List.mem_of_getElem? (i := 53) rfl)⟩
theorem lw_p93 : lw_okq (⟨"ValleyGuidesModel", "done", "(II)V"⟩, 90) := ⟨⟨by decide +kernel, by decide +kernel⟩, lw_t7 (List.mem_of_getElem? (i := 151) rfl), lw_t10 (List.mem_of_getElem? (i := 56) rfl), lw_t10 (List.mem_of_getElem? (i := 57) rfl)⟩
theorem lw_p94 : lw_okq (⟨"ValleyGuidesModel", "isCalledBack", "(II)Z"⟩, 90) := ⟨⟨by decide +kernel, by decide +kernel⟩, lw_t7 (List.mem_of_getElem? (i := 151) rfl), lw_t10 (List.mem_of_getElem? (i := 60) rfl), lw_t10 (List.mem_of_getElem? (i := 61) rfl)⟩
theorem lw_p95 : lw_okq (⟨"ValleyGuidesModel", "bearsOne", "(I)Z"⟩, 90) := ⟨⟨by decide +kernel, by decide +kernel⟩, lw_t7 (List.mem_of_getElem? (i := 151) rfl), lw_t10 (List.mem_of_getElem? (i := 64) rfl), lw_t10 (List.mem_of_getElem? (i := 65) rfl)⟩
def lw_privs_6 : List (MethodName × Nat) := [(⟨"ValleyGuidesModel", "isAsked", "(III)Z"⟩, 90), (⟨"ValleyGuidesModel", "sets", "(III)V"⟩, 90), (⟨"ValleyGuidesModel", "whyNow", "()I"⟩, 90), (⟨"ValleyGuidesModel", "worked", "(I)I"⟩, 90), (⟨"ValleyGuidesModel", "payNow", "()I"⟩, 90), (⟨"ValleyGuidesModel", "askedNow", "()I"⟩, 90), (⟨"ValleyGuidesModel", "findTurn", "()I"⟩, 90), (⟨"ValleyGuidesModel", "findRoping", "(I)V"⟩, 90), (⟨"ValleyGuidesModel", "ropeWorth", "(II)I"⟩, 90), (⟨"ValleyGuidesModel", "goesTo", "(I)V"⟩, 90), (⟨"ValleyGuidesModel", "quarter", "(I)V"⟩, 90), (⟨"ValleyGuidesModel", "comes", "(III)V"⟩, 90), (⟨"ValleyGuidesModel", "decides", "(II)V"⟩, 90), (⟨"ValleyGuidesModel", "done", "(II)V"⟩, 90), (⟨"ValleyGuidesModel", "isCalledBack", "(II)Z"⟩, 90), (⟨"ValleyGuidesModel", "bearsOne", "(I)Z"⟩, 90)]
theorem lw_r6 : ∀ q ∈ lw_privs_6, lw_okq q := List.forall_mem_cons.mpr ⟨lw_p80, List.forall_mem_cons.mpr ⟨lw_p81, List.forall_mem_cons.mpr ⟨lw_p82, List.forall_mem_cons.mpr ⟨lw_p83, List.forall_mem_cons.mpr ⟨lw_p84, List.forall_mem_cons.mpr ⟨lw_p85, List.forall_mem_cons.mpr ⟨lw_p86, List.forall_mem_cons.mpr ⟨lw_p87, List.forall_mem_cons.mpr ⟨lw_p88, List.forall_mem_cons.mpr ⟨lw_p89, List.forall_mem_cons.mpr ⟨lw_p90, List.forall_mem_cons.mpr ⟨lw_p91, List.forall_mem_cons.mpr ⟨lw_p92, List.forall_mem_cons.mpr ⟨lw_p93, List.forall_mem_cons.mpr ⟨lw_p94, List.forall_mem_cons.mpr ⟨lw_p95, fun _ h => absurd h List.not_mem_nil⟩⟩⟩⟩⟩⟩⟩⟩⟩⟩⟩⟩⟩⟩⟩⟩
theorem lw_p96 : lw_okq (⟨"ValleyGuidesModel", "where", "(I)I"⟩, 90) := ⟨⟨by decide +kernel, by decide +kernel⟩, lw_t7 (List.mem_of_getElem? (i := 151) rfl), lw_t10 (List.mem_of_getElem? (i := 76) rfl), lw_t10 (List.mem_of_getElem? (i := 77) rfl)⟩
theorem lw_p97 : lw_okq (⟨"ValleyGuidesModel", "findLots", "()V"⟩, 90) := ⟨⟨by decide +kernel, by decide +kernel⟩, lw_t7 (List.mem_of_getElem? (i := 151) rfl), lw_t10 (List.mem_of_getElem? (i := 94) rfl), lw_t10 (List.mem_of_getElem? (i := 95) rfl)⟩
theorem lw_p98 : lw_okq (⟨"ValleyGuidesModel", "findGrade", "(I)V"⟩, 90) := ⟨⟨by decide +kernel, by decide +kernel⟩, lw_t7 (List.mem_of_getElem? (i := 151) rfl), lw_t10 (List.mem_of_getElem? (i := 99) rfl), lw_t10 (List.mem_of_getElem? (i := 100) rfl)⟩
theorem lw_p99 : lw_okq (⟨"ValleyGuidesModel", "rootOf", "(I)I"⟩, 90) := ⟨⟨by decide +kernel, by decide +kernel⟩, lw_t7 (List.mem_of_getElem? (i := 151) rfl), lw_t10 (List.mem_of_getElem? (i := 103) rfl), lw_t10 (List.mem_of_getElem? (i := 104) rfl)⟩
theorem lw_p100 : lw_okq (⟨"ValleyGuidesModel", "adds", "(IIJ)V"⟩, 90) := ⟨⟨by decide +kernel, by decide +kernel⟩, lw_t7 (List.mem_of_getElem? (i := 151) rfl), lw_t10 (List.mem_of_getElem? (i := 107) rfl), lw_t10 (List.mem_of_getElem? (i := 108) rfl)⟩
theorem lw_p101 : lw_okq (⟨"ValleyGuidesModel", "lowest", "(JJ)V"⟩, 90) := ⟨⟨by decide +kernel, by decide +kernel⟩, lw_t7 (List.mem_of_getElem? (i := 151) rfl), lw_t10 (List.mem_of_getElem? (i := 111) rfl), lw_t10 (List.mem_of_getElem? (i := 112) rfl)⟩
def lw_privs_7 : List (MethodName × Nat) := [(⟨"ValleyGuidesModel", "where", "(I)I"⟩, 90), (⟨"ValleyGuidesModel", "findLots", "()V"⟩, 90), (⟨"ValleyGuidesModel", "findGrade", "(I)V"⟩, 90), (⟨"ValleyGuidesModel", "rootOf", "(I)I"⟩, 90), (⟨"ValleyGuidesModel", "adds", "(IIJ)V"⟩, 90), (⟨"ValleyGuidesModel", "lowest", "(JJ)V"⟩, 90)]
theorem lw_r7 : ∀ q ∈ lw_privs_7, lw_okq q := List.forall_mem_cons.mpr ⟨lw_p96, List.forall_mem_cons.mpr ⟨lw_p97, List.forall_mem_cons.mpr ⟨lw_p98, List.forall_mem_cons.mpr ⟨lw_p99, List.forall_mem_cons.mpr ⟨lw_p100, List.forall_mem_cons.mpr ⟨lw_p101, fun _ h => absurd h List.not_mem_nil⟩⟩⟩⟩⟩⟩
def lw_privs : List (MethodName × Nat) := lw_privs_1 ++ (lw_privs_2 ++ (lw_privs_3 ++ (lw_privs_4 ++ (lw_privs_5 ++ (lw_privs_6 ++ (lw_privs_7))))))
def lw_tbl : List Cond := k2_sels lw_privs ++ tables_1
theorem lw_privs_ok : ∀ q ∈ lw_privs, lw_okq q := by
  show ∀ q ∈ lw_privs_1 ++ (lw_privs_2 ++ (lw_privs_3 ++ (lw_privs_4 ++ (lw_privs_5 ++ (lw_privs_6 ++ (lw_privs_7)))))), lw_okq q
  exact List.forall_mem_append.mpr ⟨lw_r1, List.forall_mem_append.mpr ⟨lw_r2, List.forall_mem_append.mpr ⟨lw_r3, List.forall_mem_append.mpr ⟨lw_r4, List.forall_mem_append.mpr ⟨lw_r5, List.forall_mem_append.mpr ⟨lw_r6, lw_r7⟩⟩⟩⟩⟩⟩
-- ===== ONE list of words for every method: the tables' words that hold all through a run =====
def lw_all : List Cond := lw_tbl.filter goodWord
/-- a word of the tables by its place: claim/WORDS.tsv -/
theorem lw_w {w : Cond} (i : Nat) (h : lw_tbl[i]? = some w) (g : goodWord w = true) : w ∈ lw_all := List.mem_filter.mpr ⟨List.mem_of_getElem? h, g⟩
theorem lw_all_tbl {w : Cond} (h : w ∈ lw_all) : w ∈ lw_tbl := (List.mem_filter.mp h).1
theorem lw_self : GoodIn lw_all lw_all := fun w h => ⟨h, good_of_word (List.mem_filter.mp h).2⟩
/-- a class's field words, by their places -/
theorem lw_in (ws : List Cond) (ps : List Nat) (hp : ws = ps.filterMap (fun i => lw_tbl[i]?)) (hg : ws.all goodWord = true) : ∀ w ∈ ws, w ∈ lw_all := by
  intro w h
  have h1 := List.all_eq_true.mp hg w h
  rw [hp] at h
  obtain ⟨i, -, hi⟩ := List.mem_filterMap.mp h
  exact lw_w i hi h1
/-- the words of a contract for the method y with code b, L locals, answer r -/
abbrev ws_ (y : MethodName) (b : ByteArray) (L : Nat) (r : Option FieldType) : List Cond := Cond.code y b L r :: lw_all
theorem lw_meth {y : MethodName} {b : ByteArray} {L : Nat} {r : Option FieldType} (h : Cond.code y b L r ∈ lw_all) : GoodIn lw_all (ws_ y b L r) := by
  intro w hw
  rcases List.mem_cons.mp hw with e | e
  · rw [e]
    exact lw_self _ h
  · exact lw_self _ e
theorem lw_app {a c : List Cond} (ha : ∀ w ∈ a, w ∈ lw_all) (hc : GoodIn lw_all c) : GoodIn lw_all (a ++ c) := by
  intro w hw
  rcases List.mem_append.mp hw with e | e
  · exact lw_self w (ha w e)
  · exact hc w e
/-- what a call through an object asks: cwV n hts (lw_V ..) -/
theorem lw_V {own : String} {idx : Nat} {C : String} {y : MethodName} {b : ByteArray} {L : Nat} {r : Option FieldType} (h1 : Cond.methodLink own idx y ∈ lw_all) (h2 : Cond.instanceMethod y ∈ lw_all) (h3 : Cond.selects C y y ∈ lw_all) (h4 : Cond.initialized C ∈ lw_all) (h5 : Cond.code y b L r ∈ lw_all) : GoodIn lw_all (wsV own idx C y (ws_ y b L r)) := by
  refine lw_app ?_ (lw_meth h5)
  intro w hw
  simp only [List.mem_cons, List.not_mem_nil, or_false] at hw
  rcases hw with e | e | e | e
  · rw [e]; exact h1
  · rw [e]; exact h2
  · rw [e]; exact h3
  · rw [e]; exact h4
/-- what a static call asks: va_cwS n hts (lw_S ..) -/
theorem lw_S {own : String} {idx : Nat} {y : MethodName} {b : ByteArray} {L : Nat} {r : Option FieldType} (h1 : Cond.methodLink own idx y ∈ lw_all) (h2 : Cond.static y ∈ lw_all) (h3 : Cond.initialized y.cls ∈ lw_all) (h4 : Cond.code y b L r ∈ lw_all) : GoodIn lw_all (va_wsS own idx y (ws_ y b L r)) := by
  refine lw_app ?_ (lw_meth h4)
  intro w hw
  simp only [List.mem_cons, List.not_mem_nil, or_false] at hw
  rcases hw with e | e | e
  · rw [e]; exact h1
  · rw [e]; exact h2
  · rw [e]; exact h3
/-- the words of a contract for a method WITH HANDLERS (hh: its table) -/
abbrev wsW_ (y : MethodName) (b : ByteArray) (L : Nat) (r : Option FieldType) (hh : List (Nat × Nat × Nat × Nat)) : List Cond := Cond.codeWith y b L r hh :: lw_all
theorem lw_methW {y : MethodName} {b : ByteArray} {L : Nat} {r : Option FieldType} {hh : List (Nat × Nat × Nat × Nat)} (h : Cond.codeWith y b L r hh ∈ lw_all) : GoodIn lw_all (wsW_ y b L r hh) := by
  intro w hw
  rcases List.mem_cons.mp hw with e | e
  · rw [e]
    exact lw_self _ h
  · exact lw_self _ e
/-- any list of words by their places (lw_in), good -/
theorem lw_good {ws : List Cond} (h : ∀ w ∈ ws, w ∈ lw_all) : GoodIn lw_all ws := fun w hw => lw_self w (h w hw)
/-- what a call of a method with handlers asks: vx_cwVW n hts (lw_VW ..), vx_cwSW n hts (lw_SW ..) -/
theorem lw_VW {own : String} {idx : Nat} {C : String} {y : MethodName} {b : ByteArray} {L : Nat} {r : Option FieldType} {hh : List (Nat × Nat × Nat × Nat)} (h1 : Cond.methodLink own idx y ∈ lw_all) (h2 : Cond.instanceMethod y ∈ lw_all) (h3 : Cond.selects C y y ∈ lw_all) (h4 : Cond.initialized C ∈ lw_all) (h5 : Cond.codeWith y b L r hh ∈ lw_all) : GoodIn lw_all (wsV own idx C y (wsW_ y b L r hh)) := by
  refine lw_app ?_ (lw_methW h5)
  intro w hw
  simp only [List.mem_cons, List.not_mem_nil, or_false] at hw
  rcases hw with e | e | e | e
  · rw [e]; exact h1
  · rw [e]; exact h2
  · rw [e]; exact h3
  · rw [e]; exact h4
theorem lw_SW {own : String} {idx : Nat} {y : MethodName} {b : ByteArray} {L : Nat} {r : Option FieldType} {hh : List (Nat × Nat × Nat × Nat)} (h1 : Cond.methodLink own idx y ∈ lw_all) (h2 : Cond.static y ∈ lw_all) (h3 : Cond.initialized y.cls ∈ lw_all) (h4 : Cond.codeWith y b L r hh ∈ lw_all) : GoodIn lw_all (va_wsS own idx y (wsW_ y b L r hh)) := by
  refine lw_app ?_ (lw_methW h4)
  intro w hw
  simp only [List.mem_cons, List.not_mem_nil, or_false] at hw
  rcases hw with e | e | e
  · rw [e]; exact h1
  · rw [e]; exact h2
  · rw [e]; exact h3
/-- a word by its place in its run of the tables -/
theorem lw_at {r : List Cond} (hr : ∀ w ∈ r, w ∈ lw_tbl) {w : Cond} (i : Nat) (h : r[i]? = some w) : w ∈ lw_tbl := hr w (List.mem_of_getElem? h)
theorem lw_g {w : Cond} (h : w ∈ lw_tbl) (g : goodWord w = true) : w ∈ lw_all := List.mem_filter.mpr ⟨h, g⟩
theorem lw_ms : ∀ w ∈ k2_sels lw_privs, w ∈ lw_tbl := fun w h => show w ∈ k2_sels lw_privs ++ tables_1 from List.mem_append_left _ h
theorem lw_m1 : ∀ w ∈ tables_1_1, w ∈ lw_tbl := fun w h => show w ∈ k2_sels lw_privs ++ tables_1 from List.mem_append_right (k2_sels lw_privs) (show w ∈ tables_1 from List.mem_append_left _ h)
theorem lw_m2 : ∀ w ∈ tables_1_2, w ∈ lw_tbl := fun w h => show w ∈ k2_sels lw_privs ++ tables_1 from List.mem_append_right (k2_sels lw_privs) (show w ∈ tables_1 from List.mem_append_right _ (List.mem_append_left _ h))
theorem lw_m3 : ∀ w ∈ tables_1_3, w ∈ lw_tbl := fun w h => show w ∈ k2_sels lw_privs ++ tables_1 from List.mem_append_right (k2_sels lw_privs) (show w ∈ tables_1 from List.mem_append_right _ (List.mem_append_right _ (List.mem_append_left _ h)))
theorem lw_m4 : ∀ w ∈ tables_1_4, w ∈ lw_tbl := fun w h => show w ∈ k2_sels lw_privs ++ tables_1 from List.mem_append_right (k2_sels lw_privs) (show w ∈ tables_1 from List.mem_append_right _ (List.mem_append_right _ (List.mem_append_right _ (List.mem_append_left _ h))))
theorem lw_m5 : ∀ w ∈ tables_1_5, w ∈ lw_tbl := fun w h => show w ∈ k2_sels lw_privs ++ tables_1 from List.mem_append_right (k2_sels lw_privs) (show w ∈ tables_1 from List.mem_append_right _ (List.mem_append_right _ (List.mem_append_right _ (List.mem_append_right _ (List.mem_append_left _ h)))))
theorem lw_m6 : ∀ w ∈ tables_1_6, w ∈ lw_tbl := fun w h => show w ∈ k2_sels lw_privs ++ tables_1 from List.mem_append_right (k2_sels lw_privs) (show w ∈ tables_1 from List.mem_append_right _ (List.mem_append_right _ (List.mem_append_right _ (List.mem_append_right _ (List.mem_append_right _ (List.mem_append_left _ h))))))
theorem lw_m7 : ∀ w ∈ tables_1_7, w ∈ lw_tbl := fun w h => show w ∈ k2_sels lw_privs ++ tables_1 from List.mem_append_right (k2_sels lw_privs) (show w ∈ tables_1 from List.mem_append_right _ (List.mem_append_right _ (List.mem_append_right _ (List.mem_append_right _ (List.mem_append_right _ (List.mem_append_right _ (List.mem_append_left _ h)))))))
theorem lw_m8 : ∀ w ∈ tables_1_8, w ∈ lw_tbl := fun w h => show w ∈ k2_sels lw_privs ++ tables_1 from List.mem_append_right (k2_sels lw_privs) (show w ∈ tables_1 from List.mem_append_right _ (List.mem_append_right _ (List.mem_append_right _ (List.mem_append_right _ (List.mem_append_right _ (List.mem_append_right _ (List.mem_append_right _ (List.mem_append_left _ h))))))))
theorem lw_m9 : ∀ w ∈ tables_1_9, w ∈ lw_tbl := fun w h => show w ∈ k2_sels lw_privs ++ tables_1 from List.mem_append_right (k2_sels lw_privs) (show w ∈ tables_1 from List.mem_append_right _ (List.mem_append_right _ (List.mem_append_right _ (List.mem_append_right _ (List.mem_append_right _ (List.mem_append_right _ (List.mem_append_right _ (List.mem_append_right _ (List.mem_append_left _ h)))))))))
theorem lw_m10 : ∀ w ∈ tables_1_10, w ∈ lw_tbl := fun w h => show w ∈ k2_sels lw_privs ++ tables_1 from List.mem_append_right (k2_sels lw_privs) (show w ∈ tables_1 from List.mem_append_right _ (List.mem_append_right _ (List.mem_append_right _ (List.mem_append_right _ (List.mem_append_right _ (List.mem_append_right _ (List.mem_append_right _ (List.mem_append_right _ (List.mem_append_right _ h)))))))))
theorem qs0 : (Cond.selects "ValleyGuides" ⟨"ValleyGuides", "isPlace", "(I)Z"⟩ ⟨"ValleyGuides", "isPlace", "(I)Z"⟩) ∈ lw_all := lw_g (lw_at lw_ms 0 rfl) rfl
theorem qs1 : (Cond.selects "ValleyGuides" ⟨"ValleyGuides", "isStep", "(I)Z"⟩ ⟨"ValleyGuides", "isStep", "(I)Z"⟩) ∈ lw_all := lw_g (lw_at lw_ms 1 rfl) rfl
theorem qs2 : (Cond.selects "java/util/ArrayList" ⟨"java/util/ArrayList", "add", "(Ljava/lang/Object;[Ljava/lang/Object;I)V"⟩ ⟨"java/util/ArrayList", "add", "(Ljava/lang/Object;[Ljava/lang/Object;I)V"⟩) ∈ lw_all := lw_g (lw_at lw_ms 2 rfl) rfl
theorem qs3 : (Cond.selects "java/util/ArrayList" ⟨"java/util/ArrayList", "grow", "()[Ljava/lang/Object;"⟩ ⟨"java/util/ArrayList", "grow", "()[Ljava/lang/Object;"⟩) ∈ lw_all := lw_g (lw_at lw_ms 3 rfl) rfl
theorem qs4 : (Cond.selects "java/util/ArrayList" ⟨"java/util/ArrayList", "grow", "(I)[Ljava/lang/Object;"⟩ ⟨"java/util/ArrayList", "grow", "(I)[Ljava/lang/Object;"⟩) ∈ lw_all := lw_g (lw_at lw_ms 4 rfl) rfl
theorem qs5 : (Cond.selects "ValleyGuides" ⟨"ValleyGuides", "isRoute", "(I)Z"⟩ ⟨"ValleyGuides", "isRoute", "(I)Z"⟩) ∈ lw_all := lw_g (lw_at lw_ms 5 rfl) rfl
theorem qs6 : (Cond.selects "ValleyGuides" ⟨"ValleyGuides", "numberOf", "(LValleyGuides$Step;)I"⟩ ⟨"ValleyGuides", "numberOf", "(LValleyGuides$Step;)I"⟩) ∈ lw_all := lw_g (lw_at lw_ms 6 rfl) rfl
theorem qs7 : (Cond.selects "java/lang/NullPointerException" ⟨"java/lang/NullPointerException", "getExtendedNPEMessage", "()Ljava/lang/String;"⟩ ⟨"java/lang/NullPointerException", "getExtendedNPEMessage", "()Ljava/lang/String;"⟩) ∈ lw_all := lw_g (lw_at lw_ms 7 rfl) rfl
theorem qs8 : (Cond.selects "java/lang/Throwable" ⟨"java/lang/Throwable", "fillInStackTrace", "(I)Ljava/lang/Throwable;"⟩ ⟨"java/lang/Throwable", "fillInStackTrace", "(I)Ljava/lang/Throwable;"⟩) ∈ lw_all := lw_g (lw_at lw_ms 8 rfl) rfl
theorem qs9 : (Cond.selects "ValleyGuides" ⟨"ValleyGuides", "look", "(I)V"⟩ ⟨"ValleyGuides", "look", "(I)V"⟩) ∈ lw_all := lw_g (lw_at lw_ms 9 rfl) rfl
theorem qs10 : (Cond.selects "ValleyGuides" ⟨"ValleyGuides", "read", "(II)I"⟩ ⟨"ValleyGuides", "read", "(II)I"⟩) ∈ lw_all := lw_g (lw_at lw_ms 10 rfl) rfl
theorem qs11 : (Cond.selects "ValleyGuides" ⟨"ValleyGuides", "lookAll", "()V"⟩ ⟨"ValleyGuides", "lookAll", "()V"⟩) ∈ lw_all := lw_g (lw_at lw_ms 11 rfl) rfl
theorem qs12 : (Cond.selects "ValleyGuides" ⟨"ValleyGuides", "takesOf", "(LValleyGuides$Step;II)I"⟩ ⟨"ValleyGuides", "takesOf", "(LValleyGuides$Step;II)I"⟩) ∈ lw_all := lw_g (lw_at lw_ms 12 rfl) rfl
theorem qs13 : (Cond.selects "ValleyGuides" ⟨"ValleyGuides", "hourOf", "(LValleyGuides$Route;II)I"⟩ ⟨"ValleyGuides", "hourOf", "(LValleyGuides$Route;II)I"⟩) ∈ lw_all := lw_g (lw_at lw_ms 13 rfl) rfl
theorem qs14 : (Cond.selects "ValleyGuides" ⟨"ValleyGuides", "spread", "(III)V"⟩ ⟨"ValleyGuides", "spread", "(III)V"⟩) ∈ lw_all := lw_g (lw_at lw_ms 14 rfl) rfl
theorem qs15 : (Cond.selects "ValleyGuides$Reader" ⟨"ValleyGuides$Reader", "next", "()V"⟩ ⟨"ValleyGuides$Reader", "next", "()V"⟩) ∈ lw_all := lw_g (lw_at lw_ms 15 rfl) rfl
theorem qs16 : (Cond.selects "ValleyGuides$Reader" ⟨"ValleyGuides$Reader", "at", "(I)I"⟩ ⟨"ValleyGuides$Reader", "at", "(I)I"⟩) ∈ lw_all := lw_g (lw_at lw_ms 16 rfl) rfl
theorem qs17 : (Cond.selects "ValleyGuides$Reader" ⟨"ValleyGuides$Reader", "isWord", "(Ljava/lang/String;)Z"⟩ ⟨"ValleyGuides$Reader", "isWord", "(Ljava/lang/String;)Z"⟩) ∈ lw_all := lw_g (lw_at lw_ms 17 rfl) rfl
theorem qs18 : (Cond.selects "ValleyGuides$Reader" ⟨"ValleyGuides$Reader", "must", "(ZI)V"⟩ ⟨"ValleyGuides$Reader", "must", "(ZI)V"⟩) ∈ lw_all := lw_g (lw_at lw_ms 18 rfl) rfl
theorem qs19 : (Cond.selects "ValleyGuides$Reader" ⟨"ValleyGuides$Reader", "test", "()LValleyGuides$Part;"⟩ ⟨"ValleyGuides$Reader", "test", "()LValleyGuides$Part;"⟩) ∈ lw_all := lw_g (lw_at lw_ms 19 rfl) rfl
theorem qs20 : (Cond.selects "ValleyGuides$Reader" ⟨"ValleyGuides$Reader", "conjunction", "()LValleyGuides$Part;"⟩ ⟨"ValleyGuides$Reader", "conjunction", "()LValleyGuides$Part;"⟩) ∈ lw_all := lw_g (lw_at lw_ms 20 rfl) rfl
theorem qs21 : (Cond.selects "ValleyGuides$Reader" ⟨"ValleyGuides$Reader", "one", "()LValleyGuides$Part;"⟩ ⟨"ValleyGuides$Reader", "one", "()LValleyGuides$Part;"⟩) ∈ lw_all := lw_g (lw_at lw_ms 21 rfl) rfl
theorem qs22 : (Cond.selects "ValleyGuides$Reader" ⟨"ValleyGuides$Reader", "isName", "(I)Z"⟩ ⟨"ValleyGuides$Reader", "isName", "(I)Z"⟩) ∈ lw_all := lw_g (lw_at lw_ms 22 rfl) rfl
theorem qs23 : (Cond.selects "ValleyGuides$Reader" ⟨"ValleyGuides$Reader", "sum", "()LValleyGuides$Part;"⟩ ⟨"ValleyGuides$Reader", "sum", "()LValleyGuides$Part;"⟩) ∈ lw_all := lw_g (lw_at lw_ms 23 rfl) rfl
theorem qs24 : (Cond.selects "ValleyGuides$Reader" ⟨"ValleyGuides$Reader", "product", "()LValleyGuides$Part;"⟩ ⟨"ValleyGuides$Reader", "product", "()LValleyGuides$Part;"⟩) ∈ lw_all := lw_g (lw_at lw_ms 24 rfl) rfl
theorem qs25 : (Cond.selects "ValleyGuides$Reader" ⟨"ValleyGuides$Reader", "value", "()LValleyGuides$Part;"⟩ ⟨"ValleyGuides$Reader", "value", "()LValleyGuides$Part;"⟩) ∈ lw_all := lw_g (lw_at lw_ms 25 rfl) rfl
theorem qs26 : (Cond.selects "ValleyGuides$Reader" ⟨"ValleyGuides$Reader", "isSign", "(I)Z"⟩ ⟨"ValleyGuides$Reader", "isSign", "(I)Z"⟩) ∈ lw_all := lw_g (lw_at lw_ms 26 rfl) rfl
theorem qs27 : (Cond.selects "ValleyGuides" ⟨"ValleyGuides", "isAsked", "(III)Z"⟩ ⟨"ValleyGuides", "isAsked", "(III)Z"⟩) ∈ lw_all := lw_g (lw_at lw_ms 27 rfl) rfl
theorem qs28 : (Cond.selects "ValleyGuides" ⟨"ValleyGuides", "ask", "(III)V"⟩ ⟨"ValleyGuides", "ask", "(III)V"⟩) ∈ lw_all := lw_g (lw_at lw_ms 28 rfl) rfl
theorem qs29 : (Cond.selects "ValleyGuides" ⟨"ValleyGuides", "layVars", "(LValleyGuides$Route;II)V"⟩ ⟨"ValleyGuides", "layVars", "(LValleyGuides$Route;II)V"⟩) ∈ lw_all := lw_g (lw_at lw_ms 29 rfl) rfl
theorem qs30 : (Cond.selects "ValleyGuides" ⟨"ValleyGuides", "first", "(I)I"⟩ ⟨"ValleyGuides", "first", "(I)I"⟩) ∈ lw_all := lw_g (lw_at lw_ms 30 rfl) rfl
theorem qs31 : (Cond.selects "ValleyGuides" ⟨"ValleyGuides", "paid", "()I"⟩ ⟨"ValleyGuides", "paid", "()I"⟩) ∈ lw_all := lw_g (lw_at lw_ms 31 rfl) rfl
theorem qs32 : (Cond.selects "ValleyGuides" ⟨"ValleyGuides", "wanted", "()I"⟩ ⟨"ValleyGuides", "wanted", "()I"⟩) ∈ lw_all := lw_g (lw_at lw_ms 32 rfl) rfl
theorem qs33 : (Cond.selects "ValleyGuides" ⟨"ValleyGuides", "isGuide", "(I)Z"⟩ ⟨"ValleyGuides", "isGuide", "(I)Z"⟩) ∈ lw_all := lw_g (lw_at lw_ms 33 rfl) rfl
theorem qs34 : (Cond.selects "ValleyGuides" ⟨"ValleyGuides", "take", "(I)I"⟩ ⟨"ValleyGuides", "take", "(I)I"⟩) ∈ lw_all := lw_g (lw_at lw_ms 34 rfl) rfl
theorem qs35 : (Cond.selects "java/util/ArrayList" ⟨"java/util/ArrayList", "fastRemove", "([Ljava/lang/Object;I)V"⟩ ⟨"java/util/ArrayList", "fastRemove", "([Ljava/lang/Object;I)V"⟩) ∈ lw_all := lw_g (lw_at lw_ms 35 rfl) rfl
theorem qs36 : (Cond.selects "ValleyGuides" ⟨"ValleyGuides", "isPerson", "(I)Z"⟩ ⟨"ValleyGuides", "isPerson", "(I)Z"⟩) ∈ lw_all := lw_g (lw_at lw_ms 36 rfl) rfl
theorem qs37 : (Cond.selects "ValleyGuides" ⟨"ValleyGuides", "layRopes", "(I)V"⟩ ⟨"ValleyGuides", "layRopes", "(I)V"⟩) ∈ lw_all := lw_g (lw_at lw_ms 37 rfl) rfl
theorem qs38 : (Cond.selects "ValleyGuides" ⟨"ValleyGuides", "canRope", "(III)Z"⟩ ⟨"ValleyGuides", "canRope", "(III)Z"⟩) ∈ lw_all := lw_g (lw_at lw_ms 38 rfl) rfl
theorem qs39 : (Cond.selects "ValleyGuides" ⟨"ValleyGuides", "strengthOf", "(I)I"⟩ ⟨"ValleyGuides", "strengthOf", "(I)I"⟩) ∈ lw_all := lw_g (lw_at lw_ms 39 rfl) rfl
theorem qs40 : (Cond.selects "ValleyGuides" ⟨"ValleyGuides", "worthOf", "(I)I"⟩ ⟨"ValleyGuides", "worthOf", "(I)I"⟩) ∈ lw_all := lw_g (lw_at lw_ms 40 rfl) rfl
theorem qs41 : (Cond.selects "ValleyGuides" ⟨"ValleyGuides", "isRope", "(I)Z"⟩ ⟨"ValleyGuides", "isRope", "(I)Z"⟩) ∈ lw_all := lw_g (lw_at lw_ms 41 rfl) rfl
theorem qs42 : (Cond.selects "ValleyGuides" ⟨"ValleyGuides", "play", "()V"⟩ ⟨"ValleyGuides", "play", "()V"⟩) ∈ lw_all := lw_g (lw_at lw_ms 42 rfl) rfl
theorem qs43 : (Cond.selects "ValleyGuides" ⟨"ValleyGuides", "arrive", "(I)V"⟩ ⟨"ValleyGuides", "arrive", "(I)V"⟩) ∈ lw_all := lw_g (lw_at lw_ms 43 rfl) rfl
theorem qs44 : (Cond.selects "ValleyGuides" ⟨"ValleyGuides", "decide", "(LValleyGuides$Rope;I)V"⟩ ⟨"ValleyGuides", "decide", "(LValleyGuides$Rope;I)V"⟩) ∈ lw_all := lw_g (lw_at lw_ms 44 rfl) rfl
theorem qs45 : (Cond.selects "ValleyGuides" ⟨"ValleyGuides", "finish", "(LValleyGuides$Rope;I)V"⟩ ⟨"ValleyGuides", "finish", "(LValleyGuides$Rope;I)V"⟩) ∈ lw_all := lw_g (lw_at lw_ms 45 rfl) rfl
theorem qs46 : (Cond.selects "ValleyGuides" ⟨"ValleyGuides", "isTaken", "(LValleyGuides$Step;)Z"⟩ ⟨"ValleyGuides", "isTaken", "(LValleyGuides$Step;)Z"⟩) ∈ lw_all := lw_g (lw_at lw_ms 46 rfl) rfl
theorem qs47 : (Cond.selects "ValleyGuides" ⟨"ValleyGuides", "layPieces", "()V"⟩ ⟨"ValleyGuides", "layPieces", "()V"⟩) ∈ lw_all := lw_g (lw_at lw_ms 47 rfl) rfl
theorem qs48 : (Cond.selects "ValleyGuides" ⟨"ValleyGuides", "solve", "(I)V"⟩ ⟨"ValleyGuides", "solve", "(I)V"⟩) ∈ lw_all := lw_g (lw_at lw_ms 48 rfl) rfl
theorem qs49 : (Cond.selects "ValleyGuides" ⟨"ValleyGuides", "part", "(I)J"⟩ ⟨"ValleyGuides", "part", "(I)J"⟩) ∈ lw_all := lw_g (lw_at lw_ms 49 rfl) rfl
theorem qs50 : (Cond.selects "ValleyGuidesModel" ⟨"ValleyGuidesModel", "isPlace", "(I)Z"⟩ ⟨"ValleyGuidesModel", "isPlace", "(I)Z"⟩) ∈ lw_all := lw_g (lw_at lw_ms 50 rfl) rfl
theorem qs51 : (Cond.selects "ValleyGuidesModel" ⟨"ValleyGuidesModel", "isStep", "(I)Z"⟩ ⟨"ValleyGuidesModel", "isStep", "(I)Z"⟩) ∈ lw_all := lw_g (lw_at lw_ms 51 rfl) rfl
theorem qs52 : (Cond.selects "ValleyGuidesModel" ⟨"ValleyGuidesModel", "isRoute", "(I)Z"⟩ ⟨"ValleyGuidesModel", "isRoute", "(I)Z"⟩) ∈ lw_all := lw_g (lw_at lw_ms 52 rfl) rfl
theorem qs53 : (Cond.selects "ValleyGuidesModel" ⟨"ValleyGuidesModel", "endOf", "(I)I"⟩ ⟨"ValleyGuidesModel", "endOf", "(I)I"⟩) ∈ lw_all := lw_g (lw_at lw_ms 53 rfl) rfl
theorem qs54 : (Cond.selects "ValleyGuidesModel" ⟨"ValleyGuidesModel", "stepAt", "(II)I"⟩ ⟨"ValleyGuidesModel", "stepAt", "(II)I"⟩) ∈ lw_all := lw_g (lw_at lw_ms 54 rfl) rfl
theorem qs55 : (Cond.selects "ValleyGuidesModel" ⟨"ValleyGuidesModel", "greatestHard", "(I)I"⟩ ⟨"ValleyGuidesModel", "greatestHard", "(I)I"⟩) ∈ lw_all := lw_g (lw_at lw_ms 55 rfl) rfl
theorem qs56 : (Cond.selects "ValleyGuidesModel" ⟨"ValleyGuidesModel", "sumHard", "(I)I"⟩ ⟨"ValleyGuidesModel", "sumHard", "(I)I"⟩) ∈ lw_all := lw_g (lw_at lw_ms 56 rfl) rfl
theorem qs57 : (Cond.selects "ValleyGuidesModel" ⟨"ValleyGuidesModel", "sumLength", "(I)I"⟩ ⟨"ValleyGuidesModel", "sumLength", "(I)I"⟩) ∈ lw_all := lw_g (lw_at lw_ms 57 rfl) rfl
theorem qs58 : (Cond.selects "ValleyGuidesModel" ⟨"ValleyGuidesModel", "weatherOf", "(II)I"⟩ ⟨"ValleyGuidesModel", "weatherOf", "(II)I"⟩) ∈ lw_all := lw_g (lw_at lw_ms 58 rfl) rfl
theorem qs59 : (Cond.selects "ValleyGuidesModel" ⟨"ValleyGuidesModel", "faultOf", "(II)I"⟩ ⟨"ValleyGuidesModel", "faultOf", "(II)I"⟩) ∈ lw_all := lw_g (lw_at lw_ms 59 rfl) rfl
theorem qs60 : (Cond.selects "ValleyGuidesModel" ⟨"ValleyGuidesModel", "takesOf", "(III)I"⟩ ⟨"ValleyGuidesModel", "takesOf", "(III)I"⟩) ∈ lw_all := lw_g (lw_at lw_ms 60 rfl) rfl
theorem qs61 : (Cond.selects "ValleyGuidesModel" ⟨"ValleyGuidesModel", "hourOf", "(III)I"⟩ ⟨"ValleyGuidesModel", "hourOf", "(III)I"⟩) ∈ lw_all := lw_g (lw_at lw_ms 61 rfl) rfl
theorem qs62 : (Cond.selects "ValleyGuidesModel" ⟨"ValleyGuidesModel", "wayOf", "(IIII)I"⟩ ⟨"ValleyGuidesModel", "wayOf", "(IIII)I"⟩) ∈ lw_all := lw_g (lw_at lw_ms 62 rfl) rfl
theorem qs63 : (Cond.selects "ValleyGuidesModel" ⟨"ValleyGuidesModel", "isGuide", "(I)Z"⟩ ⟨"ValleyGuidesModel", "isGuide", "(I)Z"⟩) ∈ lw_all := lw_g (lw_at lw_ms 63 rfl) rfl
theorem qs64 : (Cond.selects "ValleyGuidesModel" ⟨"ValleyGuidesModel", "placeInList", "(I)I"⟩ ⟨"ValleyGuidesModel", "placeInList", "(I)I"⟩) ∈ lw_all := lw_g (lw_at lw_ms 64 rfl) rfl
theorem qs65 : (Cond.selects "ValleyGuidesModel" ⟨"ValleyGuidesModel", "next", "()V"⟩ ⟨"ValleyGuidesModel", "next", "()V"⟩) ∈ lw_all := lw_g (lw_at lw_ms 65 rfl) rfl
theorem qs66 : (Cond.selects "ValleyGuidesModel" ⟨"ValleyGuidesModel", "look", "(I)I"⟩ ⟨"ValleyGuidesModel", "look", "(I)I"⟩) ∈ lw_all := lw_g (lw_at lw_ms 66 rfl) rfl
theorem qs67 : (Cond.selects "ValleyGuidesModel" ⟨"ValleyGuidesModel", "nameNow", "()I"⟩ ⟨"ValleyGuidesModel", "nameNow", "()I"⟩) ∈ lw_all := lw_g (lw_at lw_ms 67 rfl) rfl
theorem qs68 : (Cond.selects "ValleyGuidesModel" ⟨"ValleyGuidesModel", "is", "(IIIII)Z"⟩ ⟨"ValleyGuidesModel", "is", "(IIIII)Z"⟩) ∈ lw_all := lw_g (lw_at lw_ms 68 rfl) rfl
theorem qs69 : (Cond.selects "ValleyGuidesModel" ⟨"ValleyGuidesModel", "variableNow", "()I"⟩ ⟨"ValleyGuidesModel", "variableNow", "()I"⟩) ∈ lw_all := lw_g (lw_at lw_ms 69 rfl) rfl
theorem qs70 : (Cond.selects "ValleyGuidesModel" ⟨"ValleyGuidesModel", "goesWith", "(III)Z"⟩ ⟨"ValleyGuidesModel", "goesWith", "(III)Z"⟩) ∈ lw_all := lw_g (lw_at lw_ms 70 rfl) rfl
theorem qs71 : (Cond.selects "ValleyGuidesModel" ⟨"ValleyGuidesModel", "wants", "(ZI)V"⟩ ⟨"ValleyGuidesModel", "wants", "(ZI)V"⟩) ∈ lw_all := lw_g (lw_at lw_ms 71 rfl) rfl
theorem qs72 : (Cond.selects "ValleyGuidesModel" ⟨"ValleyGuidesModel", "readLine", "()V"⟩ ⟨"ValleyGuidesModel", "readLine", "()V"⟩) ∈ lw_all := lw_g (lw_at lw_ms 72 rfl) rfl
theorem qs73 : (Cond.selects "ValleyGuidesModel" ⟨"ValleyGuidesModel", "readSum", "()V"⟩ ⟨"ValleyGuidesModel", "readSum", "()V"⟩) ∈ lw_all := lw_g (lw_at lw_ms 73 rfl) rfl
theorem qs74 : (Cond.selects "ValleyGuidesModel" ⟨"ValleyGuidesModel", "isSign", "(I)Z"⟩ ⟨"ValleyGuidesModel", "isSign", "(I)Z"⟩) ∈ lw_all := lw_g (lw_at lw_ms 74 rfl) rfl
theorem qs75 : (Cond.selects "ValleyGuidesModel" ⟨"ValleyGuidesModel", "code", "(I)V"⟩ ⟨"ValleyGuidesModel", "code", "(I)V"⟩) ∈ lw_all := lw_g (lw_at lw_ms 75 rfl) rfl
theorem qs76 : (Cond.selects "ValleyGuidesModel" ⟨"ValleyGuidesModel", "pops", "(I)V"⟩ ⟨"ValleyGuidesModel", "pops", "(I)V"⟩) ∈ lw_all := lw_g (lw_at lw_ms 76 rfl) rfl
theorem qs77 : (Cond.selects "ValleyGuidesModel" ⟨"ValleyGuidesModel", "readTest", "()V"⟩ ⟨"ValleyGuidesModel", "readTest", "()V"⟩) ∈ lw_all := lw_g (lw_at lw_ms 77 rfl) rfl
theorem qs78 : (Cond.selects "ValleyGuidesModel" ⟨"ValleyGuidesModel", "readOne", "()V"⟩ ⟨"ValleyGuidesModel", "readOne", "()V"⟩) ∈ lw_all := lw_g (lw_at lw_ms 78 rfl) rfl
theorem qs79 : (Cond.selects "ValleyGuidesModel" ⟨"ValleyGuidesModel", "isName", "(I)Z"⟩ ⟨"ValleyGuidesModel", "isName", "(I)Z"⟩) ∈ lw_all := lw_g (lw_at lw_ms 79 rfl) rfl
theorem qs80 : (Cond.selects "ValleyGuidesModel" ⟨"ValleyGuidesModel", "isAsked", "(III)Z"⟩ ⟨"ValleyGuidesModel", "isAsked", "(III)Z"⟩) ∈ lw_all := lw_g (lw_at lw_ms 80 rfl) rfl
theorem qs81 : (Cond.selects "ValleyGuidesModel" ⟨"ValleyGuidesModel", "sets", "(III)V"⟩ ⟨"ValleyGuidesModel", "sets", "(III)V"⟩) ∈ lw_all := lw_g (lw_at lw_ms 81 rfl) rfl
theorem qs82 : (Cond.selects "ValleyGuidesModel" ⟨"ValleyGuidesModel", "whyNow", "()I"⟩ ⟨"ValleyGuidesModel", "whyNow", "()I"⟩) ∈ lw_all := lw_g (lw_at lw_ms 82 rfl) rfl
theorem qs83 : (Cond.selects "ValleyGuidesModel" ⟨"ValleyGuidesModel", "worked", "(I)I"⟩ ⟨"ValleyGuidesModel", "worked", "(I)I"⟩) ∈ lw_all := lw_g (lw_at lw_ms 83 rfl) rfl
theorem qs84 : (Cond.selects "ValleyGuidesModel" ⟨"ValleyGuidesModel", "payNow", "()I"⟩ ⟨"ValleyGuidesModel", "payNow", "()I"⟩) ∈ lw_all := lw_g (lw_at lw_ms 84 rfl) rfl
theorem qs85 : (Cond.selects "ValleyGuidesModel" ⟨"ValleyGuidesModel", "askedNow", "()I"⟩ ⟨"ValleyGuidesModel", "askedNow", "()I"⟩) ∈ lw_all := lw_g (lw_at lw_ms 85 rfl) rfl
theorem qs86 : (Cond.selects "ValleyGuidesModel" ⟨"ValleyGuidesModel", "findTurn", "()I"⟩ ⟨"ValleyGuidesModel", "findTurn", "()I"⟩) ∈ lw_all := lw_g (lw_at lw_ms 86 rfl) rfl
theorem qs87 : (Cond.selects "ValleyGuidesModel" ⟨"ValleyGuidesModel", "findRoping", "(I)V"⟩ ⟨"ValleyGuidesModel", "findRoping", "(I)V"⟩) ∈ lw_all := lw_g (lw_at lw_ms 87 rfl) rfl
theorem qs88 : (Cond.selects "ValleyGuidesModel" ⟨"ValleyGuidesModel", "ropeWorth", "(II)I"⟩ ⟨"ValleyGuidesModel", "ropeWorth", "(II)I"⟩) ∈ lw_all := lw_g (lw_at lw_ms 88 rfl) rfl
theorem qs89 : (Cond.selects "ValleyGuidesModel" ⟨"ValleyGuidesModel", "goesTo", "(I)V"⟩ ⟨"ValleyGuidesModel", "goesTo", "(I)V"⟩) ∈ lw_all := lw_g (lw_at lw_ms 89 rfl) rfl
theorem qs90 : (Cond.selects "ValleyGuidesModel" ⟨"ValleyGuidesModel", "quarter", "(I)V"⟩ ⟨"ValleyGuidesModel", "quarter", "(I)V"⟩) ∈ lw_all := lw_g (lw_at lw_ms 90 rfl) rfl
theorem qs91 : (Cond.selects "ValleyGuidesModel" ⟨"ValleyGuidesModel", "comes", "(III)V"⟩ ⟨"ValleyGuidesModel", "comes", "(III)V"⟩) ∈ lw_all := lw_g (lw_at lw_ms 91 rfl) rfl
theorem qs92 : (Cond.selects "ValleyGuidesModel" ⟨"ValleyGuidesModel", "decides", "(II)V"⟩ ⟨"ValleyGuidesModel", "decides", "(II)V"⟩) ∈ lw_all := lw_g (lw_at lw_ms 92 rfl) rfl
theorem qs93 : (Cond.selects "ValleyGuidesModel" ⟨"ValleyGuidesModel", "done", "(II)V"⟩ ⟨"ValleyGuidesModel", "done", "(II)V"⟩) ∈ lw_all := lw_g (lw_at lw_ms 93 rfl) rfl
theorem qs94 : (Cond.selects "ValleyGuidesModel" ⟨"ValleyGuidesModel", "isCalledBack", "(II)Z"⟩ ⟨"ValleyGuidesModel", "isCalledBack", "(II)Z"⟩) ∈ lw_all := lw_g (lw_at lw_ms 94 rfl) rfl
theorem qs95 : (Cond.selects "ValleyGuidesModel" ⟨"ValleyGuidesModel", "bearsOne", "(I)Z"⟩ ⟨"ValleyGuidesModel", "bearsOne", "(I)Z"⟩) ∈ lw_all := lw_g (lw_at lw_ms 95 rfl) rfl
theorem qs96 : (Cond.selects "ValleyGuidesModel" ⟨"ValleyGuidesModel", "where", "(I)I"⟩ ⟨"ValleyGuidesModel", "where", "(I)I"⟩) ∈ lw_all := lw_g (lw_at lw_ms 96 rfl) rfl
theorem qs97 : (Cond.selects "ValleyGuidesModel" ⟨"ValleyGuidesModel", "findLots", "()V"⟩ ⟨"ValleyGuidesModel", "findLots", "()V"⟩) ∈ lw_all := lw_g (lw_at lw_ms 97 rfl) rfl
theorem qs98 : (Cond.selects "ValleyGuidesModel" ⟨"ValleyGuidesModel", "findGrade", "(I)V"⟩ ⟨"ValleyGuidesModel", "findGrade", "(I)V"⟩) ∈ lw_all := lw_g (lw_at lw_ms 98 rfl) rfl
theorem qs99 : (Cond.selects "ValleyGuidesModel" ⟨"ValleyGuidesModel", "rootOf", "(I)I"⟩ ⟨"ValleyGuidesModel", "rootOf", "(I)I"⟩) ∈ lw_all := lw_g (lw_at lw_ms 99 rfl) rfl
theorem qs100 : (Cond.selects "ValleyGuidesModel" ⟨"ValleyGuidesModel", "adds", "(IIJ)V"⟩ ⟨"ValleyGuidesModel", "adds", "(IIJ)V"⟩) ∈ lw_all := lw_g (lw_at lw_ms 100 rfl) rfl
theorem qs101 : (Cond.selects "ValleyGuidesModel" ⟨"ValleyGuidesModel", "lowest", "(JJ)V"⟩ ⟨"ValleyGuidesModel", "lowest", "(JJ)V"⟩) ∈ lw_all := lw_g (lw_at lw_ms 101 rfl) rfl
