-- ===== PART A: goes FIRST, ahead of the names: the tables' words, and 'selects' of the private methods out of them =====
/-- a private method of a class that the tables say can be made, by its rows of tables_1 -/
def lw_okq (q : MethodName × Nat) : Prop := (q.1.cls ≠ "java/lang/invoke/MethodHandle" ∧ q.1.cls ≠ "java/lang/invoke/VarHandle") ∧ Cond.instantiable q.1.cls q.2 ∈ tables_1 ∧ Cond.privateMethod q.1 ∈ tables_1 ∧ Cond.instanceMethod q.1 ∈ tables_1
set_option maxRecDepth 100000
theorem lw_t1 {w : Cond} (h : w ∈ tables_1_1) : w ∈ tables_1 := List.mem_append_left _ h
theorem lw_t2 {w : Cond} (h : w ∈ tables_1_2) : w ∈ tables_1 := List.mem_append_right _ (List.mem_append_left _ h)
theorem lw_t3 {w : Cond} (h : w ∈ tables_1_3) : w ∈ tables_1 := List.mem_append_right _ (List.mem_append_right _ (List.mem_append_left _ h))
theorem lw_t4 {w : Cond} (h : w ∈ tables_1_4) : w ∈ tables_1 := List.mem_append_right _ (List.mem_append_right _ (List.mem_append_right _ (List.mem_append_left _ h)))
theorem lw_t5 {w : Cond} (h : w ∈ tables_1_5) : w ∈ tables_1 := List.mem_append_right _ (List.mem_append_right _ (List.mem_append_right _ (List.mem_append_right _ (List.mem_append_left _ h))))
theorem lw_t6 {w : Cond} (h : w ∈ tables_1_6) : w ∈ tables_1 := List.mem_append_right _ (List.mem_append_right _ (List.mem_append_right _ (List.mem_append_right _ (List.mem_append_right _ (List.mem_append_left _ h)))))
theorem lw_t7 {w : Cond} (h : w ∈ tables_1_7) : w ∈ tables_1 := List.mem_append_right _ (List.mem_append_right _ (List.mem_append_right _ (List.mem_append_right _ (List.mem_append_right _ (List.mem_append_right _ (List.mem_append_left _ h))))))
theorem lw_t8 {w : Cond} (h : w ∈ tables_1_8) : w ∈ tables_1 := List.mem_append_right _ (List.mem_append_right _ (List.mem_append_right _ (List.mem_append_right _ (List.mem_append_right _ (List.mem_append_right _ (List.mem_append_right _ (List.mem_append_left _ h)))))))
theorem lw_t9 {w : Cond} (h : w ∈ tables_1_9) : w ∈ tables_1 := List.mem_append_right _ (List.mem_append_right _ (List.mem_append_right _ (List.mem_append_right _ (List.mem_append_right _ (List.mem_append_right _ (List.mem_append_right _ (List.mem_append_right _ h)))))))
theorem lw_p0 : lw_okq (⟨"ValleyMass", "refuse", "(I)I"⟩, 13) := ⟨⟨by decide +kernel, by decide +kernel⟩, lw_t1 (List.mem_of_getElem? (i := 37) rfl), lw_t1 (List.mem_of_getElem? (i := 191) rfl), lw_t1 (List.mem_of_getElem? (i := 192) rfl)⟩
theorem lw_p1 : lw_okq (⟨"ValleyMass", "keep", "()V"⟩, 13) := ⟨⟨by decide +kernel, by decide +kernel⟩, lw_t1 (List.mem_of_getElem? (i := 37) rfl), lw_t1 (List.mem_of_getElem? (i := 195) rfl), lw_t1 (List.mem_of_getElem? (i := 196) rfl)⟩
theorem lw_p2 : lw_okq (⟨"java/util/ArrayList", "add", "(Ljava/lang/Object;[Ljava/lang/Object;I)V"⟩, 3) := ⟨⟨by decide +kernel, by decide +kernel⟩, lw_t1 (List.mem_of_getElem? (i := 51) rfl), lw_t1 (List.mem_of_getElem? (i := 215) rfl), lw_t1 (List.mem_of_getElem? (i := 216) rfl)⟩
theorem lw_p3 : lw_okq (⟨"java/util/ArrayList", "grow", "()[Ljava/lang/Object;"⟩, 3) := ⟨⟨by decide +kernel, by decide +kernel⟩, lw_t1 (List.mem_of_getElem? (i := 51) rfl), lw_t1 (List.mem_of_getElem? (i := 219) rfl), lw_t1 (List.mem_of_getElem? (i := 220) rfl)⟩
theorem lw_p4 : lw_okq (⟨"java/util/ArrayList", "grow", "(I)[Ljava/lang/Object;"⟩, 3) := ⟨⟨by decide +kernel, by decide +kernel⟩, lw_t1 (List.mem_of_getElem? (i := 51) rfl), lw_t1 (List.mem_of_getElem? (i := 223) rfl), lw_t1 (List.mem_of_getElem? (i := 224) rfl)⟩
theorem lw_p5 : lw_okq (⟨"java/util/ArrayList", "fastRemove", "([Ljava/lang/Object;I)V"⟩, 3) := ⟨⟨by decide +kernel, by decide +kernel⟩, lw_t1 (List.mem_of_getElem? (i := 51) rfl), lw_t2 (List.mem_of_getElem? (i := 59) rfl), lw_t2 (List.mem_of_getElem? (i := 60) rfl)⟩
theorem lw_p6 : lw_okq (⟨"ValleyMass$State", "worth", "(II)I"⟩, 4) := ⟨⟨by decide +kernel, by decide +kernel⟩, lw_t1 (List.mem_of_getElem? (i := 107) rfl), lw_t2 (List.mem_of_getElem? (i := 229) rfl), lw_t2 (List.mem_of_getElem? (i := 230) rfl)⟩
theorem lw_p7 : lw_okq (⟨"ValleyMass", "areSung", "(I)Z"⟩, 13) := ⟨⟨by decide +kernel, by decide +kernel⟩, lw_t1 (List.mem_of_getElem? (i := 37) rfl), lw_t3 (List.mem_of_getElem? (i := 27) rfl), lw_t3 (List.mem_of_getElem? (i := 28) rfl)⟩
theorem lw_p8 : lw_okq (⟨"ValleyMass", "able", "(III)I"⟩, 13) := ⟨⟨by decide +kernel, by decide +kernel⟩, lw_t1 (List.mem_of_getElem? (i := 37) rfl), lw_t3 (List.mem_of_getElem? (i := 35) rfl), lw_t3 (List.mem_of_getElem? (i := 36) rfl)⟩
theorem lw_p9 : lw_okq (⟨"java/lang/Throwable", "fillInStackTrace", "(I)Ljava/lang/Throwable;"⟩, 6) := ⟨⟨by decide +kernel, by decide +kernel⟩, lw_t3 (List.mem_of_getElem? (i := 135) rfl), lw_t3 (List.mem_of_getElem? (i := 133) rfl), lw_t3 (List.mem_of_getElem? (i := 134) rfl)⟩
theorem lw_p10 : lw_okq (⟨"ValleyMass$Reader", "next", "()V"⟩, 14) := ⟨⟨by decide +kernel, by decide +kernel⟩, lw_t3 (List.mem_of_getElem? (i := 161) rfl), lw_t3 (List.mem_of_getElem? (i := 236) rfl), lw_t3 (List.mem_of_getElem? (i := 237) rfl)⟩
theorem lw_p11 : lw_okq (⟨"ValleyMass$Reader", "here", "()I"⟩, 14) := ⟨⟨by decide +kernel, by decide +kernel⟩, lw_t3 (List.mem_of_getElem? (i := 161) rfl), lw_t4 (List.mem_of_getElem? (i := 0) rfl), lw_t4 (List.mem_of_getElem? (i := 1) rfl)⟩
theorem lw_p12 : lw_okq (⟨"ValleyMass$Reader", "isLetter", "()Z"⟩, 14) := ⟨⟨by decide +kernel, by decide +kernel⟩, lw_t3 (List.mem_of_getElem? (i := 161) rfl), lw_t4 (List.mem_of_getElem? (i := 4) rfl), lw_t4 (List.mem_of_getElem? (i := 5) rfl)⟩
theorem lw_p13 : lw_okq (⟨"ValleyMass$Reader", "isDigit", "()Z"⟩, 14) := ⟨⟨by decide +kernel, by decide +kernel⟩, lw_t3 (List.mem_of_getElem? (i := 161) rfl), lw_t4 (List.mem_of_getElem? (i := 9) rfl), lw_t4 (List.mem_of_getElem? (i := 10) rfl)⟩
theorem lw_p14 : lw_okq (⟨"ValleyMass$Reader", "line", "()V"⟩, 14) := ⟨⟨by decide +kernel, by decide +kernel⟩, lw_t3 (List.mem_of_getElem? (i := 161) rfl), lw_t4 (List.mem_of_getElem? (i := 85) rfl), lw_t4 (List.mem_of_getElem? (i := 86) rfl)⟩
theorem lw_p15 : lw_okq (⟨"ValleyMass$Reader", "which", "([Ljava/lang/String;)I"⟩, 14) := ⟨⟨by decide +kernel, by decide +kernel⟩, lw_t3 (List.mem_of_getElem? (i := 161) rfl), lw_t4 (List.mem_of_getElem? (i := 89) rfl), lw_t4 (List.mem_of_getElem? (i := 90) rfl)⟩
def lw_privs_1 : List (MethodName × Nat) := [(⟨"ValleyMass", "refuse", "(I)I"⟩, 13), (⟨"ValleyMass", "keep", "()V"⟩, 13), (⟨"java/util/ArrayList", "add", "(Ljava/lang/Object;[Ljava/lang/Object;I)V"⟩, 3), (⟨"java/util/ArrayList", "grow", "()[Ljava/lang/Object;"⟩, 3), (⟨"java/util/ArrayList", "grow", "(I)[Ljava/lang/Object;"⟩, 3), (⟨"java/util/ArrayList", "fastRemove", "([Ljava/lang/Object;I)V"⟩, 3), (⟨"ValleyMass$State", "worth", "(II)I"⟩, 4), (⟨"ValleyMass", "areSung", "(I)Z"⟩, 13), (⟨"ValleyMass", "able", "(III)I"⟩, 13), (⟨"java/lang/Throwable", "fillInStackTrace", "(I)Ljava/lang/Throwable;"⟩, 6), (⟨"ValleyMass$Reader", "next", "()V"⟩, 14), (⟨"ValleyMass$Reader", "here", "()I"⟩, 14), (⟨"ValleyMass$Reader", "isLetter", "()Z"⟩, 14), (⟨"ValleyMass$Reader", "isDigit", "()Z"⟩, 14), (⟨"ValleyMass$Reader", "line", "()V"⟩, 14), (⟨"ValleyMass$Reader", "which", "([Ljava/lang/String;)I"⟩, 14)]
theorem lw_r1 : ∀ q ∈ lw_privs_1, lw_okq q := List.forall_mem_cons.mpr ⟨lw_p0, List.forall_mem_cons.mpr ⟨lw_p1, List.forall_mem_cons.mpr ⟨lw_p2, List.forall_mem_cons.mpr ⟨lw_p3, List.forall_mem_cons.mpr ⟨lw_p4, List.forall_mem_cons.mpr ⟨lw_p5, List.forall_mem_cons.mpr ⟨lw_p6, List.forall_mem_cons.mpr ⟨lw_p7, List.forall_mem_cons.mpr ⟨lw_p8, List.forall_mem_cons.mpr ⟨lw_p9, List.forall_mem_cons.mpr ⟨lw_p10, List.forall_mem_cons.mpr ⟨lw_p11, List.forall_mem_cons.mpr ⟨lw_p12, List.forall_mem_cons.mpr ⟨lw_p13, List.forall_mem_cons.mpr ⟨lw_p14, List.forall_mem_cons.mpr ⟨lw_p15, fun _ h => absurd h List.not_mem_nil⟩⟩⟩⟩⟩⟩⟩⟩⟩⟩⟩⟩⟩⟩⟩⟩
theorem lw_p16 : lw_okq (⟨"ValleyMass$Reader", "is", "(Ljava/lang/String;)Z"⟩, 14) := ⟨⟨by decide +kernel, by decide +kernel⟩, lw_t3 (List.mem_of_getElem? (i := 161) rfl), lw_t4 (List.mem_of_getElem? (i := 93) rfl), lw_t4 (List.mem_of_getElem? (i := 94) rfl)⟩
theorem lw_p17 : lw_okq (⟨"ValleyMass$Reader", "singer", "(I)V"⟩, 14) := ⟨⟨by decide +kernel, by decide +kernel⟩, lw_t3 (List.mem_of_getElem? (i := 161) rfl), lw_t4 (List.mem_of_getElem? (i := 113) rfl), lw_t4 (List.mem_of_getElem? (i := 114) rfl)⟩
theorem lw_p18 : lw_okq (⟨"ValleyMass$Reader", "want", "(ZI)V"⟩, 14) := ⟨⟨by decide +kernel, by decide +kernel⟩, lw_t3 (List.mem_of_getElem? (i := 161) rfl), lw_t4 (List.mem_of_getElem? (i := 119) rfl), lw_t4 (List.mem_of_getElem? (i := 120) rfl)⟩
theorem lw_p19 : lw_okq (⟨"ValleyMass$Reader", "number", "(II)I"⟩, 14) := ⟨⟨by decide +kernel, by decide +kernel⟩, lw_t3 (List.mem_of_getElem? (i := 161) rfl), lw_t4 (List.mem_of_getElem? (i := 147) rfl), lw_t4 (List.mem_of_getElem? (i := 148) rfl)⟩
theorem lw_p20 : lw_okq (⟨"ValleyMass$Reader", "numberNow", "(II)I"⟩, 14) := ⟨⟨by decide +kernel, by decide +kernel⟩, lw_t3 (List.mem_of_getElem? (i := 161) rfl), lw_t4 (List.mem_of_getElem? (i := 151) rfl), lw_t4 (List.mem_of_getElem? (i := 152) rfl)⟩
theorem lw_p21 : lw_okq (⟨"ValleyMass$Reader", "row", "(I)V"⟩, 14) := ⟨⟨by decide +kernel, by decide +kernel⟩, lw_t3 (List.mem_of_getElem? (i := 161) rfl), lw_t4 (List.mem_of_getElem? (i := 190) rfl), lw_t4 (List.mem_of_getElem? (i := 191) rfl)⟩
theorem lw_p22 : lw_okq (⟨"ValleyMass$Reader", "rule", "(Z)V"⟩, 14) := ⟨⟨by decide +kernel, by decide +kernel⟩, lw_t3 (List.mem_of_getElem? (i := 161) rfl), lw_t5 (List.mem_of_getElem? (i := 3) rfl), lw_t5 (List.mem_of_getElem? (i := 4) rfl)⟩
theorem lw_p23 : lw_okq (⟨"ValleyMass$Reader", "expression", "(I)LValleyMass$Form;"⟩, 14) := ⟨⟨by decide +kernel, by decide +kernel⟩, lw_t3 (List.mem_of_getElem? (i := 161) rfl), lw_t5 (List.mem_of_getElem? (i := 7) rfl), lw_t5 (List.mem_of_getElem? (i := 8) rfl)⟩
theorem lw_p24 : lw_okq (⟨"ValleyMass$Reader", "isSign", "(C)Z"⟩, 14) := ⟨⟨by decide +kernel, by decide +kernel⟩, lw_t3 (List.mem_of_getElem? (i := 161) rfl), lw_t5 (List.mem_of_getElem? (i := 11) rfl), lw_t5 (List.mem_of_getElem? (i := 12) rfl)⟩
theorem lw_p25 : lw_okq (⟨"ValleyMass$Reader", "and", "(I)LValleyMass$Form;"⟩, 14) := ⟨⟨by decide +kernel, by decide +kernel⟩, lw_t3 (List.mem_of_getElem? (i := 161) rfl), lw_t5 (List.mem_of_getElem? (i := 17) rfl), lw_t5 (List.mem_of_getElem? (i := 18) rfl)⟩
theorem lw_p26 : lw_okq (⟨"ValleyMass$Reader", "not", "(I)LValleyMass$Form;"⟩, 14) := ⟨⟨by decide +kernel, by decide +kernel⟩, lw_t3 (List.mem_of_getElem? (i := 161) rfl), lw_t5 (List.mem_of_getElem? (i := 21) rfl), lw_t5 (List.mem_of_getElem? (i := 22) rfl)⟩
theorem lw_p27 : lw_okq (⟨"ValleyMass$Reader", "sum", "(I)LValleyMass$Form;"⟩, 14) := ⟨⟨by decide +kernel, by decide +kernel⟩, lw_t3 (List.mem_of_getElem? (i := 161) rfl), lw_t5 (List.mem_of_getElem? (i := 26) rfl), lw_t5 (List.mem_of_getElem? (i := 27) rfl)⟩
theorem lw_p28 : lw_okq (⟨"ValleyMass$Reader", "product", "(I)LValleyMass$Form;"⟩, 14) := ⟨⟨by decide +kernel, by decide +kernel⟩, lw_t3 (List.mem_of_getElem? (i := 161) rfl), lw_t5 (List.mem_of_getElem? (i := 30) rfl), lw_t5 (List.mem_of_getElem? (i := 31) rfl)⟩
theorem lw_p29 : lw_okq (⟨"ValleyMass$Reader", "part", "(I)LValleyMass$Form;"⟩, 14) := ⟨⟨by decide +kernel, by decide +kernel⟩, lw_t3 (List.mem_of_getElem? (i := 161) rfl), lw_t5 (List.mem_of_getElem? (i := 34) rfl), lw_t5 (List.mem_of_getElem? (i := 35) rfl)⟩
theorem lw_p30 : lw_okq (⟨"ValleyMass$Reader", "sign", "()C"⟩, 14) := ⟨⟨by decide +kernel, by decide +kernel⟩, lw_t3 (List.mem_of_getElem? (i := 161) rfl), lw_t5 (List.mem_of_getElem? (i := 101) rfl), lw_t5 (List.mem_of_getElem? (i := 102) rfl)⟩
theorem lw_p31 : lw_okq (⟨"ValleyMass$Reader", "passes", "(Ljava/lang/String;)Z"⟩, 14) := ⟨⟨by decide +kernel, by decide +kernel⟩, lw_t3 (List.mem_of_getElem? (i := 161) rfl), lw_t5 (List.mem_of_getElem? (i := 184) rfl), lw_t5 (List.mem_of_getElem? (i := 185) rfl)⟩
def lw_privs_2 : List (MethodName × Nat) := [(⟨"ValleyMass$Reader", "is", "(Ljava/lang/String;)Z"⟩, 14), (⟨"ValleyMass$Reader", "singer", "(I)V"⟩, 14), (⟨"ValleyMass$Reader", "want", "(ZI)V"⟩, 14), (⟨"ValleyMass$Reader", "number", "(II)I"⟩, 14), (⟨"ValleyMass$Reader", "numberNow", "(II)I"⟩, 14), (⟨"ValleyMass$Reader", "row", "(I)V"⟩, 14), (⟨"ValleyMass$Reader", "rule", "(Z)V"⟩, 14), (⟨"ValleyMass$Reader", "expression", "(I)LValleyMass$Form;"⟩, 14), (⟨"ValleyMass$Reader", "isSign", "(C)Z"⟩, 14), (⟨"ValleyMass$Reader", "and", "(I)LValleyMass$Form;"⟩, 14), (⟨"ValleyMass$Reader", "not", "(I)LValleyMass$Form;"⟩, 14), (⟨"ValleyMass$Reader", "sum", "(I)LValleyMass$Form;"⟩, 14), (⟨"ValleyMass$Reader", "product", "(I)LValleyMass$Form;"⟩, 14), (⟨"ValleyMass$Reader", "part", "(I)LValleyMass$Form;"⟩, 14), (⟨"ValleyMass$Reader", "sign", "()C"⟩, 14), (⟨"ValleyMass$Reader", "passes", "(Ljava/lang/String;)Z"⟩, 14)]
theorem lw_r2 : ∀ q ∈ lw_privs_2, lw_okq q := List.forall_mem_cons.mpr ⟨lw_p16, List.forall_mem_cons.mpr ⟨lw_p17, List.forall_mem_cons.mpr ⟨lw_p18, List.forall_mem_cons.mpr ⟨lw_p19, List.forall_mem_cons.mpr ⟨lw_p20, List.forall_mem_cons.mpr ⟨lw_p21, List.forall_mem_cons.mpr ⟨lw_p22, List.forall_mem_cons.mpr ⟨lw_p23, List.forall_mem_cons.mpr ⟨lw_p24, List.forall_mem_cons.mpr ⟨lw_p25, List.forall_mem_cons.mpr ⟨lw_p26, List.forall_mem_cons.mpr ⟨lw_p27, List.forall_mem_cons.mpr ⟨lw_p28, List.forall_mem_cons.mpr ⟨lw_p29, List.forall_mem_cons.mpr ⟨lw_p30, List.forall_mem_cons.mpr ⟨lw_p31, fun _ h => absurd h List.not_mem_nil⟩⟩⟩⟩⟩⟩⟩⟩⟩⟩⟩⟩⟩⟩⟩⟩
theorem lw_p32 : lw_okq (⟨"ValleyMass", "aSinger", "(I)LValleyMass$Singer;"⟩, 13) := ⟨⟨by decide +kernel, by decide +kernel⟩, lw_t1 (List.mem_of_getElem? (i := 37) rfl), lw_t5 (List.mem_of_getElem? (i := 223) rfl), lw_t5 (List.mem_of_getElem? (i := 224) rfl)⟩
theorem lw_p33 : lw_okq (⟨"ValleyMass", "aPiece", "(I)[LValleyMass$Row;"⟩, 13) := ⟨⟨by decide +kernel, by decide +kernel⟩, lw_t1 (List.mem_of_getElem? (i := 37) rfl), lw_t5 (List.mem_of_getElem? (i := 234) rfl), lw_t5 (List.mem_of_getElem? (i := 235) rfl)⟩
theorem lw_p34 : lw_okq (⟨"ValleyMass", "becomes", "(III)Z"⟩, 13) := ⟨⟨by decide +kernel, by decide +kernel⟩, lw_t1 (List.mem_of_getElem? (i := 37) rfl), lw_t6 (List.mem_of_getElem? (i := 17) rfl), lw_t6 (List.mem_of_getElem? (i := 18) rfl)⟩
theorem lw_p35 : lw_okq (⟨"ValleyMass", "ofPart", "(II)I"⟩, 13) := ⟨⟨by decide +kernel, by decide +kernel⟩, lw_t1 (List.mem_of_getElem? (i := 37) rfl), lw_t6 (List.mem_of_getElem? (i := 49) rfl), lw_t6 (List.mem_of_getElem? (i := 50) rfl)⟩
theorem lw_p36 : lw_okq (⟨"ValleyMass", "movedFor", "(LValleyMass$Row;I)I"⟩, 13) := ⟨⟨by decide +kernel, by decide +kernel⟩, lw_t1 (List.mem_of_getElem? (i := 37) rfl), lw_t6 (List.mem_of_getElem? (i := 53) rfl), lw_t6 (List.mem_of_getElem? (i := 54) rfl)⟩
theorem lw_p37 : lw_okq (⟨"ValleyMass", "haveAll", "(II)Z"⟩, 13) := ⟨⟨by decide +kernel, by decide +kernel⟩, lw_t1 (List.mem_of_getElem? (i := 37) rfl), lw_t6 (List.mem_of_getElem? (i := 57) rfl), lw_t6 (List.mem_of_getElem? (i := 58) rfl)⟩
theorem lw_p38 : lw_okq (⟨"ValleyMass", "codesOf", "(II)J"⟩, 13) := ⟨⟨by decide +kernel, by decide +kernel⟩, lw_t1 (List.mem_of_getElem? (i := 37) rfl), lw_t6 (List.mem_of_getElem? (i := 99) rfl), lw_t6 (List.mem_of_getElem? (i := 100) rfl)⟩
theorem lw_p39 : lw_okq (⟨"ValleyMass", "isAsHeard", "(II)Z"⟩, 13) := ⟨⟨by decide +kernel, by decide +kernel⟩, lw_t1 (List.mem_of_getElem? (i := 37) rfl), lw_t6 (List.mem_of_getElem? (i := 126) rfl), lw_t6 (List.mem_of_getElem? (i := 127) rfl)⟩
theorem lw_p40 : lw_okq (⟨"ValleyMass", "gain", "(IIII)I"⟩, 13) := ⟨⟨by decide +kernel, by decide +kernel⟩, lw_t1 (List.mem_of_getElem? (i := 37) rfl), lw_t6 (List.mem_of_getElem? (i := 138) rfl), lw_t6 (List.mem_of_getElem? (i := 139) rfl)⟩
theorem lw_p41 : lw_okq (⟨"ValleyMass", "draw", "(I)I"⟩, 13) := ⟨⟨by decide +kernel, by decide +kernel⟩, lw_t1 (List.mem_of_getElem? (i := 37) rfl), lw_t6 (List.mem_of_getElem? (i := 154) rfl), lw_t6 (List.mem_of_getElem? (i := 155) rfl)⟩
theorem lw_p42 : lw_okq (⟨"ValleyMass", "castOf", "(LValleyMass$Row;I)I"⟩, 13) := ⟨⟨by decide +kernel, by decide +kernel⟩, lw_t1 (List.mem_of_getElem? (i := 37) rfl), lw_t6 (List.mem_of_getElem? (i := 166) rfl), lw_t6 (List.mem_of_getElem? (i := 167) rfl)⟩
theorem lw_p43 : lw_okq (⟨"ValleyMass", "isOnScale", "([LValleyMass$Row;I)Z"⟩, 13) := ⟨⟨by decide +kernel, by decide +kernel⟩, lw_t1 (List.mem_of_getElem? (i := 37) rfl), lw_t6 (List.mem_of_getElem? (i := 177) rfl), lw_t6 (List.mem_of_getElem? (i := 178) rfl)⟩
theorem lw_p44 : lw_okq (⟨"ValleyMass", "lackingIn", "(II)I"⟩, 13) := ⟨⟨by decide +kernel, by decide +kernel⟩, lw_t1 (List.mem_of_getElem? (i := 37) rfl), lw_t6 (List.mem_of_getElem? (i := 211) rfl), lw_t6 (List.mem_of_getElem? (i := 212) rfl)⟩
theorem lw_p45 : lw_okq (⟨"ValleyMassModel", "lays", "(I)V"⟩, 63) := ⟨⟨by decide +kernel, by decide +kernel⟩, lw_t7 (List.mem_of_getElem? (i := 37) rfl), lw_t8 (List.mem_of_getElem? (i := 2) rfl), lw_t8 (List.mem_of_getElem? (i := 3) rfl)⟩
theorem lw_p46 : lw_okq (⟨"ValleyMassModel", "right", "(ZI)Z"⟩, 63) := ⟨⟨by decide +kernel, by decide +kernel⟩, lw_t7 (List.mem_of_getElem? (i := 37) rfl), lw_t8 (List.mem_of_getElem? (i := 10) rfl), lw_t8 (List.mem_of_getElem? (i := 11) rfl)⟩
theorem lw_p47 : lw_okq (⟨"ValleyMassModel", "goes", "()V"⟩, 63) := ⟨⟨by decide +kernel, by decide +kernel⟩, lw_t7 (List.mem_of_getElem? (i := 37) rfl), lw_t8 (List.mem_of_getElem? (i := 14) rfl), lw_t8 (List.mem_of_getElem? (i := 15) rfl)⟩
def lw_privs_3 : List (MethodName × Nat) := [(⟨"ValleyMass", "aSinger", "(I)LValleyMass$Singer;"⟩, 13), (⟨"ValleyMass", "aPiece", "(I)[LValleyMass$Row;"⟩, 13), (⟨"ValleyMass", "becomes", "(III)Z"⟩, 13), (⟨"ValleyMass", "ofPart", "(II)I"⟩, 13), (⟨"ValleyMass", "movedFor", "(LValleyMass$Row;I)I"⟩, 13), (⟨"ValleyMass", "haveAll", "(II)Z"⟩, 13), (⟨"ValleyMass", "codesOf", "(II)J"⟩, 13), (⟨"ValleyMass", "isAsHeard", "(II)Z"⟩, 13), (⟨"ValleyMass", "gain", "(IIII)I"⟩, 13), (⟨"ValleyMass", "draw", "(I)I"⟩, 13), (⟨"ValleyMass", "castOf", "(LValleyMass$Row;I)I"⟩, 13), (⟨"ValleyMass", "isOnScale", "([LValleyMass$Row;I)Z"⟩, 13), (⟨"ValleyMass", "lackingIn", "(II)I"⟩, 13), (⟨"ValleyMassModel", "lays", "(I)V"⟩, 63), (⟨"ValleyMassModel", "right", "(ZI)Z"⟩, 63), (⟨"ValleyMassModel", "goes", "()V"⟩, 63)]
theorem lw_r3 : ∀ q ∈ lw_privs_3, lw_okq q := List.forall_mem_cons.mpr ⟨lw_p32, List.forall_mem_cons.mpr ⟨lw_p33, List.forall_mem_cons.mpr ⟨lw_p34, List.forall_mem_cons.mpr ⟨lw_p35, List.forall_mem_cons.mpr ⟨lw_p36, List.forall_mem_cons.mpr ⟨lw_p37, List.forall_mem_cons.mpr ⟨lw_p38, List.forall_mem_cons.mpr ⟨lw_p39, List.forall_mem_cons.mpr ⟨lw_p40, List.forall_mem_cons.mpr ⟨lw_p41, List.forall_mem_cons.mpr ⟨lw_p42, List.forall_mem_cons.mpr ⟨lw_p43, List.forall_mem_cons.mpr ⟨lw_p44, List.forall_mem_cons.mpr ⟨lw_p45, List.forall_mem_cons.mpr ⟨lw_p46, List.forall_mem_cons.mpr ⟨lw_p47, fun _ h => absurd h List.not_mem_nil⟩⟩⟩⟩⟩⟩⟩⟩⟩⟩⟩⟩⟩⟩⟩⟩
theorem lw_p48 : lw_okq (⟨"ValleyMassModel", "byteAt", "(I)I"⟩, 63) := ⟨⟨by decide +kernel, by decide +kernel⟩, lw_t7 (List.mem_of_getElem? (i := 37) rfl), lw_t8 (List.mem_of_getElem? (i := 18) rfl), lw_t8 (List.mem_of_getElem? (i := 19) rfl)⟩
theorem lw_p49 : lw_okq (⟨"ValleyMassModel", "isGood", "()Z"⟩, 63) := ⟨⟨by decide +kernel, by decide +kernel⟩, lw_t7 (List.mem_of_getElem? (i := 37) rfl), lw_t8 (List.mem_of_getElem? (i := 28) rfl), lw_t8 (List.mem_of_getElem? (i := 29) rfl)⟩
theorem lw_p50 : lw_okq (⟨"ValleyMassModel", "line", "()V"⟩, 63) := ⟨⟨by decide +kernel, by decide +kernel⟩, lw_t7 (List.mem_of_getElem? (i := 37) rfl), lw_t8 (List.mem_of_getElem? (i := 32) rfl), lw_t8 (List.mem_of_getElem? (i := 33) rfl)⟩
theorem lw_p51 : lw_okq (⟨"ValleyMassModel", "knownWord", "()I"⟩, 63) := ⟨⟨by decide +kernel, by decide +kernel⟩, lw_t7 (List.mem_of_getElem? (i := 37) rfl), lw_t8 (List.mem_of_getElem? (i := 36) rfl), lw_t8 (List.mem_of_getElem? (i := 37) rfl)⟩
theorem lw_p52 : lw_okq (⟨"ValleyMassModel", "readsSinger", "(I)V"⟩, 63) := ⟨⟨by decide +kernel, by decide +kernel⟩, lw_t7 (List.mem_of_getElem? (i := 37) rfl), lw_t8 (List.mem_of_getElem? (i := 47) rfl), lw_t8 (List.mem_of_getElem? (i := 48) rfl)⟩
theorem lw_p53 : lw_okq (⟨"ValleyMassModel", "wrong", "(I)V"⟩, 63) := ⟨⟨by decide +kernel, by decide +kernel⟩, lw_t7 (List.mem_of_getElem? (i := 37) rfl), lw_t8 (List.mem_of_getElem? (i := 51) rfl), lw_t8 (List.mem_of_getElem? (i := 52) rfl)⟩
theorem lw_p54 : lw_okq (⟨"ValleyMassModel", "number", "(II)I"⟩, 63) := ⟨⟨by decide +kernel, by decide +kernel⟩, lw_t7 (List.mem_of_getElem? (i := 37) rfl), lw_t8 (List.mem_of_getElem? (i := 55) rfl), lw_t8 (List.mem_of_getElem? (i := 56) rfl)⟩
theorem lw_p55 : lw_okq (⟨"ValleyMassModel", "readsRow", "(I)V"⟩, 63) := ⟨⟨by decide +kernel, by decide +kernel⟩, lw_t7 (List.mem_of_getElem? (i := 37) rfl), lw_t8 (List.mem_of_getElem? (i := 59) rfl), lw_t8 (List.mem_of_getElem? (i := 60) rfl)⟩
theorem lw_p56 : lw_okq (⟨"ValleyMassModel", "readsRule", "(I)V"⟩, 63) := ⟨⟨by decide +kernel, by decide +kernel⟩, lw_t7 (List.mem_of_getElem? (i := 37) rfl), lw_t8 (List.mem_of_getElem? (i := 63) rfl), lw_t8 (List.mem_of_getElem? (i := 64) rfl)⟩
theorem lw_p57 : lw_okq (⟨"ValleyMassModel", "expression", "(II)V"⟩, 63) := ⟨⟨by decide +kernel, by decide +kernel⟩, lw_t7 (List.mem_of_getElem? (i := 37) rfl), lw_t8 (List.mem_of_getElem? (i := 67) rfl), lw_t8 (List.mem_of_getElem? (i := 68) rfl)⟩
theorem lw_p58 : lw_okq (⟨"ValleyMassModel", "deeper", "()V"⟩, 63) := ⟨⟨by decide +kernel, by decide +kernel⟩, lw_t7 (List.mem_of_getElem? (i := 37) rfl), lw_t8 (List.mem_of_getElem? (i := 71) rfl), lw_t8 (List.mem_of_getElem? (i := 72) rfl)⟩
theorem lw_p59 : lw_okq (⟨"ValleyMassModel", "isSign", "(I)Z"⟩, 63) := ⟨⟨by decide +kernel, by decide +kernel⟩, lw_t7 (List.mem_of_getElem? (i := 37) rfl), lw_t8 (List.mem_of_getElem? (i := 75) rfl), lw_t8 (List.mem_of_getElem? (i := 76) rfl)⟩
theorem lw_p60 : lw_okq (⟨"ValleyMassModel", "operand", "(Z)V"⟩, 63) := ⟨⟨by decide +kernel, by decide +kernel⟩, lw_t7 (List.mem_of_getElem? (i := 37) rfl), lw_t8 (List.mem_of_getElem? (i := 79) rfl), lw_t8 (List.mem_of_getElem? (i := 80) rfl)⟩
theorem lw_p61 : lw_okq (⟨"ValleyMassModel", "waitsFor", "(I)V"⟩, 63) := ⟨⟨by decide +kernel, by decide +kernel⟩, lw_t7 (List.mem_of_getElem? (i := 37) rfl), lw_t8 (List.mem_of_getElem? (i := 83) rfl), lw_t8 (List.mem_of_getElem? (i := 84) rfl)⟩
theorem lw_p62 : lw_okq (⟨"ValleyMassModel", "part", "()V"⟩, 63) := ⟨⟨by decide +kernel, by decide +kernel⟩, lw_t7 (List.mem_of_getElem? (i := 37) rfl), lw_t8 (List.mem_of_getElem? (i := 87) rfl), lw_t8 (List.mem_of_getElem? (i := 88) rfl)⟩
theorem lw_p63 : lw_okq (⟨"ValleyMassModel", "puts", "(I)V"⟩, 63) := ⟨⟨by decide +kernel, by decide +kernel⟩, lw_t7 (List.mem_of_getElem? (i := 37) rfl), lw_t8 (List.mem_of_getElem? (i := 91) rfl), lw_t8 (List.mem_of_getElem? (i := 92) rfl)⟩
def lw_privs_4 : List (MethodName × Nat) := [(⟨"ValleyMassModel", "byteAt", "(I)I"⟩, 63), (⟨"ValleyMassModel", "isGood", "()Z"⟩, 63), (⟨"ValleyMassModel", "line", "()V"⟩, 63), (⟨"ValleyMassModel", "knownWord", "()I"⟩, 63), (⟨"ValleyMassModel", "readsSinger", "(I)V"⟩, 63), (⟨"ValleyMassModel", "wrong", "(I)V"⟩, 63), (⟨"ValleyMassModel", "number", "(II)I"⟩, 63), (⟨"ValleyMassModel", "readsRow", "(I)V"⟩, 63), (⟨"ValleyMassModel", "readsRule", "(I)V"⟩, 63), (⟨"ValleyMassModel", "expression", "(II)V"⟩, 63), (⟨"ValleyMassModel", "deeper", "()V"⟩, 63), (⟨"ValleyMassModel", "isSign", "(I)Z"⟩, 63), (⟨"ValleyMassModel", "operand", "(Z)V"⟩, 63), (⟨"ValleyMassModel", "waitsFor", "(I)V"⟩, 63), (⟨"ValleyMassModel", "part", "()V"⟩, 63), (⟨"ValleyMassModel", "puts", "(I)V"⟩, 63)]
theorem lw_r4 : ∀ q ∈ lw_privs_4, lw_okq q := List.forall_mem_cons.mpr ⟨lw_p48, List.forall_mem_cons.mpr ⟨lw_p49, List.forall_mem_cons.mpr ⟨lw_p50, List.forall_mem_cons.mpr ⟨lw_p51, List.forall_mem_cons.mpr ⟨lw_p52, List.forall_mem_cons.mpr ⟨lw_p53, List.forall_mem_cons.mpr ⟨lw_p54, List.forall_mem_cons.mpr ⟨lw_p55, List.forall_mem_cons.mpr ⟨lw_p56, List.forall_mem_cons.mpr ⟨lw_p57, List.forall_mem_cons.mpr ⟨lw_p58, List.forall_mem_cons.mpr ⟨lw_p59, List.forall_mem_cons.mpr ⟨lw_p60, List.forall_mem_cons.mpr ⟨lw_p61, List.forall_mem_cons.mpr ⟨lw_p62, List.forall_mem_cons.mpr ⟨lw_p63, fun _ h => absurd h List.not_mem_nil⟩⟩⟩⟩⟩⟩⟩⟩⟩⟩⟩⟩⟩⟩⟩⟩
theorem lw_p64 : lw_okq (⟨"ValleyMassModel", "drops", "(I)V"⟩, 63) := ⟨⟨by decide +kernel, by decide +kernel⟩, lw_t7 (List.mem_of_getElem? (i := 37) rfl), lw_t8 (List.mem_of_getElem? (i := 95) rfl), lw_t8 (List.mem_of_getElem? (i := 96) rfl)⟩
theorem lw_p65 : lw_okq (⟨"ValleyMassModel", "isOpened", "()Z"⟩, 63) := ⟨⟨by decide +kernel, by decide +kernel⟩, lw_t7 (List.mem_of_getElem? (i := 37) rfl), lw_t8 (List.mem_of_getElem? (i := 105) rfl), lw_t8 (List.mem_of_getElem? (i := 106) rfl)⟩
theorem lw_p66 : lw_okq (⟨"ValleyMassModel", "closes", "()V"⟩, 63) := ⟨⟨by decide +kernel, by decide +kernel⟩, lw_t7 (List.mem_of_getElem? (i := 37) rfl), lw_t8 (List.mem_of_getElem? (i := 109) rfl), lw_t8 (List.mem_of_getElem? (i := 110) rfl)⟩
theorem lw_p67 : lw_okq (⟨"ValleyMassModel", "need", "(Z)V"⟩, 63) := ⟨⟨by decide +kernel, by decide +kernel⟩, lw_t7 (List.mem_of_getElem? (i := 37) rfl), lw_t8 (List.mem_of_getElem? (i := 113) rfl), lw_t8 (List.mem_of_getElem? (i := 114) rfl)⟩
theorem lw_p68 : lw_okq (⟨"ValleyMassModel", "copies", "([I[I)V"⟩, 63) := ⟨⟨by decide +kernel, by decide +kernel⟩, lw_t7 (List.mem_of_getElem? (i := 37) rfl), lw_t8 (List.mem_of_getElem? (i := 117) rfl), lw_t8 (List.mem_of_getElem? (i := 118) rfl)⟩
theorem lw_p69 : lw_okq (⟨"ValleyMassModel", "areSo", "([II)I"⟩, 63) := ⟨⟨by decide +kernel, by decide +kernel⟩, lw_t7 (List.mem_of_getElem? (i := 37) rfl), lw_t8 (List.mem_of_getElem? (i := 136) rfl), lw_t8 (List.mem_of_getElem? (i := 137) rfl)⟩
theorem lw_p70 : lw_okq (⟨"ValleyMassModel", "sungBy", "(I)I"⟩, 63) := ⟨⟨by decide +kernel, by decide +kernel⟩, lw_t7 (List.mem_of_getElem? (i := 37) rfl), lw_t8 (List.mem_of_getElem? (i := 140) rfl), lw_t8 (List.mem_of_getElem? (i := 141) rfl)⟩
theorem lw_p71 : lw_okq (⟨"ValleyMassModel", "canBeSung", "(III)Z"⟩, 63) := ⟨⟨by decide +kernel, by decide +kernel⟩, lw_t7 (List.mem_of_getElem? (i := 37) rfl), lw_t8 (List.mem_of_getElem? (i := 144) rfl), lw_t8 (List.mem_of_getElem? (i := 145) rfl)⟩
theorem lw_p72 : lw_okq (⟨"ValleyMassModel", "hasRows", "(I)Z"⟩, 63) := ⟨⟨by decide +kernel, by decide +kernel⟩, lw_t7 (List.mem_of_getElem? (i := 37) rfl), lw_t8 (List.mem_of_getElem? (i := 148) rfl), lw_t8 (List.mem_of_getElem? (i := 149) rfl)⟩
theorem lw_p73 : lw_okq (⟨"ValleyMassModel", "ableOf", "(III)I"⟩, 63) := ⟨⟨by decide +kernel, by decide +kernel⟩, lw_t7 (List.mem_of_getElem? (i := 37) rfl), lw_t8 (List.mem_of_getElem? (i := 152) rfl), lw_t8 (List.mem_of_getElem? (i := 153) rfl)⟩
theorem lw_p74 : lw_okq (⟨"ValleyMassModel", "hasAll", "(III)Z"⟩, 63) := ⟨⟨by decide +kernel, by decide +kernel⟩, lw_t7 (List.mem_of_getElem? (i := 37) rfl), lw_t8 (List.mem_of_getElem? (i := 156) rfl), lw_t8 (List.mem_of_getElem? (i := 157) rfl)⟩
theorem lw_p75 : lw_okq (⟨"ValleyMassModel", "isSinger", "(I)Z"⟩, 63) := ⟨⟨by decide +kernel, by decide +kernel⟩, lw_t7 (List.mem_of_getElem? (i := 37) rfl), lw_t8 (List.mem_of_getElem? (i := 167) rfl), lw_t8 (List.mem_of_getElem? (i := 168) rfl)⟩
theorem lw_p76 : lw_okq (⟨"ValleyMassModel", "isWhat", "(II)Z"⟩, 63) := ⟨⟨by decide +kernel, by decide +kernel⟩, lw_t7 (List.mem_of_getElem? (i := 37) rfl), lw_t8 (List.mem_of_getElem? (i := 171) rfl), lw_t8 (List.mem_of_getElem? (i := 172) rfl)⟩
theorem lw_p77 : lw_okq (⟨"ValleyMassModel", "isPiece", "(I)Z"⟩, 63) := ⟨⟨by decide +kernel, by decide +kernel⟩, lw_t7 (List.mem_of_getElem? (i := 37) rfl), lw_t8 (List.mem_of_getElem? (i := 179) rfl), lw_t8 (List.mem_of_getElem? (i := 180) rfl)⟩
theorem lw_p78 : lw_okq (⟨"ValleyMassModel", "notesOf", "(I)I"⟩, 63) := ⟨⟨by decide +kernel, by decide +kernel⟩, lw_t7 (List.mem_of_getElem? (i := 37) rfl), lw_t8 (List.mem_of_getElem? (i := 183) rfl), lw_t8 (List.mem_of_getElem? (i := 184) rfl)⟩
theorem lw_p79 : lw_okq (⟨"ValleyMassModel", "refuses", "(I)I"⟩, 63) := ⟨⟨by decide +kernel, by decide +kernel⟩, lw_t7 (List.mem_of_getElem? (i := 37) rfl), lw_t8 (List.mem_of_getElem? (i := 195) rfl), lw_t8 (List.mem_of_getElem? (i := 196) rfl)⟩
def lw_privs_5 : List (MethodName × Nat) := [(⟨"ValleyMassModel", "drops", "(I)V"⟩, 63), (⟨"ValleyMassModel", "isOpened", "()Z"⟩, 63), (⟨"ValleyMassModel", "closes", "()V"⟩, 63), (⟨"ValleyMassModel", "need", "(Z)V"⟩, 63), (⟨"ValleyMassModel", "copies", "([I[I)V"⟩, 63), (⟨"ValleyMassModel", "areSo", "([II)I"⟩, 63), (⟨"ValleyMassModel", "sungBy", "(I)I"⟩, 63), (⟨"ValleyMassModel", "canBeSung", "(III)Z"⟩, 63), (⟨"ValleyMassModel", "hasRows", "(I)Z"⟩, 63), (⟨"ValleyMassModel", "ableOf", "(III)I"⟩, 63), (⟨"ValleyMassModel", "hasAll", "(III)Z"⟩, 63), (⟨"ValleyMassModel", "isSinger", "(I)Z"⟩, 63), (⟨"ValleyMassModel", "isWhat", "(II)Z"⟩, 63), (⟨"ValleyMassModel", "isPiece", "(I)Z"⟩, 63), (⟨"ValleyMassModel", "notesOf", "(I)I"⟩, 63), (⟨"ValleyMassModel", "refuses", "(I)I"⟩, 63)]
theorem lw_r5 : ∀ q ∈ lw_privs_5, lw_okq q := List.forall_mem_cons.mpr ⟨lw_p64, List.forall_mem_cons.mpr ⟨lw_p65, List.forall_mem_cons.mpr ⟨lw_p66, List.forall_mem_cons.mpr ⟨lw_p67, List.forall_mem_cons.mpr ⟨lw_p68, List.forall_mem_cons.mpr ⟨lw_p69, List.forall_mem_cons.mpr ⟨lw_p70, List.forall_mem_cons.mpr ⟨lw_p71, List.forall_mem_cons.mpr ⟨lw_p72, List.forall_mem_cons.mpr ⟨lw_p73, List.forall_mem_cons.mpr ⟨lw_p74, List.forall_mem_cons.mpr ⟨lw_p75, List.forall_mem_cons.mpr ⟨lw_p76, List.forall_mem_cons.mpr ⟨lw_p77, List.forall_mem_cons.mpr ⟨lw_p78, List.forall_mem_cons.mpr ⟨lw_p79, fun _ h => absurd h List.not_mem_nil⟩⟩⟩⟩⟩⟩⟩⟩⟩⟩⟩⟩⟩⟩⟩⟩
theorem lw_p80 : lw_okq (⟨"ValleyMassModel", "keeps", "()V"⟩, 63) := ⟨⟨by decide +kernel, by decide +kernel⟩, lw_t7 (List.mem_of_getElem? (i := 37) rfl), lw_t8 (List.mem_of_getElem? (i := 199) rfl), lw_t8 (List.mem_of_getElem? (i := 200) rfl)⟩
theorem lw_p81 : lw_okq (⟨"ValleyMassModel", "dayGoes", "([I)I"⟩, 63) := ⟨⟨by decide +kernel, by decide +kernel⟩, lw_t7 (List.mem_of_getElem? (i := 37) rfl), lw_t8 (List.mem_of_getElem? (i := 203) rfl), lw_t8 (List.mem_of_getElem? (i := 204) rfl)⟩
theorem lw_p82 : lw_okq (⟨"ValleyMassModel", "isHolding", "([II)Z"⟩, 63) := ⟨⟨by decide +kernel, by decide +kernel⟩, lw_t7 (List.mem_of_getElem? (i := 37) rfl), lw_t8 (List.mem_of_getElem? (i := 207) rfl), lw_t8 (List.mem_of_getElem? (i := 208) rfl)⟩
theorem lw_p83 : lw_okq (⟨"ValleyMassModel", "ofSide", "(I)I"⟩, 63) := ⟨⟨by decide +kernel, by decide +kernel⟩, lw_t7 (List.mem_of_getElem? (i := 37) rfl), lw_t8 (List.mem_of_getElem? (i := 211) rfl), lw_t8 (List.mem_of_getElem? (i := 212) rfl)⟩
theorem lw_p84 : lw_okq (⟨"ValleyMassModel", "reckons", "(I)I"⟩, 63) := ⟨⟨by decide +kernel, by decide +kernel⟩, lw_t7 (List.mem_of_getElem? (i := 37) rfl), lw_t8 (List.mem_of_getElem? (i := 215) rfl), lw_t8 (List.mem_of_getElem? (i := 216) rfl)⟩
theorem lw_p85 : lw_okq (⟨"ValleyMassModel", "aims", "([II)I"⟩, 63) := ⟨⟨by decide +kernel, by decide +kernel⟩, lw_t7 (List.mem_of_getElem? (i := 37) rfl), lw_t8 (List.mem_of_getElem? (i := 222) rfl), lw_t8 (List.mem_of_getElem? (i := 223) rfl)⟩
theorem lw_p86 : lw_okq (⟨"ValleyMassModel", "aimsFor", "([III)I"⟩, 63) := ⟨⟨by decide +kernel, by decide +kernel⟩, lw_t7 (List.mem_of_getElem? (i := 37) rfl), lw_t8 (List.mem_of_getElem? (i := 226) rfl), lw_t8 (List.mem_of_getElem? (i := 227) rfl)⟩
theorem lw_p87 : lw_okq (⟨"ValleyMassModel", "becomes", "(III)Z"⟩, 63) := ⟨⟨by decide +kernel, by decide +kernel⟩, lw_t7 (List.mem_of_getElem? (i := 37) rfl), lw_t8 (List.mem_of_getElem? (i := 234) rfl), lw_t8 (List.mem_of_getElem? (i := 235) rfl)⟩
theorem lw_p88 : lw_okq (⟨"ValleyMassModel", "movedIn", "(I)I"⟩, 63) := ⟨⟨by decide +kernel, by decide +kernel⟩, lw_t7 (List.mem_of_getElem? (i := 37) rfl), lw_t9 (List.mem_of_getElem? (i := 14) rfl), lw_t9 (List.mem_of_getElem? (i := 15) rfl)⟩
theorem lw_p89 : lw_okq (⟨"ValleyMassModel", "movedFor", "(III)I"⟩, 63) := ⟨⟨by decide +kernel, by decide +kernel⟩, lw_t7 (List.mem_of_getElem? (i := 37) rfl), lw_t9 (List.mem_of_getElem? (i := 18) rfl), lw_t9 (List.mem_of_getElem? (i := 19) rfl)⟩
theorem lw_p90 : lw_okq (⟨"ValleyMassModel", "areAtOnce", "(I)Z"⟩, 63) := ⟨⟨by decide +kernel, by decide +kernel⟩, lw_t7 (List.mem_of_getElem? (i := 37) rfl), lw_t9 (List.mem_of_getElem? (i := 50) rfl), lw_t9 (List.mem_of_getElem? (i := 51) rfl)⟩
theorem lw_p91 : lw_okq (⟨"ValleyMassModel", "isOnScale", "(II)Z"⟩, 63) := ⟨⟨by decide +kernel, by decide +kernel⟩, lw_t7 (List.mem_of_getElem? (i := 37) rfl), lw_t9 (List.mem_of_getElem? (i := 66) rfl), lw_t9 (List.mem_of_getElem? (i := 67) rfl)⟩
theorem lw_p92 : lw_okq (⟨"ValleyMassModel", "lackingIn", "(I)I"⟩, 63) := ⟨⟨by decide +kernel, by decide +kernel⟩, lw_t7 (List.mem_of_getElem? (i := 37) rfl), lw_t9 (List.mem_of_getElem? (i := 82) rfl), lw_t9 (List.mem_of_getElem? (i := 83) rfl)⟩
theorem lw_p93 : lw_okq (⟨"ValleyMassModel", "widerFor", "(II)I"⟩, 63) := ⟨⟨by decide +kernel, by decide +kernel⟩, lw_t7 (List.mem_of_getElem? (i := 37) rfl), lw_t9 (List.mem_of_getElem? (i := 90) rfl), lw_t9 (List.mem_of_getElem? (i := 91) rfl)⟩
theorem lw_p94 : lw_okq (⟨"ValleyMassModel", "codesOf", "(II)J"⟩, 63) := ⟨⟨by decide +kernel, by decide +kernel⟩, lw_t7 (List.mem_of_getElem? (i := 37) rfl), lw_t9 (List.mem_of_getElem? (i := 137) rfl), lw_t9 (List.mem_of_getElem? (i := 138) rfl)⟩
theorem lw_p95 : lw_okq (⟨"ValleyMassModel", "notesIn", "(I)I"⟩, 63) := ⟨⟨by decide +kernel, by decide +kernel⟩, lw_t7 (List.mem_of_getElem? (i := 37) rfl), lw_t9 (List.mem_of_getElem? (i := 141) rfl), lw_t9 (List.mem_of_getElem? (i := 142) rfl)⟩
def lw_privs_6 : List (MethodName × Nat) := [(⟨"ValleyMassModel", "keeps", "()V"⟩, 63), (⟨"ValleyMassModel", "dayGoes", "([I)I"⟩, 63), (⟨"ValleyMassModel", "isHolding", "([II)Z"⟩, 63), (⟨"ValleyMassModel", "ofSide", "(I)I"⟩, 63), (⟨"ValleyMassModel", "reckons", "(I)I"⟩, 63), (⟨"ValleyMassModel", "aims", "([II)I"⟩, 63), (⟨"ValleyMassModel", "aimsFor", "([III)I"⟩, 63), (⟨"ValleyMassModel", "becomes", "(III)Z"⟩, 63), (⟨"ValleyMassModel", "movedIn", "(I)I"⟩, 63), (⟨"ValleyMassModel", "movedFor", "(III)I"⟩, 63), (⟨"ValleyMassModel", "areAtOnce", "(I)Z"⟩, 63), (⟨"ValleyMassModel", "isOnScale", "(II)Z"⟩, 63), (⟨"ValleyMassModel", "lackingIn", "(I)I"⟩, 63), (⟨"ValleyMassModel", "widerFor", "(II)I"⟩, 63), (⟨"ValleyMassModel", "codesOf", "(II)J"⟩, 63), (⟨"ValleyMassModel", "notesIn", "(I)I"⟩, 63)]
theorem lw_r6 : ∀ q ∈ lw_privs_6, lw_okq q := List.forall_mem_cons.mpr ⟨lw_p80, List.forall_mem_cons.mpr ⟨lw_p81, List.forall_mem_cons.mpr ⟨lw_p82, List.forall_mem_cons.mpr ⟨lw_p83, List.forall_mem_cons.mpr ⟨lw_p84, List.forall_mem_cons.mpr ⟨lw_p85, List.forall_mem_cons.mpr ⟨lw_p86, List.forall_mem_cons.mpr ⟨lw_p87, List.forall_mem_cons.mpr ⟨lw_p88, List.forall_mem_cons.mpr ⟨lw_p89, List.forall_mem_cons.mpr ⟨lw_p90, List.forall_mem_cons.mpr ⟨lw_p91, List.forall_mem_cons.mpr ⟨lw_p92, List.forall_mem_cons.mpr ⟨lw_p93, List.forall_mem_cons.mpr ⟨lw_p94, List.forall_mem_cons.mpr ⟨lw_p95, fun _ h => absurd h List.not_mem_nil⟩⟩⟩⟩⟩⟩⟩⟩⟩⟩⟩⟩⟩⟩⟩⟩
theorem lw_p96 : lw_okq (⟨"ValleyMassModel", "isHeard", "(II)Z"⟩, 63) := ⟨⟨by decide +kernel, by decide +kernel⟩, lw_t7 (List.mem_of_getElem? (i := 37) rfl), lw_t9 (List.mem_of_getElem? (i := 163) rfl), lw_t9 (List.mem_of_getElem? (i := 164) rfl)⟩
theorem lw_p97 : lw_okq (⟨"ValleyMassModel", "lays4", "(I)V"⟩, 63) := ⟨⟨by decide +kernel, by decide +kernel⟩, lw_t7 (List.mem_of_getElem? (i := 37) rfl), lw_t9 (List.mem_of_getElem? (i := 171) rfl), lw_t9 (List.mem_of_getElem? (i := 172) rfl)⟩
theorem lw_p98 : lw_okq (⟨"ValleyMassModel", "draw", "(I)I"⟩, 63) := ⟨⟨by decide +kernel, by decide +kernel⟩, lw_t7 (List.mem_of_getElem? (i := 37) rfl), lw_t9 (List.mem_of_getElem? (i := 179) rfl), lw_t9 (List.mem_of_getElem? (i := 180) rfl)⟩
def lw_privs_7 : List (MethodName × Nat) := [(⟨"ValleyMassModel", "isHeard", "(II)Z"⟩, 63), (⟨"ValleyMassModel", "lays4", "(I)V"⟩, 63), (⟨"ValleyMassModel", "draw", "(I)I"⟩, 63)]
theorem lw_r7 : ∀ q ∈ lw_privs_7, lw_okq q := List.forall_mem_cons.mpr ⟨lw_p96, List.forall_mem_cons.mpr ⟨lw_p97, List.forall_mem_cons.mpr ⟨lw_p98, fun _ h => absurd h List.not_mem_nil⟩⟩⟩
def lw_privs : List (MethodName × Nat) := lw_privs_1 ++ (lw_privs_2 ++ (lw_privs_3 ++ (lw_privs_4 ++ (lw_privs_5 ++ (lw_privs_6 ++ (lw_privs_7))))))
def lw_tbl : List Cond := k2_sels lw_privs ++ tables_1
theorem lw_privs_ok : ∀ q ∈ lw_privs, lw_okq q := by
  show ∀ q ∈ lw_privs_1 ++ (lw_privs_2 ++ (lw_privs_3 ++ (lw_privs_4 ++ (lw_privs_5 ++ (lw_privs_6 ++ (lw_privs_7)))))), lw_okq q
  exact List.forall_mem_append.mpr ⟨lw_r1, List.forall_mem_append.mpr ⟨lw_r2, List.forall_mem_append.mpr ⟨lw_r3, List.forall_mem_append.mpr ⟨lw_r4, List.forall_mem_append.mpr ⟨lw_r5, List.forall_mem_append.mpr ⟨lw_r6, lw_r7⟩⟩⟩⟩⟩⟩
-- ===== ONE list of words for every method: the tables' words that hold all through a run =====
def lw_all : List Cond := lw_tbl.filter goodWord
/-- a word of the tables by its place: claim/WORDS.tsv -/
theorem lw_w {w : Cond} (i : Nat) (h : lw_tbl[i]? = some w) (g : goodWord w = true) : w ∈ lw_all := List.mem_filter.mpr ⟨List.mem_of_getElem? h, g⟩
theorem lw_all_tbl {w : Cond} (h : w ∈ lw_all) : w ∈ lw_tbl := (List.mem_filter.mp h).1
theorem lw_self : GoodIn lw_all lw_all := fun w h => ⟨h, good_of_word (List.mem_filter.mp h).2⟩
/-- a class's field words, by their places -/
theorem lw_in (ws : List Cond) (ps : List Nat) (hp : ws = ps.filterMap (fun i => lw_tbl[i]?)) (hg : ws.all goodWord = true) : ∀ w ∈ ws, w ∈ lw_all := by
  intro w h
  have h1 := List.all_eq_true.mp hg w h
  rw [hp] at h
  obtain ⟨i, -, hi⟩ := List.mem_filterMap.mp h
  exact lw_w i hi h1
/-- the words of a contract for the method y with code b, L locals, answer r -/
abbrev ws_ (y : MethodName) (b : ByteArray) (L : Nat) (r : Option FieldType) : List Cond := Cond.code y b L r :: lw_all
theorem lw_meth {y : MethodName} {b : ByteArray} {L : Nat} {r : Option FieldType} (h : Cond.code y b L r ∈ lw_all) : GoodIn lw_all (ws_ y b L r) := by
  intro w hw
  rcases List.mem_cons.mp hw with e | e
  · rw [e]
    exact lw_self _ h
  · exact lw_self _ e
theorem lw_app {a c : List Cond} (ha : ∀ w ∈ a, w ∈ lw_all) (hc : GoodIn lw_all c) : GoodIn lw_all (a ++ c) := by
  intro w hw
  rcases List.mem_append.mp hw with e | e
  · exact lw_self w (ha w e)
  · exact hc w e
/-- what a call through an object asks: cwV n hts (lw_V ..) -/
theorem lw_V {own : String} {idx : Nat} {C : String} {y : MethodName} {b : ByteArray} {L : Nat} {r : Option FieldType} (h1 : Cond.methodLink own idx y ∈ lw_all) (h2 : Cond.instanceMethod y ∈ lw_all) (h3 : Cond.selects C y y ∈ lw_all) (h4 : Cond.initialized C ∈ lw_all) (h5 : Cond.code y b L r ∈ lw_all) : GoodIn lw_all (wsV own idx C y (ws_ y b L r)) := by
  refine lw_app ?_ (lw_meth h5)
  intro w hw
  simp only [List.mem_cons, List.not_mem_nil, or_false] at hw
  rcases hw with e | e | e | e
  · rw [e]; exact h1
  · rw [e]; exact h2
  · rw [e]; exact h3
  · rw [e]; exact h4
/-- what a static call asks: va_cwS n hts (lw_S ..) -/
theorem lw_S {own : String} {idx : Nat} {y : MethodName} {b : ByteArray} {L : Nat} {r : Option FieldType} (h1 : Cond.methodLink own idx y ∈ lw_all) (h2 : Cond.static y ∈ lw_all) (h3 : Cond.initialized y.cls ∈ lw_all) (h4 : Cond.code y b L r ∈ lw_all) : GoodIn lw_all (va_wsS own idx y (ws_ y b L r)) := by
  refine lw_app ?_ (lw_meth h4)
  intro w hw
  simp only [List.mem_cons, List.not_mem_nil, or_false] at hw
  rcases hw with e | e | e
  · rw [e]; exact h1
  · rw [e]; exact h2
  · rw [e]; exact h3
/-- the words of a contract for a method WITH HANDLERS (hh: its table) -/
abbrev wsW_ (y : MethodName) (b : ByteArray) (L : Nat) (r : Option FieldType) (hh : List (Nat × Nat × Nat × Nat)) : List Cond := Cond.codeWith y b L r hh :: lw_all
theorem lw_methW {y : MethodName} {b : ByteArray} {L : Nat} {r : Option FieldType} {hh : List (Nat × Nat × Nat × Nat)} (h : Cond.codeWith y b L r hh ∈ lw_all) : GoodIn lw_all (wsW_ y b L r hh) := by
  intro w hw
  rcases List.mem_cons.mp hw with e | e
  · rw [e]
    exact lw_self _ h
  · exact lw_self _ e
/-- any list of words by their places (lw_in), good -/
theorem lw_good {ws : List Cond} (h : ∀ w ∈ ws, w ∈ lw_all) : GoodIn lw_all ws := fun w hw => lw_self w (h w hw)
/-- what a call of a method with handlers asks: vx_cwVW n hts (lw_VW ..), vx_cwSW n hts (lw_SW ..) -/
theorem lw_VW {own : String} {idx : Nat} {C : String} {y : MethodName} {b : ByteArray} {L : Nat} {r : Option FieldType} {hh : List (Nat × Nat × Nat × Nat)} (h1 : Cond.methodLink own idx y ∈ lw_all) (h2 : Cond.instanceMethod y ∈ lw_all) (h3 : Cond.selects C y y ∈ lw_all) (h4 : Cond.initialized C ∈ lw_all) (h5 : Cond.codeWith y b L r hh ∈ lw_all) : GoodIn lw_all (wsV own idx C y (wsW_ y b L r hh)) := by
  refine lw_app ?_ (lw_methW h5)
  intro w hw
  simp only [List.mem_cons, List.not_mem_nil, or_false] at hw
  rcases hw with e | e | e | e
  · rw [e]; exact h1
  · rw [e]; exact h2
  · rw [e]; exact h3
  · rw [e]; exact h4
theorem lw_SW {own : String} {idx : Nat} {y : MethodName} {b : ByteArray} {L : Nat} {r : Option FieldType} {hh : List (Nat × Nat × Nat × Nat)} (h1 : Cond.methodLink own idx y ∈ lw_all) (h2 : Cond.static y ∈ lw_all) (h3 : Cond.initialized y.cls ∈ lw_all) (h4 : Cond.codeWith y b L r hh ∈ lw_all) : GoodIn lw_all (va_wsS own idx y (wsW_ y b L r hh)) := by
  refine lw_app ?_ (lw_methW h4)
  intro w hw
  simp only [List.mem_cons, List.not_mem_nil, or_false] at hw
  rcases hw with e | e | e
  · rw [e]; exact h1
  · rw [e]; exact h2
  · rw [e]; exact h3
/-- a word by its place in its run of the tables -/
theorem lw_at {r : List Cond} (hr : ∀ w ∈ r, w ∈ lw_tbl) {w : Cond} (i : Nat) (h : r[i]? = some w) : w ∈ lw_tbl := hr w (List.mem_of_getElem? h)
theorem lw_g {w : Cond} (h : w ∈ lw_tbl) (g : goodWord w = true) : w ∈ lw_all := List.mem_filter.mpr ⟨h, g⟩
theorem lw_ms : ∀ w ∈ k2_sels lw_privs, w ∈ lw_tbl := fun w h => show w ∈ k2_sels lw_privs ++ tables_1 from List.mem_append_left _ h
theorem lw_m1 : ∀ w ∈ tables_1_1, w ∈ lw_tbl := fun w h => show w ∈ k2_sels lw_privs ++ tables_1 from List.mem_append_right (k2_sels lw_privs) (show w ∈ tables_1 from List.mem_append_left _ h)
theorem lw_m2 : ∀ w ∈ tables_1_2, w ∈ lw_tbl := fun w h => show w ∈ k2_sels lw_privs ++ tables_1 from List.mem_append_right (k2_sels lw_privs) (show w ∈ tables_1 from List.mem_append_right _ (List.mem_append_left _ h))
theorem lw_m3 : ∀ w ∈ tables_1_3, w ∈ lw_tbl := fun w h => show w ∈ k2_sels lw_privs ++ tables_1 from List.mem_append_right (k2_sels lw_privs) (show w ∈ tables_1 from List.mem_append_right _ (List.mem_append_right _ (List.mem_append_left _ h)))
theorem lw_m4 : ∀ w ∈ tables_1_4, w ∈ lw_tbl := fun w h => show w ∈ k2_sels lw_privs ++ tables_1 from List.mem_append_right (k2_sels lw_privs) (show w ∈ tables_1 from List.mem_append_right _ (List.mem_append_right _ (List.mem_append_right _ (List.mem_append_left _ h))))
theorem lw_m5 : ∀ w ∈ tables_1_5, w ∈ lw_tbl := fun w h => show w ∈ k2_sels lw_privs ++ tables_1 from List.mem_append_right (k2_sels lw_privs) (show w ∈ tables_1 from List.mem_append_right _ (List.mem_append_right _ (List.mem_append_right _ (List.mem_append_right _ (List.mem_append_left _ h)))))
theorem lw_m6 : ∀ w ∈ tables_1_6, w ∈ lw_tbl := fun w h => show w ∈ k2_sels lw_privs ++ tables_1 from List.mem_append_right (k2_sels lw_privs) (show w ∈ tables_1 from List.mem_append_right _ (List.mem_append_right _ (List.mem_append_right _ (List.mem_append_right _ (List.mem_append_right _ (List.mem_append_left _ h))))))
theorem lw_m7 : ∀ w ∈ tables_1_7, w ∈ lw_tbl := fun w h => show w ∈ k2_sels lw_privs ++ tables_1 from List.mem_append_right (k2_sels lw_privs) (show w ∈ tables_1 from List.mem_append_right _ (List.mem_append_right _ (List.mem_append_right _ (List.mem_append_right _ (List.mem_append_right _ (List.mem_append_right _ (List.mem_append_left _ h)))))))
theorem lw_m8 : ∀ w ∈ tables_1_8, w ∈ lw_tbl := fun w h => show w ∈ k2_sels lw_privs ++ tables_1 from List.mem_append_right (k2_sels lw_privs) (show w ∈ tables_1 from List.mem_append_right _ (List.mem_append_right _ (List.mem_append_right _ (List.mem_append_right _ (List.mem_append_right _ (List.mem_append_right _ (List.mem_append_right _ (List.mem_append_left _ h))))))))
theorem lw_m9 : ∀ w ∈ tables_1_9, w ∈ lw_tbl := fun w h => show w ∈ k2_sels lw_privs ++ tables_1 from List.mem_append_right (k2_sels lw_privs) (show w ∈ tables_1 from List.mem_append_right _ (List.mem_append_right _ (List.mem_append_right _ (List.mem_append_right _ (List.mem_append_right _ (List.mem_append_right _ (List.mem_append_right _ (List.mem_append_right _ h))))))))
theorem qs0 : (Cond.selects "ValleyMass" ⟨"ValleyMass", "refuse", "(I)I"⟩ ⟨"ValleyMass", "refuse", "(I)I"⟩) ∈ lw_all := lw_g (lw_at lw_ms 0 rfl) rfl
theorem qs1 : (Cond.selects "ValleyMass" ⟨"ValleyMass", "keep", "()V"⟩ ⟨"ValleyMass", "keep", "()V"⟩) ∈ lw_all := lw_g (lw_at lw_ms 1 rfl) rfl
theorem qs2 : (Cond.selects "java/util/ArrayList" ⟨"java/util/ArrayList", "add", "(Ljava/lang/Object;[Ljava/lang/Object;I)V"⟩ ⟨"java/util/ArrayList", "add", "(Ljava/lang/Object;[Ljava/lang/Object;I)V"⟩) ∈ lw_all := lw_g (lw_at lw_ms 2 rfl) rfl
theorem qs3 : (Cond.selects "java/util/ArrayList" ⟨"java/util/ArrayList", "grow", "()[Ljava/lang/Object;"⟩ ⟨"java/util/ArrayList", "grow", "()[Ljava/lang/Object;"⟩) ∈ lw_all := lw_g (lw_at lw_ms 3 rfl) rfl
theorem qs4 : (Cond.selects "java/util/ArrayList" ⟨"java/util/ArrayList", "grow", "(I)[Ljava/lang/Object;"⟩ ⟨"java/util/ArrayList", "grow", "(I)[Ljava/lang/Object;"⟩) ∈ lw_all := lw_g (lw_at lw_ms 4 rfl) rfl
theorem qs5 : (Cond.selects "java/util/ArrayList" ⟨"java/util/ArrayList", "fastRemove", "([Ljava/lang/Object;I)V"⟩ ⟨"java/util/ArrayList", "fastRemove", "([Ljava/lang/Object;I)V"⟩) ∈ lw_all := lw_g (lw_at lw_ms 5 rfl) rfl
theorem qs6 : (Cond.selects "ValleyMass$State" ⟨"ValleyMass$State", "worth", "(II)I"⟩ ⟨"ValleyMass$State", "worth", "(II)I"⟩) ∈ lw_all := lw_g (lw_at lw_ms 6 rfl) rfl
theorem qs7 : (Cond.selects "ValleyMass" ⟨"ValleyMass", "areSung", "(I)Z"⟩ ⟨"ValleyMass", "areSung", "(I)Z"⟩) ∈ lw_all := lw_g (lw_at lw_ms 7 rfl) rfl
theorem qs8 : (Cond.selects "ValleyMass" ⟨"ValleyMass", "able", "(III)I"⟩ ⟨"ValleyMass", "able", "(III)I"⟩) ∈ lw_all := lw_g (lw_at lw_ms 8 rfl) rfl
theorem qs9 : (Cond.selects "java/lang/Throwable" ⟨"java/lang/Throwable", "fillInStackTrace", "(I)Ljava/lang/Throwable;"⟩ ⟨"java/lang/Throwable", "fillInStackTrace", "(I)Ljava/lang/Throwable;"⟩) ∈ lw_all := lw_g (lw_at lw_ms 9 rfl) rfl
theorem qs10 : (Cond.selects "ValleyMass$Reader" ⟨"ValleyMass$Reader", "next", "()V"⟩ ⟨"ValleyMass$Reader", "next", "()V"⟩) ∈ lw_all := lw_g (lw_at lw_ms 10 rfl) rfl
theorem qs11 : (Cond.selects "ValleyMass$Reader" ⟨"ValleyMass$Reader", "here", "()I"⟩ ⟨"ValleyMass$Reader", "here", "()I"⟩) ∈ lw_all := lw_g (lw_at lw_ms 11 rfl) rfl
theorem qs12 : (Cond.selects "ValleyMass$Reader" ⟨"ValleyMass$Reader", "isLetter", "()Z"⟩ ⟨"ValleyMass$Reader", "isLetter", "()Z"⟩) ∈ lw_all := lw_g (lw_at lw_ms 12 rfl) rfl
theorem qs13 : (Cond.selects "ValleyMass$Reader" ⟨"ValleyMass$Reader", "isDigit", "()Z"⟩ ⟨"ValleyMass$Reader", "isDigit", "()Z"⟩) ∈ lw_all := lw_g (lw_at lw_ms 13 rfl) rfl
theorem qs14 : (Cond.selects "ValleyMass$Reader" ⟨"ValleyMass$Reader", "line", "()V"⟩ ⟨"ValleyMass$Reader", "line", "()V"⟩) ∈ lw_all := lw_g (lw_at lw_ms 14 rfl) rfl
theorem qs15 : (Cond.selects "ValleyMass$Reader" ⟨"ValleyMass$Reader", "which", "([Ljava/lang/String;)I"⟩ ⟨"ValleyMass$Reader", "which", "([Ljava/lang/String;)I"⟩) ∈ lw_all := lw_g (lw_at lw_ms 15 rfl) rfl
theorem qs16 : (Cond.selects "ValleyMass$Reader" ⟨"ValleyMass$Reader", "is", "(Ljava/lang/String;)Z"⟩ ⟨"ValleyMass$Reader", "is", "(Ljava/lang/String;)Z"⟩) ∈ lw_all := lw_g (lw_at lw_ms 16 rfl) rfl
theorem qs17 : (Cond.selects "ValleyMass$Reader" ⟨"ValleyMass$Reader", "singer", "(I)V"⟩ ⟨"ValleyMass$Reader", "singer", "(I)V"⟩) ∈ lw_all := lw_g (lw_at lw_ms 17 rfl) rfl
theorem qs18 : (Cond.selects "ValleyMass$Reader" ⟨"ValleyMass$Reader", "want", "(ZI)V"⟩ ⟨"ValleyMass$Reader", "want", "(ZI)V"⟩) ∈ lw_all := lw_g (lw_at lw_ms 18 rfl) rfl
theorem qs19 : (Cond.selects "ValleyMass$Reader" ⟨"ValleyMass$Reader", "number", "(II)I"⟩ ⟨"ValleyMass$Reader", "number", "(II)I"⟩) ∈ lw_all := lw_g (lw_at lw_ms 19 rfl) rfl
theorem qs20 : (Cond.selects "ValleyMass$Reader" ⟨"ValleyMass$Reader", "numberNow", "(II)I"⟩ ⟨"ValleyMass$Reader", "numberNow", "(II)I"⟩) ∈ lw_all := lw_g (lw_at lw_ms 20 rfl) rfl
theorem qs21 : (Cond.selects "ValleyMass$Reader" ⟨"ValleyMass$Reader", "row", "(I)V"⟩ ⟨"ValleyMass$Reader", "row", "(I)V"⟩) ∈ lw_all := lw_g (lw_at lw_ms 21 rfl) rfl
theorem qs22 : (Cond.selects "ValleyMass$Reader" ⟨"ValleyMass$Reader", "rule", "(Z)V"⟩ ⟨"ValleyMass$Reader", "rule", "(Z)V"⟩) ∈ lw_all := lw_g (lw_at lw_ms 22 rfl) rfl
theorem qs23 : (Cond.selects "ValleyMass$Reader" ⟨"ValleyMass$Reader", "expression", "(I)LValleyMass$Form;"⟩ ⟨"ValleyMass$Reader", "expression", "(I)LValleyMass$Form;"⟩) ∈ lw_all := lw_g (lw_at lw_ms 23 rfl) rfl
theorem qs24 : (Cond.selects "ValleyMass$Reader" ⟨"ValleyMass$Reader", "isSign", "(C)Z"⟩ ⟨"ValleyMass$Reader", "isSign", "(C)Z"⟩) ∈ lw_all := lw_g (lw_at lw_ms 24 rfl) rfl
theorem qs25 : (Cond.selects "ValleyMass$Reader" ⟨"ValleyMass$Reader", "and", "(I)LValleyMass$Form;"⟩ ⟨"ValleyMass$Reader", "and", "(I)LValleyMass$Form;"⟩) ∈ lw_all := lw_g (lw_at lw_ms 25 rfl) rfl
theorem qs26 : (Cond.selects "ValleyMass$Reader" ⟨"ValleyMass$Reader", "not", "(I)LValleyMass$Form;"⟩ ⟨"ValleyMass$Reader", "not", "(I)LValleyMass$Form;"⟩) ∈ lw_all := lw_g (lw_at lw_ms 26 rfl) rfl
theorem qs27 : (Cond.selects "ValleyMass$Reader" ⟨"ValleyMass$Reader", "sum", "(I)LValleyMass$Form;"⟩ ⟨"ValleyMass$Reader", "sum", "(I)LValleyMass$Form;"⟩) ∈ lw_all := lw_g (lw_at lw_ms 27 rfl) rfl
theorem qs28 : (Cond.selects "ValleyMass$Reader" ⟨"ValleyMass$Reader", "product", "(I)LValleyMass$Form;"⟩ ⟨"ValleyMass$Reader", "product", "(I)LValleyMass$Form;"⟩) ∈ lw_all := lw_g (lw_at lw_ms 28 rfl) rfl
theorem qs29 : (Cond.selects "ValleyMass$Reader" ⟨"ValleyMass$Reader", "part", "(I)LValleyMass$Form;"⟩ ⟨"ValleyMass$Reader", "part", "(I)LValleyMass$Form;"⟩) ∈ lw_all := lw_g (lw_at lw_ms 29 rfl) rfl
theorem qs30 : (Cond.selects "ValleyMass$Reader" ⟨"ValleyMass$Reader", "sign", "()C"⟩ ⟨"ValleyMass$Reader", "sign", "()C"⟩) ∈ lw_all := lw_g (lw_at lw_ms 30 rfl) rfl
theorem qs31 : (Cond.selects "ValleyMass$Reader" ⟨"ValleyMass$Reader", "passes", "(Ljava/lang/String;)Z"⟩ ⟨"ValleyMass$Reader", "passes", "(Ljava/lang/String;)Z"⟩) ∈ lw_all := lw_g (lw_at lw_ms 31 rfl) rfl
theorem qs32 : (Cond.selects "ValleyMass" ⟨"ValleyMass", "aSinger", "(I)LValleyMass$Singer;"⟩ ⟨"ValleyMass", "aSinger", "(I)LValleyMass$Singer;"⟩) ∈ lw_all := lw_g (lw_at lw_ms 32 rfl) rfl
theorem qs33 : (Cond.selects "ValleyMass" ⟨"ValleyMass", "aPiece", "(I)[LValleyMass$Row;"⟩ ⟨"ValleyMass", "aPiece", "(I)[LValleyMass$Row;"⟩) ∈ lw_all := lw_g (lw_at lw_ms 33 rfl) rfl
theorem qs34 : (Cond.selects "ValleyMass" ⟨"ValleyMass", "becomes", "(III)Z"⟩ ⟨"ValleyMass", "becomes", "(III)Z"⟩) ∈ lw_all := lw_g (lw_at lw_ms 34 rfl) rfl
theorem qs35 : (Cond.selects "ValleyMass" ⟨"ValleyMass", "ofPart", "(II)I"⟩ ⟨"ValleyMass", "ofPart", "(II)I"⟩) ∈ lw_all := lw_g (lw_at lw_ms 35 rfl) rfl
theorem qs36 : (Cond.selects "ValleyMass" ⟨"ValleyMass", "movedFor", "(LValleyMass$Row;I)I"⟩ ⟨"ValleyMass", "movedFor", "(LValleyMass$Row;I)I"⟩) ∈ lw_all := lw_g (lw_at lw_ms 36 rfl) rfl
theorem qs37 : (Cond.selects "ValleyMass" ⟨"ValleyMass", "haveAll", "(II)Z"⟩ ⟨"ValleyMass", "haveAll", "(II)Z"⟩) ∈ lw_all := lw_g (lw_at lw_ms 37 rfl) rfl
theorem qs38 : (Cond.selects "ValleyMass" ⟨"ValleyMass", "codesOf", "(II)J"⟩ ⟨"ValleyMass", "codesOf", "(II)J"⟩) ∈ lw_all := lw_g (lw_at lw_ms 38 rfl) rfl
theorem qs39 : (Cond.selects "ValleyMass" ⟨"ValleyMass", "isAsHeard", "(II)Z"⟩ ⟨"ValleyMass", "isAsHeard", "(II)Z"⟩) ∈ lw_all := lw_g (lw_at lw_ms 39 rfl) rfl
theorem qs40 : (Cond.selects "ValleyMass" ⟨"ValleyMass", "gain", "(IIII)I"⟩ ⟨"ValleyMass", "gain", "(IIII)I"⟩) ∈ lw_all := lw_g (lw_at lw_ms 40 rfl) rfl
theorem qs41 : (Cond.selects "ValleyMass" ⟨"ValleyMass", "draw", "(I)I"⟩ ⟨"ValleyMass", "draw", "(I)I"⟩) ∈ lw_all := lw_g (lw_at lw_ms 41 rfl) rfl
theorem qs42 : (Cond.selects "ValleyMass" ⟨"ValleyMass", "castOf", "(LValleyMass$Row;I)I"⟩ ⟨"ValleyMass", "castOf", "(LValleyMass$Row;I)I"⟩) ∈ lw_all := lw_g (lw_at lw_ms 42 rfl) rfl
theorem qs43 : (Cond.selects "ValleyMass" ⟨"ValleyMass", "isOnScale", "([LValleyMass$Row;I)Z"⟩ ⟨"ValleyMass", "isOnScale", "([LValleyMass$Row;I)Z"⟩) ∈ lw_all := lw_g (lw_at lw_ms 43 rfl) rfl
theorem qs44 : (Cond.selects "ValleyMass" ⟨"ValleyMass", "lackingIn", "(II)I"⟩ ⟨"ValleyMass", "lackingIn", "(II)I"⟩) ∈ lw_all := lw_g (lw_at lw_ms 44 rfl) rfl
theorem qs45 : (Cond.selects "ValleyMassModel" ⟨"ValleyMassModel", "lays", "(I)V"⟩ ⟨"ValleyMassModel", "lays", "(I)V"⟩) ∈ lw_all := lw_g (lw_at lw_ms 45 rfl) rfl
theorem qs46 : (Cond.selects "ValleyMassModel" ⟨"ValleyMassModel", "right", "(ZI)Z"⟩ ⟨"ValleyMassModel", "right", "(ZI)Z"⟩) ∈ lw_all := lw_g (lw_at lw_ms 46 rfl) rfl
theorem qs47 : (Cond.selects "ValleyMassModel" ⟨"ValleyMassModel", "goes", "()V"⟩ ⟨"ValleyMassModel", "goes", "()V"⟩) ∈ lw_all := lw_g (lw_at lw_ms 47 rfl) rfl
theorem qs48 : (Cond.selects "ValleyMassModel" ⟨"ValleyMassModel", "byteAt", "(I)I"⟩ ⟨"ValleyMassModel", "byteAt", "(I)I"⟩) ∈ lw_all := lw_g (lw_at lw_ms 48 rfl) rfl
theorem qs49 : (Cond.selects "ValleyMassModel" ⟨"ValleyMassModel", "isGood", "()Z"⟩ ⟨"ValleyMassModel", "isGood", "()Z"⟩) ∈ lw_all := lw_g (lw_at lw_ms 49 rfl) rfl
theorem qs50 : (Cond.selects "ValleyMassModel" ⟨"ValleyMassModel", "line", "()V"⟩ ⟨"ValleyMassModel", "line", "()V"⟩) ∈ lw_all := lw_g (lw_at lw_ms 50 rfl) rfl
theorem qs51 : (Cond.selects "ValleyMassModel" ⟨"ValleyMassModel", "knownWord", "()I"⟩ ⟨"ValleyMassModel", "knownWord", "()I"⟩) ∈ lw_all := lw_g (lw_at lw_ms 51 rfl) rfl
theorem qs52 : (Cond.selects "ValleyMassModel" ⟨"ValleyMassModel", "readsSinger", "(I)V"⟩ ⟨"ValleyMassModel", "readsSinger", "(I)V"⟩) ∈ lw_all := lw_g (lw_at lw_ms 52 rfl) rfl
theorem qs53 : (Cond.selects "ValleyMassModel" ⟨"ValleyMassModel", "wrong", "(I)V"⟩ ⟨"ValleyMassModel", "wrong", "(I)V"⟩) ∈ lw_all := lw_g (lw_at lw_ms 53 rfl) rfl
theorem qs54 : (Cond.selects "ValleyMassModel" ⟨"ValleyMassModel", "number", "(II)I"⟩ ⟨"ValleyMassModel", "number", "(II)I"⟩) ∈ lw_all := lw_g (lw_at lw_ms 54 rfl) rfl
theorem qs55 : (Cond.selects "ValleyMassModel" ⟨"ValleyMassModel", "readsRow", "(I)V"⟩ ⟨"ValleyMassModel", "readsRow", "(I)V"⟩) ∈ lw_all := lw_g (lw_at lw_ms 55 rfl) rfl
theorem qs56 : (Cond.selects "ValleyMassModel" ⟨"ValleyMassModel", "readsRule", "(I)V"⟩ ⟨"ValleyMassModel", "readsRule", "(I)V"⟩) ∈ lw_all := lw_g (lw_at lw_ms 56 rfl) rfl
theorem qs57 : (Cond.selects "ValleyMassModel" ⟨"ValleyMassModel", "expression", "(II)V"⟩ ⟨"ValleyMassModel", "expression", "(II)V"⟩) ∈ lw_all := lw_g (lw_at lw_ms 57 rfl) rfl
theorem qs58 : (Cond.selects "ValleyMassModel" ⟨"ValleyMassModel", "deeper", "()V"⟩ ⟨"ValleyMassModel", "deeper", "()V"⟩) ∈ lw_all := lw_g (lw_at lw_ms 58 rfl) rfl
theorem qs59 : (Cond.selects "ValleyMassModel" ⟨"ValleyMassModel", "isSign", "(I)Z"⟩ ⟨"ValleyMassModel", "isSign", "(I)Z"⟩) ∈ lw_all := lw_g (lw_at lw_ms 59 rfl) rfl
theorem qs60 : (Cond.selects "ValleyMassModel" ⟨"ValleyMassModel", "operand", "(Z)V"⟩ ⟨"ValleyMassModel", "operand", "(Z)V"⟩) ∈ lw_all := lw_g (lw_at lw_ms 60 rfl) rfl
theorem qs61 : (Cond.selects "ValleyMassModel" ⟨"ValleyMassModel", "waitsFor", "(I)V"⟩ ⟨"ValleyMassModel", "waitsFor", "(I)V"⟩) ∈ lw_all := lw_g (lw_at lw_ms 61 rfl) rfl
theorem qs62 : (Cond.selects "ValleyMassModel" ⟨"ValleyMassModel", "part", "()V"⟩ ⟨"ValleyMassModel", "part", "()V"⟩) ∈ lw_all := lw_g (lw_at lw_ms 62 rfl) rfl
theorem qs63 : (Cond.selects "ValleyMassModel" ⟨"ValleyMassModel", "puts", "(I)V"⟩ ⟨"ValleyMassModel", "puts", "(I)V"⟩) ∈ lw_all := lw_g (lw_at lw_ms 63 rfl) rfl
theorem qs64 : (Cond.selects "ValleyMassModel" ⟨"ValleyMassModel", "drops", "(I)V"⟩ ⟨"ValleyMassModel", "drops", "(I)V"⟩) ∈ lw_all := lw_g (lw_at lw_ms 64 rfl) rfl
theorem qs65 : (Cond.selects "ValleyMassModel" ⟨"ValleyMassModel", "isOpened", "()Z"⟩ ⟨"ValleyMassModel", "isOpened", "()Z"⟩) ∈ lw_all := lw_g (lw_at lw_ms 65 rfl) rfl
theorem qs66 : (Cond.selects "ValleyMassModel" ⟨"ValleyMassModel", "closes", "()V"⟩ ⟨"ValleyMassModel", "closes", "()V"⟩) ∈ lw_all := lw_g (lw_at lw_ms 66 rfl) rfl
theorem qs67 : (Cond.selects "ValleyMassModel" ⟨"ValleyMassModel", "need", "(Z)V"⟩ ⟨"ValleyMassModel", "need", "(Z)V"⟩) ∈ lw_all := lw_g (lw_at lw_ms 67 rfl) rfl
theorem qs68 : (Cond.selects "ValleyMassModel" ⟨"ValleyMassModel", "copies", "([I[I)V"⟩ ⟨"ValleyMassModel", "copies", "([I[I)V"⟩) ∈ lw_all := lw_g (lw_at lw_ms 68 rfl) rfl
theorem qs69 : (Cond.selects "ValleyMassModel" ⟨"ValleyMassModel", "areSo", "([II)I"⟩ ⟨"ValleyMassModel", "areSo", "([II)I"⟩) ∈ lw_all := lw_g (lw_at lw_ms 69 rfl) rfl
theorem qs70 : (Cond.selects "ValleyMassModel" ⟨"ValleyMassModel", "sungBy", "(I)I"⟩ ⟨"ValleyMassModel", "sungBy", "(I)I"⟩) ∈ lw_all := lw_g (lw_at lw_ms 70 rfl) rfl
theorem qs71 : (Cond.selects "ValleyMassModel" ⟨"ValleyMassModel", "canBeSung", "(III)Z"⟩ ⟨"ValleyMassModel", "canBeSung", "(III)Z"⟩) ∈ lw_all := lw_g (lw_at lw_ms 71 rfl) rfl
theorem qs72 : (Cond.selects "ValleyMassModel" ⟨"ValleyMassModel", "hasRows", "(I)Z"⟩ ⟨"ValleyMassModel", "hasRows", "(I)Z"⟩) ∈ lw_all := lw_g (lw_at lw_ms 72 rfl) rfl
theorem qs73 : (Cond.selects "ValleyMassModel" ⟨"ValleyMassModel", "ableOf", "(III)I"⟩ ⟨"ValleyMassModel", "ableOf", "(III)I"⟩) ∈ lw_all := lw_g (lw_at lw_ms 73 rfl) rfl
theorem qs74 : (Cond.selects "ValleyMassModel" ⟨"ValleyMassModel", "hasAll", "(III)Z"⟩ ⟨"ValleyMassModel", "hasAll", "(III)Z"⟩) ∈ lw_all := lw_g (lw_at lw_ms 74 rfl) rfl
theorem qs75 : (Cond.selects "ValleyMassModel" ⟨"ValleyMassModel", "isSinger", "(I)Z"⟩ ⟨"ValleyMassModel", "isSinger", "(I)Z"⟩) ∈ lw_all := lw_g (lw_at lw_ms 75 rfl) rfl
theorem qs76 : (Cond.selects "ValleyMassModel" ⟨"ValleyMassModel", "isWhat", "(II)Z"⟩ ⟨"ValleyMassModel", "isWhat", "(II)Z"⟩) ∈ lw_all := lw_g (lw_at lw_ms 76 rfl) rfl
theorem qs77 : (Cond.selects "ValleyMassModel" ⟨"ValleyMassModel", "isPiece", "(I)Z"⟩ ⟨"ValleyMassModel", "isPiece", "(I)Z"⟩) ∈ lw_all := lw_g (lw_at lw_ms 77 rfl) rfl
theorem qs78 : (Cond.selects "ValleyMassModel" ⟨"ValleyMassModel", "notesOf", "(I)I"⟩ ⟨"ValleyMassModel", "notesOf", "(I)I"⟩) ∈ lw_all := lw_g (lw_at lw_ms 78 rfl) rfl
theorem qs79 : (Cond.selects "ValleyMassModel" ⟨"ValleyMassModel", "refuses", "(I)I"⟩ ⟨"ValleyMassModel", "refuses", "(I)I"⟩) ∈ lw_all := lw_g (lw_at lw_ms 79 rfl) rfl
theorem qs80 : (Cond.selects "ValleyMassModel" ⟨"ValleyMassModel", "keeps", "()V"⟩ ⟨"ValleyMassModel", "keeps", "()V"⟩) ∈ lw_all := lw_g (lw_at lw_ms 80 rfl) rfl
theorem qs81 : (Cond.selects "ValleyMassModel" ⟨"ValleyMassModel", "dayGoes", "([I)I"⟩ ⟨"ValleyMassModel", "dayGoes", "([I)I"⟩) ∈ lw_all := lw_g (lw_at lw_ms 81 rfl) rfl
theorem qs82 : (Cond.selects "ValleyMassModel" ⟨"ValleyMassModel", "isHolding", "([II)Z"⟩ ⟨"ValleyMassModel", "isHolding", "([II)Z"⟩) ∈ lw_all := lw_g (lw_at lw_ms 82 rfl) rfl
theorem qs83 : (Cond.selects "ValleyMassModel" ⟨"ValleyMassModel", "ofSide", "(I)I"⟩ ⟨"ValleyMassModel", "ofSide", "(I)I"⟩) ∈ lw_all := lw_g (lw_at lw_ms 83 rfl) rfl
theorem qs84 : (Cond.selects "ValleyMassModel" ⟨"ValleyMassModel", "reckons", "(I)I"⟩ ⟨"ValleyMassModel", "reckons", "(I)I"⟩) ∈ lw_all := lw_g (lw_at lw_ms 84 rfl) rfl
theorem qs85 : (Cond.selects "ValleyMassModel" ⟨"ValleyMassModel", "aims", "([II)I"⟩ ⟨"ValleyMassModel", "aims", "([II)I"⟩) ∈ lw_all := lw_g (lw_at lw_ms 85 rfl) rfl
theorem qs86 : (Cond.selects "ValleyMassModel" ⟨"ValleyMassModel", "aimsFor", "([III)I"⟩ ⟨"ValleyMassModel", "aimsFor", "([III)I"⟩) ∈ lw_all := lw_g (lw_at lw_ms 86 rfl) rfl
theorem qs87 : (Cond.selects "ValleyMassModel" ⟨"ValleyMassModel", "becomes", "(III)Z"⟩ ⟨"ValleyMassModel", "becomes", "(III)Z"⟩) ∈ lw_all := lw_g (lw_at lw_ms 87 rfl) rfl
theorem qs88 : (Cond.selects "ValleyMassModel" ⟨"ValleyMassModel", "movedIn", "(I)I"⟩ ⟨"ValleyMassModel", "movedIn", "(I)I"⟩) ∈ lw_all := lw_g (lw_at lw_ms 88 rfl) rfl
theorem qs89 : (Cond.selects "ValleyMassModel" ⟨"ValleyMassModel", "movedFor", "(III)I"⟩ ⟨"ValleyMassModel", "movedFor", "(III)I"⟩) ∈ lw_all := lw_g (lw_at lw_ms 89 rfl) rfl
theorem qs90 : (Cond.selects "ValleyMassModel" ⟨"ValleyMassModel", "areAtOnce", "(I)Z"⟩ ⟨"ValleyMassModel", "areAtOnce", "(I)Z"⟩) ∈ lw_all := lw_g (lw_at lw_ms 90 rfl) rfl
theorem qs91 : (Cond.selects "ValleyMassModel" ⟨"ValleyMassModel", "isOnScale", "(II)Z"⟩ ⟨"ValleyMassModel", "isOnScale", "(II)Z"⟩) ∈ lw_all := lw_g (lw_at lw_ms 91 rfl) rfl
theorem qs92 : (Cond.selects "ValleyMassModel" ⟨"ValleyMassModel", "lackingIn", "(I)I"⟩ ⟨"ValleyMassModel", "lackingIn", "(I)I"⟩) ∈ lw_all := lw_g (lw_at lw_ms 92 rfl) rfl
theorem qs93 : (Cond.selects "ValleyMassModel" ⟨"ValleyMassModel", "widerFor", "(II)I"⟩ ⟨"ValleyMassModel", "widerFor", "(II)I"⟩) ∈ lw_all := lw_g (lw_at lw_ms 93 rfl) rfl
theorem qs94 : (Cond.selects "ValleyMassModel" ⟨"ValleyMassModel", "codesOf", "(II)J"⟩ ⟨"ValleyMassModel", "codesOf", "(II)J"⟩) ∈ lw_all := lw_g (lw_at lw_ms 94 rfl) rfl
theorem qs95 : (Cond.selects "ValleyMassModel" ⟨"ValleyMassModel", "notesIn", "(I)I"⟩ ⟨"ValleyMassModel", "notesIn", "(I)I"⟩) ∈ lw_all := lw_g (lw_at lw_ms 95 rfl) rfl
theorem qs96 : (Cond.selects "ValleyMassModel" ⟨"ValleyMassModel", "isHeard", "(II)Z"⟩ ⟨"ValleyMassModel", "isHeard", "(II)Z"⟩) ∈ lw_all := lw_g (lw_at lw_ms 96 rfl) rfl
theorem qs97 : (Cond.selects "ValleyMassModel" ⟨"ValleyMassModel", "lays4", "(I)V"⟩ ⟨"ValleyMassModel", "lays4", "(I)V"⟩) ∈ lw_all := lw_g (lw_at lw_ms 97 rfl) rfl
theorem qs98 : (Cond.selects "ValleyMassModel" ⟨"ValleyMassModel", "draw", "(I)I"⟩ ⟨"ValleyMassModel", "draw", "(I)I"⟩) ∈ lw_all := lw_g (lw_at lw_ms 98 rfl) rfl
