-- ===== PART A: goes FIRST, ahead of the names: the tables' words, and 'selects' of the private methods out of them =====
/-- a private method of a class that the tables say can be made, by its rows of tables_1 -/
def lw_okq (q : MethodName × Nat) : Prop := (q.1.cls ≠ "java/lang/invoke/MethodHandle" ∧ q.1.cls ≠ "java/lang/invoke/VarHandle") ∧ Cond.instantiable q.1.cls q.2 ∈ tables_1 ∧ Cond.privateMethod q.1 ∈ tables_1 ∧ Cond.instanceMethod q.1 ∈ tables_1
set_option maxRecDepth 100000
theorem lw_t1 {w : Cond} (h : w ∈ tables_1_1) : w ∈ tables_1 := List.mem_append_left _ h
theorem lw_t2 {w : Cond} (h : w ∈ tables_1_2) : w ∈ tables_1 := List.mem_append_right _ (List.mem_append_left _ h)
theorem lw_t3 {w : Cond} (h : w ∈ tables_1_3) : w ∈ tables_1 := List.mem_append_right _ (List.mem_append_right _ (List.mem_append_left _ h))
theorem lw_t4 {w : Cond} (h : w ∈ tables_1_4) : w ∈ tables_1 := List.mem_append_right _ (List.mem_append_right _ (List.mem_append_right _ (List.mem_append_left _ h)))
theorem lw_t5 {w : Cond} (h : w ∈ tables_1_5) : w ∈ tables_1 := List.mem_append_right _ (List.mem_append_right _ (List.mem_append_right _ (List.mem_append_right _ (List.mem_append_left _ h))))
theorem lw_t6 {w : Cond} (h : w ∈ tables_1_6) : w ∈ tables_1 := List.mem_append_right _ (List.mem_append_right _ (List.mem_append_right _ (List.mem_append_right _ (List.mem_append_right _ (List.mem_append_left _ h)))))
theorem lw_t7 {w : Cond} (h : w ∈ tables_1_7) : w ∈ tables_1 := List.mem_append_right _ (List.mem_append_right _ (List.mem_append_right _ (List.mem_append_right _ (List.mem_append_right _ (List.mem_append_right _ (List.mem_append_left _ h))))))
theorem lw_t8 {w : Cond} (h : w ∈ tables_1_8) : w ∈ tables_1 := List.mem_append_right _ (List.mem_append_right _ (List.mem_append_right _ (List.mem_append_right _ (List.mem_append_right _ (List.mem_append_right _ (List.mem_append_right _ (List.mem_append_left _ h)))))))
theorem lw_t9 {w : Cond} (h : w ∈ tables_1_9) : w ∈ tables_1 := List.mem_append_right _ (List.mem_append_right _ (List.mem_append_right _ (List.mem_append_right _ (List.mem_append_right _ (List.mem_append_right _ (List.mem_append_right _ (List.mem_append_right _ (List.mem_append_left _ h))))))))
theorem lw_t10 {w : Cond} (h : w ∈ tables_1_10) : w ∈ tables_1 := List.mem_append_right _ (List.mem_append_right _ (List.mem_append_right _ (List.mem_append_right _ (List.mem_append_right _ (List.mem_append_right _ (List.mem_append_right _ (List.mem_append_right _ (List.mem_append_right _ (List.mem_append_left _ h)))))))))
theorem lw_t11 {w : Cond} (h : w ∈ tables_1_11) : w ∈ tables_1 := List.mem_append_right _ (List.mem_append_right _ (List.mem_append_right _ (List.mem_append_right _ (List.mem_append_right _ (List.mem_append_right _ (List.mem_append_right _ (List.mem_append_right _ (List.mem_append_right _ (List.mem_append_right _ (List.mem_append_left _ h))))))))))
theorem lw_t12 {w : Cond} (h : w ∈ tables_1_12) : w ∈ tables_1 := List.mem_append_right _ (List.mem_append_right _ (List.mem_append_right _ (List.mem_append_right _ (List.mem_append_right _ (List.mem_append_right _ (List.mem_append_right _ (List.mem_append_right _ (List.mem_append_right _ (List.mem_append_right _ (List.mem_append_right _ h))))))))))
theorem lw_p0 : lw_okq (⟨"java/util/ArrayList", "add", "(Ljava/lang/Object;[Ljava/lang/Object;I)V"⟩, 3) := ⟨⟨by decide +kernel, by decide +kernel⟩, lw_t1 (List.mem_of_getElem? (i := 62) rfl), lw_t1 (List.mem_of_getElem? (i := 171) rfl), lw_t1 (List.mem_of_getElem? (i := 172) rfl)⟩
theorem lw_p1 : lw_okq (⟨"java/util/ArrayList", "grow", "()[Ljava/lang/Object;"⟩, 3) := ⟨⟨by decide +kernel, by decide +kernel⟩, lw_t1 (List.mem_of_getElem? (i := 62) rfl), lw_t1 (List.mem_of_getElem? (i := 175) rfl), lw_t1 (List.mem_of_getElem? (i := 176) rfl)⟩
theorem lw_p2 : lw_okq (⟨"java/util/ArrayList", "grow", "(I)[Ljava/lang/Object;"⟩, 3) := ⟨⟨by decide +kernel, by decide +kernel⟩, lw_t1 (List.mem_of_getElem? (i := 62) rfl), lw_t1 (List.mem_of_getElem? (i := 179) rfl), lw_t1 (List.mem_of_getElem? (i := 180) rfl)⟩
theorem lw_p3 : lw_okq (⟨"java/lang/Throwable", "fillInStackTrace", "(I)Ljava/lang/Throwable;"⟩, 6) := ⟨⟨by decide +kernel, by decide +kernel⟩, lw_t2 (List.mem_of_getElem? (i := 151) rfl), lw_t2 (List.mem_of_getElem? (i := 149) rfl), lw_t2 (List.mem_of_getElem? (i := 150) rfl)⟩
theorem lw_p4 : lw_okq (⟨"java/util/TreeMap", "put", "(Ljava/lang/Object;Ljava/lang/Object;Z)Ljava/lang/Object;"⟩, 9) := ⟨⟨by decide +kernel, by decide +kernel⟩, lw_t1 (List.mem_of_getElem? (i := 122) rfl), lw_t3 (List.mem_of_getElem? (i := 38) rfl), lw_t3 (List.mem_of_getElem? (i := 39) rfl)⟩
theorem lw_p5 : lw_okq (⟨"java/util/TreeMap", "addEntryToEmptyMap", "(Ljava/lang/Object;Ljava/lang/Object;)V"⟩, 9) := ⟨⟨by decide +kernel, by decide +kernel⟩, lw_t1 (List.mem_of_getElem? (i := 122) rfl), lw_t3 (List.mem_of_getElem? (i := 42) rfl), lw_t3 (List.mem_of_getElem? (i := 43) rfl)⟩
theorem lw_p6 : lw_okq (⟨"java/util/TreeMap", "addEntry", "(Ljava/lang/Object;Ljava/lang/Object;Ljava/util/TreeMap$Entry;Z)V"⟩, 9) := ⟨⟨by decide +kernel, by decide +kernel⟩, lw_t1 (List.mem_of_getElem? (i := 122) rfl), lw_t4 (List.mem_of_getElem? (i := 84) rfl), lw_t4 (List.mem_of_getElem? (i := 85) rfl)⟩
theorem lw_p7 : lw_okq (⟨"java/util/TreeMap", "fixAfterInsertion", "(Ljava/util/TreeMap$Entry;)V"⟩, 9) := ⟨⟨by decide +kernel, by decide +kernel⟩, lw_t1 (List.mem_of_getElem? (i := 122) rfl), lw_t4 (List.mem_of_getElem? (i := 88) rfl), lw_t4 (List.mem_of_getElem? (i := 89) rfl)⟩
theorem lw_p8 : lw_okq (⟨"java/util/TreeMap", "rotateLeft", "(Ljava/util/TreeMap$Entry;)V"⟩, 9) := ⟨⟨by decide +kernel, by decide +kernel⟩, lw_t1 (List.mem_of_getElem? (i := 122) rfl), lw_t4 (List.mem_of_getElem? (i := 107) rfl), lw_t4 (List.mem_of_getElem? (i := 108) rfl)⟩
theorem lw_p9 : lw_okq (⟨"java/util/TreeMap", "rotateRight", "(Ljava/util/TreeMap$Entry;)V"⟩, 9) := ⟨⟨by decide +kernel, by decide +kernel⟩, lw_t1 (List.mem_of_getElem? (i := 122) rfl), lw_t4 (List.mem_of_getElem? (i := 111) rfl), lw_t4 (List.mem_of_getElem? (i := 112) rfl)⟩
theorem lw_p10 : lw_okq (⟨"Taxmaze", "contractAt", "(I)LTaxmaze$Contract;"⟩, 20) := ⟨⟨by decide +kernel, by decide +kernel⟩, lw_t1 (List.mem_of_getElem? (i := 54) rfl), lw_t4 (List.mem_of_getElem? (i := 176) rfl), lw_t4 (List.mem_of_getElem? (i := 177) rfl)⟩
theorem lw_p11 : lw_okq (⟨"Taxmaze", "contractOn", "(II)LTaxmaze$Contract;"⟩, 20) := ⟨⟨by decide +kernel, by decide +kernel⟩, lw_t1 (List.mem_of_getElem? (i := 54) rfl), lw_t4 (List.mem_of_getElem? (i := 211) rfl), lw_t4 (List.mem_of_getElem? (i := 212) rfl)⟩
theorem lw_p12 : lw_okq (⟨"Taxmaze", "findLeave", "(I)V"⟩, 20) := ⟨⟨by decide +kernel, by decide +kernel⟩, lw_t1 (List.mem_of_getElem? (i := 54) rfl), lw_t5 (List.mem_of_getElem? (i := 102) rfl), lw_t5 (List.mem_of_getElem? (i := 103) rfl)⟩
theorem lw_p13 : lw_okq (⟨"Taxmaze$Account", "hasContractOn", "(I)Z"⟩, 4) := ⟨⟨by decide +kernel, by decide +kernel⟩, lw_t5 (List.mem_of_getElem? (i := 106) rfl), lw_t5 (List.mem_of_getElem? (i := 133) rfl), lw_t5 (List.mem_of_getElem? (i := 134) rfl)⟩
theorem lw_p14 : lw_okq (⟨"Taxmaze", "baseOf", "(LTaxmaze$Contract;I)J"⟩, 20) := ⟨⟨by decide +kernel, by decide +kernel⟩, lw_t1 (List.mem_of_getElem? (i := 54) rfl), lw_t5 (List.mem_of_getElem? (i := 150) rfl), lw_t5 (List.mem_of_getElem? (i := 151) rfl)⟩
theorem lw_p15 : lw_okq (⟨"Taxmaze$Contract", "hourly", "(I)J"⟩, 10) := ⟨⟨by decide +kernel, by decide +kernel⟩, lw_t3 (List.mem_of_getElem? (i := 18) rfl), lw_t5 (List.mem_of_getElem? (i := 168) rfl), lw_t5 (List.mem_of_getElem? (i := 169) rfl)⟩
def lw_privs_1 : List (MethodName × Nat) := [(⟨"java/util/ArrayList", "add", "(Ljava/lang/Object;[Ljava/lang/Object;I)V"⟩, 3), (⟨"java/util/ArrayList", "grow", "()[Ljava/lang/Object;"⟩, 3), (⟨"java/util/ArrayList", "grow", "(I)[Ljava/lang/Object;"⟩, 3), (⟨"java/lang/Throwable", "fillInStackTrace", "(I)Ljava/lang/Throwable;"⟩, 6), (⟨"java/util/TreeMap", "put", "(Ljava/lang/Object;Ljava/lang/Object;Z)Ljava/lang/Object;"⟩, 9), (⟨"java/util/TreeMap", "addEntryToEmptyMap", "(Ljava/lang/Object;Ljava/lang/Object;)V"⟩, 9), (⟨"java/util/TreeMap", "addEntry", "(Ljava/lang/Object;Ljava/lang/Object;Ljava/util/TreeMap$Entry;Z)V"⟩, 9), (⟨"java/util/TreeMap", "fixAfterInsertion", "(Ljava/util/TreeMap$Entry;)V"⟩, 9), (⟨"java/util/TreeMap", "rotateLeft", "(Ljava/util/TreeMap$Entry;)V"⟩, 9), (⟨"java/util/TreeMap", "rotateRight", "(Ljava/util/TreeMap$Entry;)V"⟩, 9), (⟨"Taxmaze", "contractAt", "(I)LTaxmaze$Contract;"⟩, 20), (⟨"Taxmaze", "contractOn", "(II)LTaxmaze$Contract;"⟩, 20), (⟨"Taxmaze", "findLeave", "(I)V"⟩, 20), (⟨"Taxmaze$Account", "hasContractOn", "(I)Z"⟩, 4), (⟨"Taxmaze", "baseOf", "(LTaxmaze$Contract;I)J"⟩, 20), (⟨"Taxmaze$Contract", "hourly", "(I)J"⟩, 10)]
theorem lw_r1 : ∀ q ∈ lw_privs_1, lw_okq q := List.forall_mem_cons.mpr ⟨lw_p0, List.forall_mem_cons.mpr ⟨lw_p1, List.forall_mem_cons.mpr ⟨lw_p2, List.forall_mem_cons.mpr ⟨lw_p3, List.forall_mem_cons.mpr ⟨lw_p4, List.forall_mem_cons.mpr ⟨lw_p5, List.forall_mem_cons.mpr ⟨lw_p6, List.forall_mem_cons.mpr ⟨lw_p7, List.forall_mem_cons.mpr ⟨lw_p8, List.forall_mem_cons.mpr ⟨lw_p9, List.forall_mem_cons.mpr ⟨lw_p10, List.forall_mem_cons.mpr ⟨lw_p11, List.forall_mem_cons.mpr ⟨lw_p12, List.forall_mem_cons.mpr ⟨lw_p13, List.forall_mem_cons.mpr ⟨lw_p14, List.forall_mem_cons.mpr ⟨lw_p15, fun _ h => absurd h List.not_mem_nil⟩⟩⟩⟩⟩⟩⟩⟩⟩⟩⟩⟩⟩⟩⟩⟩
theorem lw_p16 : lw_okq (⟨"Taxmaze", "high", "()I"⟩, 20) := ⟨⟨by decide +kernel, by decide +kernel⟩, lw_t1 (List.mem_of_getElem? (i := 54) rfl), lw_t6 (List.mem_of_getElem? (i := 18) rfl), lw_t6 (List.mem_of_getElem? (i := 19) rfl)⟩
theorem lw_p17 : lw_okq (⟨"java/util/PriorityQueue", "grow", "(I)V"⟩, 4) := ⟨⟨by decide +kernel, by decide +kernel⟩, lw_t6 (List.mem_of_getElem? (i := 96) rfl), lw_t6 (List.mem_of_getElem? (i := 154) rfl), lw_t6 (List.mem_of_getElem? (i := 155) rfl)⟩
theorem lw_p18 : lw_okq (⟨"java/util/PriorityQueue", "siftUp", "(ILjava/lang/Object;)V"⟩, 4) := ⟨⟨by decide +kernel, by decide +kernel⟩, lw_t6 (List.mem_of_getElem? (i := 96) rfl), lw_t6 (List.mem_of_getElem? (i := 159) rfl), lw_t6 (List.mem_of_getElem? (i := 160) rfl)⟩
theorem lw_p19 : lw_okq (⟨"Taxmaze", "taxOf", "(IIIJ)J"⟩, 20) := ⟨⟨by decide +kernel, by decide +kernel⟩, lw_t1 (List.mem_of_getElem? (i := 54) rfl), lw_t7 (List.mem_of_getElem? (i := 42) rfl), lw_t7 (List.mem_of_getElem? (i := 43) rfl)⟩
theorem lw_p20 : lw_okq (⟨"Taxmaze$Ledger", "findPlain", "(ILjava/util/List;[J)V"⟩, 18) := ⟨⟨by decide +kernel, by decide +kernel⟩, lw_t7 (List.mem_of_getElem? (i := 76) rfl), lw_t7 (List.mem_of_getElem? (i := 84) rfl), lw_t7 (List.mem_of_getElem? (i := 85) rfl)⟩
theorem lw_p21 : lw_okq (⟨"Taxmaze$Ledger", "findGross", "(I)V"⟩, 18) := ⟨⟨by decide +kernel, by decide +kernel⟩, lw_t7 (List.mem_of_getElem? (i := 76) rfl), lw_t8 (List.mem_of_getElem? (i := 160) rfl), lw_t8 (List.mem_of_getElem? (i := 161) rfl)⟩
theorem lw_p22 : lw_okq (⟨"Taxmaze$Ledger", "findTax", "(I)V"⟩, 18) := ⟨⟨by decide +kernel, by decide +kernel⟩, lw_t7 (List.mem_of_getElem? (i := 76) rfl), lw_t8 (List.mem_of_getElem? (i := 180) rfl), lw_t8 (List.mem_of_getElem? (i := 181) rfl)⟩
theorem lw_p23 : lw_okq (⟨"Taxmaze$Ledger", "findPayout", "(I)V"⟩, 18) := ⟨⟨by decide +kernel, by decide +kernel⟩, lw_t7 (List.mem_of_getElem? (i := 76) rfl), lw_t8 (List.mem_of_getElem? (i := 186) rfl), lw_t8 (List.mem_of_getElem? (i := 187) rfl)⟩
theorem lw_p24 : lw_okq (⟨"Taxmaze$Ledger", "takenBefore", "(II)J"⟩, 18) := ⟨⟨by decide +kernel, by decide +kernel⟩, lw_t7 (List.mem_of_getElem? (i := 76) rfl), lw_t8 (List.mem_of_getElem? (i := 192) rfl), lw_t8 (List.mem_of_getElem? (i := 193) rfl)⟩
theorem lw_p25 : lw_okq (⟨"java/util/ArrayList", "rangeCheckForAdd", "(I)V"⟩, 3) := ⟨⟨by decide +kernel, by decide +kernel⟩, lw_t1 (List.mem_of_getElem? (i := 62) rfl), lw_t9 (List.mem_of_getElem? (i := 133) rfl), lw_t9 (List.mem_of_getElem? (i := 134) rfl)⟩
theorem lw_p26 : lw_okq (⟨"java/util/ArrayList", "outOfBoundsMsg", "(I)Ljava/lang/String;"⟩, 3) := ⟨⟨by decide +kernel, by decide +kernel⟩, lw_t1 (List.mem_of_getElem? (i := 62) rfl), lw_t9 (List.mem_of_getElem? (i := 138) rfl), lw_t9 (List.mem_of_getElem? (i := 139) rfl)⟩
theorem lw_p27 : lw_okq (⟨"Taxmaze", "paidTo", "(I)J"⟩, 20) := ⟨⟨by decide +kernel, by decide +kernel⟩, lw_t1 (List.mem_of_getElem? (i := 54) rfl), lw_t9 (List.mem_of_getElem? (i := 194) rfl), lw_t9 (List.mem_of_getElem? (i := 195) rfl)⟩
theorem lw_p28 : lw_okq (⟨"TaxmazeModel", "isPerson", "(I)Z"⟩, 70) := ⟨⟨by decide +kernel, by decide +kernel⟩, lw_t10 (List.mem_of_getElem? (i := 15) rfl), lw_t11 (List.mem_of_getElem? (i := 0) rfl), lw_t11 (List.mem_of_getElem? (i := 1) rfl)⟩
theorem lw_p29 : lw_okq (⟨"TaxmazeModel", "in", "(JJJ)Z"⟩, 70) := ⟨⟨by decide +kernel, by decide +kernel⟩, lw_t10 (List.mem_of_getElem? (i := 15) rfl), lw_t11 (List.mem_of_getElem? (i := 5) rfl), lw_t11 (List.mem_of_getElem? (i := 6) rfl)⟩
theorem lw_p30 : lw_okq (⟨"TaxmazeModel", "isPlace", "(I)Z"⟩, 70) := ⟨⟨by decide +kernel, by decide +kernel⟩, lw_t10 (List.mem_of_getElem? (i := 15) rfl), lw_t11 (List.mem_of_getElem? (i := 9) rfl), lw_t11 (List.mem_of_getElem? (i := 10) rfl)⟩
theorem lw_p31 : lw_okq (⟨"TaxmazeModel", "isDay", "(I)Z"⟩, 70) := ⟨⟨by decide +kernel, by decide +kernel⟩, lw_t10 (List.mem_of_getElem? (i := 15) rfl), lw_t11 (List.mem_of_getElem? (i := 14) rfl), lw_t11 (List.mem_of_getElem? (i := 15) rfl)⟩
def lw_privs_2 : List (MethodName × Nat) := [(⟨"Taxmaze", "high", "()I"⟩, 20), (⟨"java/util/PriorityQueue", "grow", "(I)V"⟩, 4), (⟨"java/util/PriorityQueue", "siftUp", "(ILjava/lang/Object;)V"⟩, 4), (⟨"Taxmaze", "taxOf", "(IIIJ)J"⟩, 20), (⟨"Taxmaze$Ledger", "findPlain", "(ILjava/util/List;[J)V"⟩, 18), (⟨"Taxmaze$Ledger", "findGross", "(I)V"⟩, 18), (⟨"Taxmaze$Ledger", "findTax", "(I)V"⟩, 18), (⟨"Taxmaze$Ledger", "findPayout", "(I)V"⟩, 18), (⟨"Taxmaze$Ledger", "takenBefore", "(II)J"⟩, 18), (⟨"java/util/ArrayList", "rangeCheckForAdd", "(I)V"⟩, 3), (⟨"java/util/ArrayList", "outOfBoundsMsg", "(I)Ljava/lang/String;"⟩, 3), (⟨"Taxmaze", "paidTo", "(I)J"⟩, 20), (⟨"TaxmazeModel", "isPerson", "(I)Z"⟩, 70), (⟨"TaxmazeModel", "in", "(JJJ)Z"⟩, 70), (⟨"TaxmazeModel", "isPlace", "(I)Z"⟩, 70), (⟨"TaxmazeModel", "isDay", "(I)Z"⟩, 70)]
theorem lw_r2 : ∀ q ∈ lw_privs_2, lw_okq q := List.forall_mem_cons.mpr ⟨lw_p16, List.forall_mem_cons.mpr ⟨lw_p17, List.forall_mem_cons.mpr ⟨lw_p18, List.forall_mem_cons.mpr ⟨lw_p19, List.forall_mem_cons.mpr ⟨lw_p20, List.forall_mem_cons.mpr ⟨lw_p21, List.forall_mem_cons.mpr ⟨lw_p22, List.forall_mem_cons.mpr ⟨lw_p23, List.forall_mem_cons.mpr ⟨lw_p24, List.forall_mem_cons.mpr ⟨lw_p25, List.forall_mem_cons.mpr ⟨lw_p26, List.forall_mem_cons.mpr ⟨lw_p27, List.forall_mem_cons.mpr ⟨lw_p28, List.forall_mem_cons.mpr ⟨lw_p29, List.forall_mem_cons.mpr ⟨lw_p30, List.forall_mem_cons.mpr ⟨lw_p31, fun _ h => absurd h List.not_mem_nil⟩⟩⟩⟩⟩⟩⟩⟩⟩⟩⟩⟩⟩⟩⟩⟩
theorem lw_p32 : lw_okq (⟨"TaxmazeModel", "holds", "(I)Z"⟩, 70) := ⟨⟨by decide +kernel, by decide +kernel⟩, lw_t10 (List.mem_of_getElem? (i := 15) rfl), lw_t11 (List.mem_of_getElem? (i := 22) rfl), lw_t11 (List.mem_of_getElem? (i := 23) rfl)⟩
theorem lw_p33 : lw_okq (⟨"TaxmazeModel", "spread", "(I)V"⟩, 70) := ⟨⟨by decide +kernel, by decide +kernel⟩, lw_t10 (List.mem_of_getElem? (i := 15) rfl), lw_t11 (List.mem_of_getElem? (i := 26) rfl), lw_t11 (List.mem_of_getElem? (i := 27) rfl)⟩
theorem lw_p34 : lw_okq (⟨"TaxmazeModel", "isContract", "(I)Z"⟩, 70) := ⟨⟨by decide +kernel, by decide +kernel⟩, lw_t10 (List.mem_of_getElem? (i := 15) rfl), lw_t11 (List.mem_of_getElem? (i := 34) rfl), lw_t11 (List.mem_of_getElem? (i := 35) rfl)⟩
theorem lw_p35 : lw_okq (⟨"TaxmazeModel", "payOn", "(II)J"⟩, 70) := ⟨⟨by decide +kernel, by decide +kernel⟩, lw_t10 (List.mem_of_getElem? (i := 15) rfl), lw_t11 (List.mem_of_getElem? (i := 38) rfl), lw_t11 (List.mem_of_getElem? (i := 39) rfl)⟩
theorem lw_p36 : lw_okq (⟨"TaxmazeModel", "isOf", "(II)Z"⟩, 70) := ⟨⟨by decide +kernel, by decide +kernel⟩, lw_t10 (List.mem_of_getElem? (i := 15) rfl), lw_t11 (List.mem_of_getElem? (i := 48) rfl), lw_t11 (List.mem_of_getElem? (i := 49) rfl)⟩
theorem lw_p37 : lw_okq (⟨"TaxmazeModel", "meets", "(III)Z"⟩, 70) := ⟨⟨by decide +kernel, by decide +kernel⟩, lw_t10 (List.mem_of_getElem? (i := 15) rfl), lw_t11 (List.mem_of_getElem? (i := 52) rfl), lw_t11 (List.mem_of_getElem? (i := 53) rfl)⟩
theorem lw_p38 : lw_okq (⟨"TaxmazeModel", "over", "(II)I"⟩, 70) := ⟨⟨by decide +kernel, by decide +kernel⟩, lw_t10 (List.mem_of_getElem? (i := 15) rfl), lw_t11 (List.mem_of_getElem? (i := 65) rfl), lw_t11 (List.mem_of_getElem? (i := 66) rfl)⟩
theorem lw_p39 : lw_okq (⟨"TaxmazeModel", "isMonth", "(I)Z"⟩, 70) := ⟨⟨by decide +kernel, by decide +kernel⟩, lw_t10 (List.mem_of_getElem? (i := 15) rfl), lw_t11 (List.mem_of_getElem? (i := 73) rfl), lw_t11 (List.mem_of_getElem? (i := 74) rfl)⟩
theorem lw_p40 : lw_okq (⟨"TaxmazeModel", "takes", "(II)V"⟩, 70) := ⟨⟨by decide +kernel, by decide +kernel⟩, lw_t10 (List.mem_of_getElem? (i := 15) rfl), lw_t11 (List.mem_of_getElem? (i := 79) rfl), lw_t11 (List.mem_of_getElem? (i := 80) rfl)⟩
theorem lw_p41 : lw_okq (⟨"TaxmazeModel", "works", "(II)Z"⟩, 70) := ⟨⟨by decide +kernel, by decide +kernel⟩, lw_t10 (List.mem_of_getElem? (i := 15) rfl), lw_t11 (List.mem_of_getElem? (i := 83) rfl), lw_t11 (List.mem_of_getElem? (i := 84) rfl)⟩
theorem lw_p42 : lw_okq (⟨"TaxmazeModel", "baseOf", "(II)J"⟩, 70) := ⟨⟨by decide +kernel, by decide +kernel⟩, lw_t10 (List.mem_of_getElem? (i := 15) rfl), lw_t11 (List.mem_of_getElem? (i := 87) rfl), lw_t11 (List.mem_of_getElem? (i := 88) rfl)⟩
theorem lw_p43 : lw_okq (⟨"TaxmazeModel", "round", "(JJ)J"⟩, 70) := ⟨⟨by decide +kernel, by decide +kernel⟩, lw_t10 (List.mem_of_getElem? (i := 15) rfl), lw_t11 (List.mem_of_getElem? (i := 92) rfl), lw_t11 (List.mem_of_getElem? (i := 93) rfl)⟩
theorem lw_p44 : lw_okq (⟨"TaxmazeModel", "down", "(JJ)J"⟩, 70) := ⟨⟨by decide +kernel, by decide +kernel⟩, lw_t10 (List.mem_of_getElem? (i := 15) rfl), lw_t11 (List.mem_of_getElem? (i := 96) rfl), lw_t11 (List.mem_of_getElem? (i := 97) rfl)⟩
theorem lw_p45 : lw_okq (⟨"TaxmazeModel", "overPay", "(II)J"⟩, 70) := ⟨⟨by decide +kernel, by decide +kernel⟩, lw_t10 (List.mem_of_getElem? (i := 15) rfl), lw_t11 (List.mem_of_getElem? (i := 100) rfl), lw_t11 (List.mem_of_getElem? (i := 101) rfl)⟩
theorem lw_p46 : lw_okq (⟨"TaxmazeModel", "depth", "(I)I"⟩, 70) := ⟨⟨by decide +kernel, by decide +kernel⟩, lw_t10 (List.mem_of_getElem? (i := 15) rfl), lw_t11 (List.mem_of_getElem? (i := 126) rfl), lw_t11 (List.mem_of_getElem? (i := 127) rfl)⟩
theorem lw_p47 : lw_okq (⟨"TaxmazeModel", "rings", "(I)Z"⟩, 70) := ⟨⟨by decide +kernel, by decide +kernel⟩, lw_t10 (List.mem_of_getElem? (i := 15) rfl), lw_t11 (List.mem_of_getElem? (i := 134) rfl), lw_t11 (List.mem_of_getElem? (i := 135) rfl)⟩
def lw_privs_3 : List (MethodName × Nat) := [(⟨"TaxmazeModel", "holds", "(I)Z"⟩, 70), (⟨"TaxmazeModel", "spread", "(I)V"⟩, 70), (⟨"TaxmazeModel", "isContract", "(I)Z"⟩, 70), (⟨"TaxmazeModel", "payOn", "(II)J"⟩, 70), (⟨"TaxmazeModel", "isOf", "(II)Z"⟩, 70), (⟨"TaxmazeModel", "meets", "(III)Z"⟩, 70), (⟨"TaxmazeModel", "over", "(II)I"⟩, 70), (⟨"TaxmazeModel", "isMonth", "(I)Z"⟩, 70), (⟨"TaxmazeModel", "takes", "(II)V"⟩, 70), (⟨"TaxmazeModel", "works", "(II)Z"⟩, 70), (⟨"TaxmazeModel", "baseOf", "(II)J"⟩, 70), (⟨"TaxmazeModel", "round", "(JJ)J"⟩, 70), (⟨"TaxmazeModel", "down", "(JJ)J"⟩, 70), (⟨"TaxmazeModel", "overPay", "(II)J"⟩, 70), (⟨"TaxmazeModel", "depth", "(I)I"⟩, 70), (⟨"TaxmazeModel", "rings", "(I)Z"⟩, 70)]
theorem lw_r3 : ∀ q ∈ lw_privs_3, lw_okq q := List.forall_mem_cons.mpr ⟨lw_p32, List.forall_mem_cons.mpr ⟨lw_p33, List.forall_mem_cons.mpr ⟨lw_p34, List.forall_mem_cons.mpr ⟨lw_p35, List.forall_mem_cons.mpr ⟨lw_p36, List.forall_mem_cons.mpr ⟨lw_p37, List.forall_mem_cons.mpr ⟨lw_p38, List.forall_mem_cons.mpr ⟨lw_p39, List.forall_mem_cons.mpr ⟨lw_p40, List.forall_mem_cons.mpr ⟨lw_p41, List.forall_mem_cons.mpr ⟨lw_p42, List.forall_mem_cons.mpr ⟨lw_p43, List.forall_mem_cons.mpr ⟨lw_p44, List.forall_mem_cons.mpr ⟨lw_p45, List.forall_mem_cons.mpr ⟨lw_p46, List.forall_mem_cons.mpr ⟨lw_p47, fun _ h => absurd h List.not_mem_nil⟩⟩⟩⟩⟩⟩⟩⟩⟩⟩⟩⟩⟩⟩⟩⟩
theorem lw_p48 : lw_okq (⟨"TaxmazeModel", "needs", "(I)I"⟩, 70) := ⟨⟨by decide +kernel, by decide +kernel⟩, lw_t10 (List.mem_of_getElem? (i := 15) rfl), lw_t11 (List.mem_of_getElem? (i := 138) rfl), lw_t11 (List.mem_of_getElem? (i := 139) rfl)⟩
theorem lw_p49 : lw_okq (⟨"TaxmazeModel", "arrange", "()V"⟩, 70) := ⟨⟨by decide +kernel, by decide +kernel⟩, lw_t10 (List.mem_of_getElem? (i := 15) rfl), lw_t11 (List.mem_of_getElem? (i := 143) rfl), lw_t11 (List.mem_of_getElem? (i := 144) rfl)⟩
theorem lw_p50 : lw_okq (⟨"TaxmazeModel", "yearly", "(IIIJ)J"⟩, 70) := ⟨⟨by decide +kernel, by decide +kernel⟩, lw_t10 (List.mem_of_getElem? (i := 15) rfl), lw_t11 (List.mem_of_getElem? (i := 182) rfl), lw_t11 (List.mem_of_getElem? (i := 183) rfl)⟩
theorem lw_p51 : lw_okq (⟨"TaxmazeModel", "lastOf", "(III)I"⟩, 70) := ⟨⟨by decide +kernel, by decide +kernel⟩, lw_t10 (List.mem_of_getElem? (i := 15) rfl), lw_t11 (List.mem_of_getElem? (i := 186) rfl), lw_t11 (List.mem_of_getElem? (i := 187) rfl)⟩
theorem lw_p52 : lw_okq (⟨"TaxmazeModel", "slips", "(I)V"⟩, 70) := ⟨⟨by decide +kernel, by decide +kernel⟩, lw_t10 (List.mem_of_getElem? (i := 15) rfl), lw_t11 (List.mem_of_getElem? (i := 196) rfl), lw_t11 (List.mem_of_getElem? (i := 197) rfl)⟩
theorem lw_p53 : lw_okq (⟨"TaxmazeModel", "grossOf", "(II)V"⟩, 70) := ⟨⟨by decide +kernel, by decide +kernel⟩, lw_t10 (List.mem_of_getElem? (i := 15) rfl), lw_t11 (List.mem_of_getElem? (i := 200) rfl), lw_t11 (List.mem_of_getElem? (i := 201) rfl)⟩
theorem lw_p54 : lw_okq (⟨"TaxmazeModel", "formula", "(IJJ)J"⟩, 70) := ⟨⟨by decide +kernel, by decide +kernel⟩, lw_t10 (List.mem_of_getElem? (i := 15) rfl), lw_t11 (List.mem_of_getElem? (i := 204) rfl), lw_t11 (List.mem_of_getElem? (i := 205) rfl)⟩
theorem lw_p55 : lw_okq (⟨"TaxmazeModel", "kept", "(J)J"⟩, 70) := ⟨⟨by decide +kernel, by decide +kernel⟩, lw_t10 (List.mem_of_getElem? (i := 15) rfl), lw_t11 (List.mem_of_getElem? (i := 208) rfl), lw_t11 (List.mem_of_getElem? (i := 209) rfl)⟩
theorem lw_p56 : lw_okq (⟨"TaxmazeModel", "joined", "(IJJ)J"⟩, 70) := ⟨⟨by decide +kernel, by decide +kernel⟩, lw_t10 (List.mem_of_getElem? (i := 15) rfl), lw_t11 (List.mem_of_getElem? (i := 213) rfl), lw_t11 (List.mem_of_getElem? (i := 214) rfl)⟩
theorem lw_p57 : lw_okq (⟨"TaxmazeModel", "home", "(II)I"⟩, 70) := ⟨⟨by decide +kernel, by decide +kernel⟩, lw_t10 (List.mem_of_getElem? (i := 15) rfl), lw_t11 (List.mem_of_getElem? (i := 217) rfl), lw_t11 (List.mem_of_getElem? (i := 218) rfl)⟩
theorem lw_p58 : lw_okq (⟨"TaxmazeModel", "contribute", "(II)V"⟩, 70) := ⟨⟨by decide +kernel, by decide +kernel⟩, lw_t10 (List.mem_of_getElem? (i := 15) rfl), lw_t11 (List.mem_of_getElem? (i := 221) rfl), lw_t11 (List.mem_of_getElem? (i := 222) rfl)⟩
theorem lw_p59 : lw_okq (⟨"TaxmazeModel", "yearSum", "(III)J"⟩, 70) := ⟨⟨by decide +kernel, by decide +kernel⟩, lw_t10 (List.mem_of_getElem? (i := 15) rfl), lw_t11 (List.mem_of_getElem? (i := 225) rfl), lw_t11 (List.mem_of_getElem? (i := 226) rfl)⟩
theorem lw_p60 : lw_okq (⟨"TaxmazeModel", "taxes", "(III)V"⟩, 70) := ⟨⟨by decide +kernel, by decide +kernel⟩, lw_t10 (List.mem_of_getElem? (i := 15) rfl), lw_t11 (List.mem_of_getElem? (i := 229) rfl), lw_t11 (List.mem_of_getElem? (i := 230) rfl)⟩
theorem lw_p61 : lw_okq (⟨"TaxmazeModel", "garnished", "(II)V"⟩, 70) := ⟨⟨by decide +kernel, by decide +kernel⟩, lw_t10 (List.mem_of_getElem? (i := 15) rfl), lw_t11 (List.mem_of_getElem? (i := 233) rfl), lw_t11 (List.mem_of_getElem? (i := 234) rfl)⟩
theorem lw_p62 : lw_okq (⟨"TaxmazeModel", "sumOf", "(II)J"⟩, 70) := ⟨⟨by decide +kernel, by decide +kernel⟩, lw_t10 (List.mem_of_getElem? (i := 15) rfl), lw_t11 (List.mem_of_getElem? (i := 237) rfl), lw_t11 (List.mem_of_getElem? (i := 238) rfl)⟩
theorem lw_p63 : lw_okq (⟨"TaxmazeModel", "owes", "(II)J"⟩, 70) := ⟨⟨by decide +kernel, by decide +kernel⟩, lw_t10 (List.mem_of_getElem? (i := 15) rfl), lw_t12 (List.mem_of_getElem? (i := 37) rfl), lw_t12 (List.mem_of_getElem? (i := 38) rfl)⟩
def lw_privs_4 : List (MethodName × Nat) := [(⟨"TaxmazeModel", "needs", "(I)I"⟩, 70), (⟨"TaxmazeModel", "arrange", "()V"⟩, 70), (⟨"TaxmazeModel", "yearly", "(IIIJ)J"⟩, 70), (⟨"TaxmazeModel", "lastOf", "(III)I"⟩, 70), (⟨"TaxmazeModel", "slips", "(I)V"⟩, 70), (⟨"TaxmazeModel", "grossOf", "(II)V"⟩, 70), (⟨"TaxmazeModel", "formula", "(IJJ)J"⟩, 70), (⟨"TaxmazeModel", "kept", "(J)J"⟩, 70), (⟨"TaxmazeModel", "joined", "(IJJ)J"⟩, 70), (⟨"TaxmazeModel", "home", "(II)I"⟩, 70), (⟨"TaxmazeModel", "contribute", "(II)V"⟩, 70), (⟨"TaxmazeModel", "yearSum", "(III)J"⟩, 70), (⟨"TaxmazeModel", "taxes", "(III)V"⟩, 70), (⟨"TaxmazeModel", "garnished", "(II)V"⟩, 70), (⟨"TaxmazeModel", "sumOf", "(II)J"⟩, 70), (⟨"TaxmazeModel", "owes", "(II)J"⟩, 70)]
theorem lw_r4 : ∀ q ∈ lw_privs_4, lw_okq q := List.forall_mem_cons.mpr ⟨lw_p48, List.forall_mem_cons.mpr ⟨lw_p49, List.forall_mem_cons.mpr ⟨lw_p50, List.forall_mem_cons.mpr ⟨lw_p51, List.forall_mem_cons.mpr ⟨lw_p52, List.forall_mem_cons.mpr ⟨lw_p53, List.forall_mem_cons.mpr ⟨lw_p54, List.forall_mem_cons.mpr ⟨lw_p55, List.forall_mem_cons.mpr ⟨lw_p56, List.forall_mem_cons.mpr ⟨lw_p57, List.forall_mem_cons.mpr ⟨lw_p58, List.forall_mem_cons.mpr ⟨lw_p59, List.forall_mem_cons.mpr ⟨lw_p60, List.forall_mem_cons.mpr ⟨lw_p61, List.forall_mem_cons.mpr ⟨lw_p62, List.forall_mem_cons.mpr ⟨lw_p63, fun _ h => absurd h List.not_mem_nil⟩⟩⟩⟩⟩⟩⟩⟩⟩⟩⟩⟩⟩⟩⟩⟩
theorem lw_p64 : lw_okq (⟨"TaxmazeModel", "file", "()V"⟩, 70) := ⟨⟨by decide +kernel, by decide +kernel⟩, lw_t10 (List.mem_of_getElem? (i := 15) rfl), lw_t12 (List.mem_of_getElem? (i := 41) rfl), lw_t12 (List.mem_of_getElem? (i := 42) rfl)⟩
def lw_privs_5 : List (MethodName × Nat) := [(⟨"TaxmazeModel", "file", "()V"⟩, 70)]
theorem lw_r5 : ∀ q ∈ lw_privs_5, lw_okq q := List.forall_mem_cons.mpr ⟨lw_p64, fun _ h => absurd h List.not_mem_nil⟩
def lw_privs : List (MethodName × Nat) := lw_privs_1 ++ (lw_privs_2 ++ (lw_privs_3 ++ (lw_privs_4 ++ (lw_privs_5))))
def lw_tbl : List Cond := k2_sels lw_privs ++ tables_1
theorem lw_privs_ok : ∀ q ∈ lw_privs, lw_okq q := by
  show ∀ q ∈ lw_privs_1 ++ (lw_privs_2 ++ (lw_privs_3 ++ (lw_privs_4 ++ (lw_privs_5)))), lw_okq q
  exact List.forall_mem_append.mpr ⟨lw_r1, List.forall_mem_append.mpr ⟨lw_r2, List.forall_mem_append.mpr ⟨lw_r3, List.forall_mem_append.mpr ⟨lw_r4, lw_r5⟩⟩⟩⟩
-- ===== ONE list of words for every method: the tables' words that hold all through a run =====
def lw_all : List Cond := lw_tbl.filter goodWord
/-- a word of the tables by its place: claim/WORDS.tsv -/
theorem lw_w {w : Cond} (i : Nat) (h : lw_tbl[i]? = some w) (g : goodWord w = true) : w ∈ lw_all := List.mem_filter.mpr ⟨List.mem_of_getElem? h, g⟩
theorem lw_all_tbl {w : Cond} (h : w ∈ lw_all) : w ∈ lw_tbl := (List.mem_filter.mp h).1
theorem lw_self : GoodIn lw_all lw_all := fun w h => ⟨h, good_of_word (List.mem_filter.mp h).2⟩
/-- a class's field words, by their places -/
theorem lw_in (ws : List Cond) (ps : List Nat) (hp : ws = ps.filterMap (fun i => lw_tbl[i]?)) (hg : ws.all goodWord = true) : ∀ w ∈ ws, w ∈ lw_all := by
  intro w h
  have h1 := List.all_eq_true.mp hg w h
  rw [hp] at h
  obtain ⟨i, -, hi⟩ := List.mem_filterMap.mp h
  exact lw_w i hi h1
/-- the words of a contract for the method y with code b, L locals, answer r -/
abbrev ws_ (y : MethodName) (b : ByteArray) (L : Nat) (r : Option FieldType) : List Cond := Cond.code y b L r :: lw_all
theorem lw_meth {y : MethodName} {b : ByteArray} {L : Nat} {r : Option FieldType} (h : Cond.code y b L r ∈ lw_all) : GoodIn lw_all (ws_ y b L r) := by
  intro w hw
  rcases List.mem_cons.mp hw with e | e
  · rw [e]
    exact lw_self _ h
  · exact lw_self _ e
theorem lw_app {a c : List Cond} (ha : ∀ w ∈ a, w ∈ lw_all) (hc : GoodIn lw_all c) : GoodIn lw_all (a ++ c) := by
  intro w hw
  rcases List.mem_append.mp hw with e | e
  · exact lw_self w (ha w e)
  · exact hc w e
/-- what a call through an object asks: cwV n hts (lw_V ..) -/
theorem lw_V {own : String} {idx : Nat} {C : String} {y : MethodName} {b : ByteArray} {L : Nat} {r : Option FieldType} (h1 : Cond.methodLink own idx y ∈ lw_all) (h2 : Cond.instanceMethod y ∈ lw_all) (h3 : Cond.selects C y y ∈ lw_all) (h4 : Cond.initialized C ∈ lw_all) (h5 : Cond.code y b L r ∈ lw_all) : GoodIn lw_all (wsV own idx C y (ws_ y b L r)) := by
  refine lw_app ?_ (lw_meth h5)
  intro w hw
  simp only [List.mem_cons, List.not_mem_nil, or_false] at hw
  rcases hw with e | e | e | e
  · rw [e]; exact h1
  · rw [e]; exact h2
  · rw [e]; exact h3
  · rw [e]; exact h4
/-- what a static call asks: va_cwS n hts (lw_S ..) -/
theorem lw_S {own : String} {idx : Nat} {y : MethodName} {b : ByteArray} {L : Nat} {r : Option FieldType} (h1 : Cond.methodLink own idx y ∈ lw_all) (h2 : Cond.static y ∈ lw_all) (h3 : Cond.initialized y.cls ∈ lw_all) (h4 : Cond.code y b L r ∈ lw_all) : GoodIn lw_all (va_wsS own idx y (ws_ y b L r)) := by
  refine lw_app ?_ (lw_meth h4)
  intro w hw
  simp only [List.mem_cons, List.not_mem_nil, or_false] at hw
  rcases hw with e | e | e
  · rw [e]; exact h1
  · rw [e]; exact h2
  · rw [e]; exact h3
/-- the words of a contract for a method WITH HANDLERS (hh: its table) -/
abbrev wsW_ (y : MethodName) (b : ByteArray) (L : Nat) (r : Option FieldType) (hh : List (Nat × Nat × Nat × Nat)) : List Cond := Cond.codeWith y b L r hh :: lw_all
theorem lw_methW {y : MethodName} {b : ByteArray} {L : Nat} {r : Option FieldType} {hh : List (Nat × Nat × Nat × Nat)} (h : Cond.codeWith y b L r hh ∈ lw_all) : GoodIn lw_all (wsW_ y b L r hh) := by
  intro w hw
  rcases List.mem_cons.mp hw with e | e
  · rw [e]
    exact lw_self _ h
  · exact lw_self _ e
/-- any list of words by their places (lw_in), good -/
theorem lw_good {ws : List Cond} (h : ∀ w ∈ ws, w ∈ lw_all) : GoodIn lw_all ws := fun w hw => lw_self w (h w hw)
/-- what a call of a method with handlers asks: vx_cwVW n hts (lw_VW ..), vx_cwSW n hts (lw_SW ..) -/
theorem lw_VW {own : String} {idx : Nat} {C : String} {y : MethodName} {b : ByteArray} {L : Nat} {r : Option FieldType} {hh : List (Nat × Nat × Nat × Nat)} (h1 : Cond.methodLink own idx y ∈ lw_all) (h2 : Cond.instanceMethod y ∈ lw_all) (h3 : Cond.selects C y y ∈ lw_all) (h4 : Cond.initialized C ∈ lw_all) (h5 : Cond.codeWith y b L r hh ∈ lw_all) : GoodIn lw_all (wsV own idx C y (wsW_ y b L r hh)) := by
  refine lw_app ?_ (lw_methW h5)
  intro w hw
  simp only [List.mem_cons, List.not_mem_nil, or_false] at hw
  rcases hw with e | e | e | e
  · rw [e]; exact h1
  · rw [e]; exact h2
  · rw [e]; exact h3
  · rw [e]; exact h4
theorem lw_SW {own : String} {idx : Nat} {y : MethodName} {b : ByteArray} {L : Nat} {r : Option FieldType} {hh : List (Nat × Nat × Nat × Nat)} (h1 : Cond.methodLink own idx y ∈ lw_all) (h2 : Cond.static y ∈ lw_all) (h3 : Cond.initialized y.cls ∈ lw_all) (h4 : Cond.codeWith y b L r hh ∈ lw_all) : GoodIn lw_all (va_wsS own idx y (wsW_ y b L r hh)) := by
  refine lw_app ?_ (lw_methW h4)
  intro w hw
  simp only [List.mem_cons, List.not_mem_nil, or_false] at hw
  rcases hw with e | e | e
  · rw [e]; exact h1
  · rw [e]; exact h2
  · rw [e]; exact h3
/-- a word by its place in its run of the tables -/
theorem lw_at {r : List Cond} (hr : ∀ w ∈ r, w ∈ lw_tbl) {w : Cond} (i : Nat) (h : r[i]? = some w) : w ∈ lw_tbl := hr w (List.mem_of_getElem? h)
theorem lw_g {w : Cond} (h : w ∈ lw_tbl) (g : goodWord w = true) : w ∈ lw_all := List.mem_filter.mpr ⟨h, g⟩
theorem lw_ms : ∀ w ∈ k2_sels lw_privs, w ∈ lw_tbl := fun w h => show w ∈ k2_sels lw_privs ++ tables_1 from List.mem_append_left _ h
theorem lw_m1 : ∀ w ∈ tables_1_1, w ∈ lw_tbl := fun w h => show w ∈ k2_sels lw_privs ++ tables_1 from List.mem_append_right (k2_sels lw_privs) (show w ∈ tables_1 from List.mem_append_left _ h)
theorem lw_m2 : ∀ w ∈ tables_1_2, w ∈ lw_tbl := fun w h => show w ∈ k2_sels lw_privs ++ tables_1 from List.mem_append_right (k2_sels lw_privs) (show w ∈ tables_1 from List.mem_append_right _ (List.mem_append_left _ h))
theorem lw_m3 : ∀ w ∈ tables_1_3, w ∈ lw_tbl := fun w h => show w ∈ k2_sels lw_privs ++ tables_1 from List.mem_append_right (k2_sels lw_privs) (show w ∈ tables_1 from List.mem_append_right _ (List.mem_append_right _ (List.mem_append_left _ h)))
theorem lw_m4 : ∀ w ∈ tables_1_4, w ∈ lw_tbl := fun w h => show w ∈ k2_sels lw_privs ++ tables_1 from List.mem_append_right (k2_sels lw_privs) (show w ∈ tables_1 from List.mem_append_right _ (List.mem_append_right _ (List.mem_append_right _ (List.mem_append_left _ h))))
theorem lw_m5 : ∀ w ∈ tables_1_5, w ∈ lw_tbl := fun w h => show w ∈ k2_sels lw_privs ++ tables_1 from List.mem_append_right (k2_sels lw_privs) (show w ∈ tables_1 from List.mem_append_right _ (List.mem_append_right _ (List.mem_append_right _ (List.mem_append_right _ (List.mem_append_left _ h)))))
theorem lw_m6 : ∀ w ∈ tables_1_6, w ∈ lw_tbl := fun w h => show w ∈ k2_sels lw_privs ++ tables_1 from List.mem_append_right (k2_sels lw_privs) (show w ∈ tables_1 from List.mem_append_right _ (List.mem_append_right _ (List.mem_append_right _ (List.mem_append_right _ (List.mem_append_right _ (List.mem_append_left _ h))))))
theorem lw_m7 : ∀ w ∈ tables_1_7, w ∈ lw_tbl := fun w h => show w ∈ k2_sels lw_privs ++ tables_1 from List.mem_append_right (k2_sels lw_privs) (show w ∈ tables_1 from List.mem_append_right _ (List.mem_append_right _ (List.mem_append_right _ (List.mem_append_right _ (List.mem_append_right _ (List.mem_append_right _ (List.mem_append_left _ h)))))))
theorem lw_m8 : ∀ w ∈ tables_1_8, w ∈ lw_tbl := fun w h => show w ∈ k2_sels lw_privs ++ tables_1 from List.mem_append_right (k2_sels lw_privs) (show w ∈ tables_1 from List.mem_append_right _ (List.mem_append_right _ (List.mem_append_right _ (List.mem_append_right _ (List.mem_append_right _ (List.mem_append_right _ (List.mem_append_right _ (List.mem_append_left _ h))))))))
theorem lw_m9 : ∀ w ∈ tables_1_9, w ∈ lw_tbl := fun w h => show w ∈ k2_sels lw_privs ++ tables_1 from List.mem_append_right (k2_sels lw_privs) (show w ∈ tables_1 from List.mem_append_right _ (List.mem_append_right _ (List.mem_append_right _ (List.mem_append_right _ (List.mem_append_right _ (List.mem_append_right _ (List.mem_append_right _ (List.mem_append_right _ (List.mem_append_left _ h)))))))))
theorem lw_m10 : ∀ w ∈ tables_1_10, w ∈ lw_tbl := fun w h => show w ∈ k2_sels lw_privs ++ tables_1 from List.mem_append_right (k2_sels lw_privs) (show w ∈ tables_1 from List.mem_append_right _ (List.mem_append_right _ (List.mem_append_right _ (List.mem_append_right _ (List.mem_append_right _ (List.mem_append_right _ (List.mem_append_right _ (List.mem_append_right _ (List.mem_append_right _ (List.mem_append_left _ h))))))))))
theorem lw_m11 : ∀ w ∈ tables_1_11, w ∈ lw_tbl := fun w h => show w ∈ k2_sels lw_privs ++ tables_1 from List.mem_append_right (k2_sels lw_privs) (show w ∈ tables_1 from List.mem_append_right _ (List.mem_append_right _ (List.mem_append_right _ (List.mem_append_right _ (List.mem_append_right _ (List.mem_append_right _ (List.mem_append_right _ (List.mem_append_right _ (List.mem_append_right _ (List.mem_append_right _ (List.mem_append_left _ h)))))))))))
theorem lw_m12 : ∀ w ∈ tables_1_12, w ∈ lw_tbl := fun w h => show w ∈ k2_sels lw_privs ++ tables_1 from List.mem_append_right (k2_sels lw_privs) (show w ∈ tables_1 from List.mem_append_right _ (List.mem_append_right _ (List.mem_append_right _ (List.mem_append_right _ (List.mem_append_right _ (List.mem_append_right _ (List.mem_append_right _ (List.mem_append_right _ (List.mem_append_right _ (List.mem_append_right _ (List.mem_append_right _ h)))))))))))
theorem qs0 : (Cond.selects "java/util/ArrayList" ⟨"java/util/ArrayList", "add", "(Ljava/lang/Object;[Ljava/lang/Object;I)V"⟩ ⟨"java/util/ArrayList", "add", "(Ljava/lang/Object;[Ljava/lang/Object;I)V"⟩) ∈ lw_all := lw_g (lw_at lw_ms 0 rfl) rfl
theorem qs1 : (Cond.selects "java/util/ArrayList" ⟨"java/util/ArrayList", "grow", "()[Ljava/lang/Object;"⟩ ⟨"java/util/ArrayList", "grow", "()[Ljava/lang/Object;"⟩) ∈ lw_all := lw_g (lw_at lw_ms 1 rfl) rfl
theorem qs2 : (Cond.selects "java/util/ArrayList" ⟨"java/util/ArrayList", "grow", "(I)[Ljava/lang/Object;"⟩ ⟨"java/util/ArrayList", "grow", "(I)[Ljava/lang/Object;"⟩) ∈ lw_all := lw_g (lw_at lw_ms 2 rfl) rfl
theorem qs3 : (Cond.selects "java/lang/Throwable" ⟨"java/lang/Throwable", "fillInStackTrace", "(I)Ljava/lang/Throwable;"⟩ ⟨"java/lang/Throwable", "fillInStackTrace", "(I)Ljava/lang/Throwable;"⟩) ∈ lw_all := lw_g (lw_at lw_ms 3 rfl) rfl
theorem qs4 : (Cond.selects "java/util/TreeMap" ⟨"java/util/TreeMap", "put", "(Ljava/lang/Object;Ljava/lang/Object;Z)Ljava/lang/Object;"⟩ ⟨"java/util/TreeMap", "put", "(Ljava/lang/Object;Ljava/lang/Object;Z)Ljava/lang/Object;"⟩) ∈ lw_all := lw_g (lw_at lw_ms 4 rfl) rfl
theorem qs5 : (Cond.selects "java/util/TreeMap" ⟨"java/util/TreeMap", "addEntryToEmptyMap", "(Ljava/lang/Object;Ljava/lang/Object;)V"⟩ ⟨"java/util/TreeMap", "addEntryToEmptyMap", "(Ljava/lang/Object;Ljava/lang/Object;)V"⟩) ∈ lw_all := lw_g (lw_at lw_ms 5 rfl) rfl
theorem qs6 : (Cond.selects "java/util/TreeMap" ⟨"java/util/TreeMap", "addEntry", "(Ljava/lang/Object;Ljava/lang/Object;Ljava/util/TreeMap$Entry;Z)V"⟩ ⟨"java/util/TreeMap", "addEntry", "(Ljava/lang/Object;Ljava/lang/Object;Ljava/util/TreeMap$Entry;Z)V"⟩) ∈ lw_all := lw_g (lw_at lw_ms 6 rfl) rfl
theorem qs7 : (Cond.selects "java/util/TreeMap" ⟨"java/util/TreeMap", "fixAfterInsertion", "(Ljava/util/TreeMap$Entry;)V"⟩ ⟨"java/util/TreeMap", "fixAfterInsertion", "(Ljava/util/TreeMap$Entry;)V"⟩) ∈ lw_all := lw_g (lw_at lw_ms 7 rfl) rfl
theorem qs8 : (Cond.selects "java/util/TreeMap" ⟨"java/util/TreeMap", "rotateLeft", "(Ljava/util/TreeMap$Entry;)V"⟩ ⟨"java/util/TreeMap", "rotateLeft", "(Ljava/util/TreeMap$Entry;)V"⟩) ∈ lw_all := lw_g (lw_at lw_ms 8 rfl) rfl
theorem qs9 : (Cond.selects "java/util/TreeMap" ⟨"java/util/TreeMap", "rotateRight", "(Ljava/util/TreeMap$Entry;)V"⟩ ⟨"java/util/TreeMap", "rotateRight", "(Ljava/util/TreeMap$Entry;)V"⟩) ∈ lw_all := lw_g (lw_at lw_ms 9 rfl) rfl
theorem qs10 : (Cond.selects "Taxmaze" ⟨"Taxmaze", "contractAt", "(I)LTaxmaze$Contract;"⟩ ⟨"Taxmaze", "contractAt", "(I)LTaxmaze$Contract;"⟩) ∈ lw_all := lw_g (lw_at lw_ms 10 rfl) rfl
theorem qs11 : (Cond.selects "Taxmaze" ⟨"Taxmaze", "contractOn", "(II)LTaxmaze$Contract;"⟩ ⟨"Taxmaze", "contractOn", "(II)LTaxmaze$Contract;"⟩) ∈ lw_all := lw_g (lw_at lw_ms 11 rfl) rfl
theorem qs12 : (Cond.selects "Taxmaze" ⟨"Taxmaze", "findLeave", "(I)V"⟩ ⟨"Taxmaze", "findLeave", "(I)V"⟩) ∈ lw_all := lw_g (lw_at lw_ms 12 rfl) rfl
theorem qs13 : (Cond.selects "Taxmaze$Account" ⟨"Taxmaze$Account", "hasContractOn", "(I)Z"⟩ ⟨"Taxmaze$Account", "hasContractOn", "(I)Z"⟩) ∈ lw_all := lw_g (lw_at lw_ms 13 rfl) rfl
theorem qs14 : (Cond.selects "Taxmaze" ⟨"Taxmaze", "baseOf", "(LTaxmaze$Contract;I)J"⟩ ⟨"Taxmaze", "baseOf", "(LTaxmaze$Contract;I)J"⟩) ∈ lw_all := lw_g (lw_at lw_ms 14 rfl) rfl
theorem qs15 : (Cond.selects "Taxmaze$Contract" ⟨"Taxmaze$Contract", "hourly", "(I)J"⟩ ⟨"Taxmaze$Contract", "hourly", "(I)J"⟩) ∈ lw_all := lw_g (lw_at lw_ms 15 rfl) rfl
theorem qs16 : (Cond.selects "Taxmaze" ⟨"Taxmaze", "high", "()I"⟩ ⟨"Taxmaze", "high", "()I"⟩) ∈ lw_all := lw_g (lw_at lw_ms 16 rfl) rfl
theorem qs17 : (Cond.selects "java/util/PriorityQueue" ⟨"java/util/PriorityQueue", "grow", "(I)V"⟩ ⟨"java/util/PriorityQueue", "grow", "(I)V"⟩) ∈ lw_all := lw_g (lw_at lw_ms 17 rfl) rfl
theorem qs18 : (Cond.selects "java/util/PriorityQueue" ⟨"java/util/PriorityQueue", "siftUp", "(ILjava/lang/Object;)V"⟩ ⟨"java/util/PriorityQueue", "siftUp", "(ILjava/lang/Object;)V"⟩) ∈ lw_all := lw_g (lw_at lw_ms 18 rfl) rfl
theorem qs19 : (Cond.selects "Taxmaze" ⟨"Taxmaze", "taxOf", "(IIIJ)J"⟩ ⟨"Taxmaze", "taxOf", "(IIIJ)J"⟩) ∈ lw_all := lw_g (lw_at lw_ms 19 rfl) rfl
theorem qs20 : (Cond.selects "Taxmaze$Ledger" ⟨"Taxmaze$Ledger", "findPlain", "(ILjava/util/List;[J)V"⟩ ⟨"Taxmaze$Ledger", "findPlain", "(ILjava/util/List;[J)V"⟩) ∈ lw_all := lw_g (lw_at lw_ms 20 rfl) rfl
theorem qs21 : (Cond.selects "Taxmaze$Ledger" ⟨"Taxmaze$Ledger", "findGross", "(I)V"⟩ ⟨"Taxmaze$Ledger", "findGross", "(I)V"⟩) ∈ lw_all := lw_g (lw_at lw_ms 21 rfl) rfl
theorem qs22 : (Cond.selects "Taxmaze$Ledger" ⟨"Taxmaze$Ledger", "findTax", "(I)V"⟩ ⟨"Taxmaze$Ledger", "findTax", "(I)V"⟩) ∈ lw_all := lw_g (lw_at lw_ms 22 rfl) rfl
theorem qs23 : (Cond.selects "Taxmaze$Ledger" ⟨"Taxmaze$Ledger", "findPayout", "(I)V"⟩ ⟨"Taxmaze$Ledger", "findPayout", "(I)V"⟩) ∈ lw_all := lw_g (lw_at lw_ms 23 rfl) rfl
theorem qs24 : (Cond.selects "Taxmaze$Ledger" ⟨"Taxmaze$Ledger", "takenBefore", "(II)J"⟩ ⟨"Taxmaze$Ledger", "takenBefore", "(II)J"⟩) ∈ lw_all := lw_g (lw_at lw_ms 24 rfl) rfl
theorem qs25 : (Cond.selects "java/util/ArrayList" ⟨"java/util/ArrayList", "rangeCheckForAdd", "(I)V"⟩ ⟨"java/util/ArrayList", "rangeCheckForAdd", "(I)V"⟩) ∈ lw_all := lw_g (lw_at lw_ms 25 rfl) rfl
theorem qs26 : (Cond.selects "java/util/ArrayList" ⟨"java/util/ArrayList", "outOfBoundsMsg", "(I)Ljava/lang/String;"⟩ ⟨"java/util/ArrayList", "outOfBoundsMsg", "(I)Ljava/lang/String;"⟩) ∈ lw_all := lw_g (lw_at lw_ms 26 rfl) rfl
theorem qs27 : (Cond.selects "Taxmaze" ⟨"Taxmaze", "paidTo", "(I)J"⟩ ⟨"Taxmaze", "paidTo", "(I)J"⟩) ∈ lw_all := lw_g (lw_at lw_ms 27 rfl) rfl
theorem qs28 : (Cond.selects "TaxmazeModel" ⟨"TaxmazeModel", "isPerson", "(I)Z"⟩ ⟨"TaxmazeModel", "isPerson", "(I)Z"⟩) ∈ lw_all := lw_g (lw_at lw_ms 28 rfl) rfl
theorem qs29 : (Cond.selects "TaxmazeModel" ⟨"TaxmazeModel", "in", "(JJJ)Z"⟩ ⟨"TaxmazeModel", "in", "(JJJ)Z"⟩) ∈ lw_all := lw_g (lw_at lw_ms 29 rfl) rfl
theorem qs30 : (Cond.selects "TaxmazeModel" ⟨"TaxmazeModel", "isPlace", "(I)Z"⟩ ⟨"TaxmazeModel", "isPlace", "(I)Z"⟩) ∈ lw_all := lw_g (lw_at lw_ms 30 rfl) rfl
theorem qs31 : (Cond.selects "TaxmazeModel" ⟨"TaxmazeModel", "isDay", "(I)Z"⟩ ⟨"TaxmazeModel", "isDay", "(I)Z"⟩) ∈ lw_all := lw_g (lw_at lw_ms 31 rfl) rfl
theorem qs32 : (Cond.selects "TaxmazeModel" ⟨"TaxmazeModel", "holds", "(I)Z"⟩ ⟨"TaxmazeModel", "holds", "(I)Z"⟩) ∈ lw_all := lw_g (lw_at lw_ms 32 rfl) rfl
theorem qs33 : (Cond.selects "TaxmazeModel" ⟨"TaxmazeModel", "spread", "(I)V"⟩ ⟨"TaxmazeModel", "spread", "(I)V"⟩) ∈ lw_all := lw_g (lw_at lw_ms 33 rfl) rfl
theorem qs34 : (Cond.selects "TaxmazeModel" ⟨"TaxmazeModel", "isContract", "(I)Z"⟩ ⟨"TaxmazeModel", "isContract", "(I)Z"⟩) ∈ lw_all := lw_g (lw_at lw_ms 34 rfl) rfl
theorem qs35 : (Cond.selects "TaxmazeModel" ⟨"TaxmazeModel", "payOn", "(II)J"⟩ ⟨"TaxmazeModel", "payOn", "(II)J"⟩) ∈ lw_all := lw_g (lw_at lw_ms 35 rfl) rfl
theorem qs36 : (Cond.selects "TaxmazeModel" ⟨"TaxmazeModel", "isOf", "(II)Z"⟩ ⟨"TaxmazeModel", "isOf", "(II)Z"⟩) ∈ lw_all := lw_g (lw_at lw_ms 36 rfl) rfl
theorem qs37 : (Cond.selects "TaxmazeModel" ⟨"TaxmazeModel", "meets", "(III)Z"⟩ ⟨"TaxmazeModel", "meets", "(III)Z"⟩) ∈ lw_all := lw_g (lw_at lw_ms 37 rfl) rfl
theorem qs38 : (Cond.selects "TaxmazeModel" ⟨"TaxmazeModel", "over", "(II)I"⟩ ⟨"TaxmazeModel", "over", "(II)I"⟩) ∈ lw_all := lw_g (lw_at lw_ms 38 rfl) rfl
theorem qs39 : (Cond.selects "TaxmazeModel" ⟨"TaxmazeModel", "isMonth", "(I)Z"⟩ ⟨"TaxmazeModel", "isMonth", "(I)Z"⟩) ∈ lw_all := lw_g (lw_at lw_ms 39 rfl) rfl
theorem qs40 : (Cond.selects "TaxmazeModel" ⟨"TaxmazeModel", "takes", "(II)V"⟩ ⟨"TaxmazeModel", "takes", "(II)V"⟩) ∈ lw_all := lw_g (lw_at lw_ms 40 rfl) rfl
theorem qs41 : (Cond.selects "TaxmazeModel" ⟨"TaxmazeModel", "works", "(II)Z"⟩ ⟨"TaxmazeModel", "works", "(II)Z"⟩) ∈ lw_all := lw_g (lw_at lw_ms 41 rfl) rfl
theorem qs42 : (Cond.selects "TaxmazeModel" ⟨"TaxmazeModel", "baseOf", "(II)J"⟩ ⟨"TaxmazeModel", "baseOf", "(II)J"⟩) ∈ lw_all := lw_g (lw_at lw_ms 42 rfl) rfl
theorem qs43 : (Cond.selects "TaxmazeModel" ⟨"TaxmazeModel", "round", "(JJ)J"⟩ ⟨"TaxmazeModel", "round", "(JJ)J"⟩) ∈ lw_all := lw_g (lw_at lw_ms 43 rfl) rfl
theorem qs44 : (Cond.selects "TaxmazeModel" ⟨"TaxmazeModel", "down", "(JJ)J"⟩ ⟨"TaxmazeModel", "down", "(JJ)J"⟩) ∈ lw_all := lw_g (lw_at lw_ms 44 rfl) rfl
theorem qs45 : (Cond.selects "TaxmazeModel" ⟨"TaxmazeModel", "overPay", "(II)J"⟩ ⟨"TaxmazeModel", "overPay", "(II)J"⟩) ∈ lw_all := lw_g (lw_at lw_ms 45 rfl) rfl
theorem qs46 : (Cond.selects "TaxmazeModel" ⟨"TaxmazeModel", "depth", "(I)I"⟩ ⟨"TaxmazeModel", "depth", "(I)I"⟩) ∈ lw_all := lw_g (lw_at lw_ms 46 rfl) rfl
theorem qs47 : (Cond.selects "TaxmazeModel" ⟨"TaxmazeModel", "rings", "(I)Z"⟩ ⟨"TaxmazeModel", "rings", "(I)Z"⟩) ∈ lw_all := lw_g (lw_at lw_ms 47 rfl) rfl
theorem qs48 : (Cond.selects "TaxmazeModel" ⟨"TaxmazeModel", "needs", "(I)I"⟩ ⟨"TaxmazeModel", "needs", "(I)I"⟩) ∈ lw_all := lw_g (lw_at lw_ms 48 rfl) rfl
theorem qs49 : (Cond.selects "TaxmazeModel" ⟨"TaxmazeModel", "arrange", "()V"⟩ ⟨"TaxmazeModel", "arrange", "()V"⟩) ∈ lw_all := lw_g (lw_at lw_ms 49 rfl) rfl
theorem qs50 : (Cond.selects "TaxmazeModel" ⟨"TaxmazeModel", "yearly", "(IIIJ)J"⟩ ⟨"TaxmazeModel", "yearly", "(IIIJ)J"⟩) ∈ lw_all := lw_g (lw_at lw_ms 50 rfl) rfl
theorem qs51 : (Cond.selects "TaxmazeModel" ⟨"TaxmazeModel", "lastOf", "(III)I"⟩ ⟨"TaxmazeModel", "lastOf", "(III)I"⟩) ∈ lw_all := lw_g (lw_at lw_ms 51 rfl) rfl
theorem qs52 : (Cond.selects "TaxmazeModel" ⟨"TaxmazeModel", "slips", "(I)V"⟩ ⟨"TaxmazeModel", "slips", "(I)V"⟩) ∈ lw_all := lw_g (lw_at lw_ms 52 rfl) rfl
theorem qs53 : (Cond.selects "TaxmazeModel" ⟨"TaxmazeModel", "grossOf", "(II)V"⟩ ⟨"TaxmazeModel", "grossOf", "(II)V"⟩) ∈ lw_all := lw_g (lw_at lw_ms 53 rfl) rfl
theorem qs54 : (Cond.selects "TaxmazeModel" ⟨"TaxmazeModel", "formula", "(IJJ)J"⟩ ⟨"TaxmazeModel", "formula", "(IJJ)J"⟩) ∈ lw_all := lw_g (lw_at lw_ms 54 rfl) rfl
theorem qs55 : (Cond.selects "TaxmazeModel" ⟨"TaxmazeModel", "kept", "(J)J"⟩ ⟨"TaxmazeModel", "kept", "(J)J"⟩) ∈ lw_all := lw_g (lw_at lw_ms 55 rfl) rfl
theorem qs56 : (Cond.selects "TaxmazeModel" ⟨"TaxmazeModel", "joined", "(IJJ)J"⟩ ⟨"TaxmazeModel", "joined", "(IJJ)J"⟩) ∈ lw_all := lw_g (lw_at lw_ms 56 rfl) rfl
theorem qs57 : (Cond.selects "TaxmazeModel" ⟨"TaxmazeModel", "home", "(II)I"⟩ ⟨"TaxmazeModel", "home", "(II)I"⟩) ∈ lw_all := lw_g (lw_at lw_ms 57 rfl) rfl
theorem qs58 : (Cond.selects "TaxmazeModel" ⟨"TaxmazeModel", "contribute", "(II)V"⟩ ⟨"TaxmazeModel", "contribute", "(II)V"⟩) ∈ lw_all := lw_g (lw_at lw_ms 58 rfl) rfl
theorem qs59 : (Cond.selects "TaxmazeModel" ⟨"TaxmazeModel", "yearSum", "(III)J"⟩ ⟨"TaxmazeModel", "yearSum", "(III)J"⟩) ∈ lw_all := lw_g (lw_at lw_ms 59 rfl) rfl
theorem qs60 : (Cond.selects "TaxmazeModel" ⟨"TaxmazeModel", "taxes", "(III)V"⟩ ⟨"TaxmazeModel", "taxes", "(III)V"⟩) ∈ lw_all := lw_g (lw_at lw_ms 60 rfl) rfl
theorem qs61 : (Cond.selects "TaxmazeModel" ⟨"TaxmazeModel", "garnished", "(II)V"⟩ ⟨"TaxmazeModel", "garnished", "(II)V"⟩) ∈ lw_all := lw_g (lw_at lw_ms 61 rfl) rfl
theorem qs62 : (Cond.selects "TaxmazeModel" ⟨"TaxmazeModel", "sumOf", "(II)J"⟩ ⟨"TaxmazeModel", "sumOf", "(II)J"⟩) ∈ lw_all := lw_g (lw_at lw_ms 62 rfl) rfl
theorem qs63 : (Cond.selects "TaxmazeModel" ⟨"TaxmazeModel", "owes", "(II)J"⟩ ⟨"TaxmazeModel", "owes", "(II)J"⟩) ∈ lw_all := lw_g (lw_at lw_ms 63 rfl) rfl
theorem qs64 : (Cond.selects "TaxmazeModel" ⟨"TaxmazeModel", "file", "()V"⟩ ⟨"TaxmazeModel", "file", "()V"⟩) ∈ lw_all := lw_g (lw_at lw_ms 64 rfl) rfl
-- ===== end of PART A; then your names; then what follows =====
