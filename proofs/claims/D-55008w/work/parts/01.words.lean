-- ===== PART A: goes FIRST, ahead of the names: the tables' words, and 'selects' of the private methods out of them =====
/-- a private method of a class that the tables say can be made, by its rows of tables_1 -/
def lw_okq (q : MethodName × Nat) : Prop := (q.1.cls ≠ "java/lang/invoke/MethodHandle" ∧ q.1.cls ≠ "java/lang/invoke/VarHandle") ∧ Cond.instantiable q.1.cls q.2 ∈ tables_1 ∧ Cond.privateMethod q.1 ∈ tables_1 ∧ Cond.instanceMethod q.1 ∈ tables_1
set_option maxRecDepth 100000
theorem lw_t1 {w : Cond} (h : w ∈ tables_1_1) : w ∈ tables_1 := List.mem_append_left _ h
theorem lw_t2 {w : Cond} (h : w ∈ tables_1_2) : w ∈ tables_1 := List.mem_append_right _ (List.mem_append_left _ h)
theorem lw_t3 {w : Cond} (h : w ∈ tables_1_3) : w ∈ tables_1 := List.mem_append_right _ (List.mem_append_right _ (List.mem_append_left _ h))
theorem lw_t4 {w : Cond} (h : w ∈ tables_1_4) : w ∈ tables_1 := List.mem_append_right _ (List.mem_append_right _ (List.mem_append_right _ (List.mem_append_left _ h)))
theorem lw_t5 {w : Cond} (h : w ∈ tables_1_5) : w ∈ tables_1 := List.mem_append_right _ (List.mem_append_right _ (List.mem_append_right _ (List.mem_append_right _ (List.mem_append_left _ h))))
theorem lw_t6 {w : Cond} (h : w ∈ tables_1_6) : w ∈ tables_1 := List.mem_append_right _ (List.mem_append_right _ (List.mem_append_right _ (List.mem_append_right _ (List.mem_append_right _ (List.mem_append_left _ h)))))
theorem lw_t7 {w : Cond} (h : w ∈ tables_1_7) : w ∈ tables_1 := List.mem_append_right _ (List.mem_append_right _ (List.mem_append_right _ (List.mem_append_right _ (List.mem_append_right _ (List.mem_append_right _ (List.mem_append_left _ h))))))
theorem lw_t8 {w : Cond} (h : w ∈ tables_1_8) : w ∈ tables_1 := List.mem_append_right _ (List.mem_append_right _ (List.mem_append_right _ (List.mem_append_right _ (List.mem_append_right _ (List.mem_append_right _ (List.mem_append_right _ (List.mem_append_left _ h)))))))
theorem lw_t9 {w : Cond} (h : w ∈ tables_1_9) : w ∈ tables_1 := List.mem_append_right _ (List.mem_append_right _ (List.mem_append_right _ (List.mem_append_right _ (List.mem_append_right _ (List.mem_append_right _ (List.mem_append_right _ (List.mem_append_right _ (List.mem_append_left _ h))))))))
theorem lw_t10 {w : Cond} (h : w ∈ tables_1_10) : w ∈ tables_1 := List.mem_append_right _ (List.mem_append_right _ (List.mem_append_right _ (List.mem_append_right _ (List.mem_append_right _ (List.mem_append_right _ (List.mem_append_right _ (List.mem_append_right _ (List.mem_append_right _ (List.mem_append_left _ h)))))))))
theorem lw_t11 {w : Cond} (h : w ∈ tables_1_11) : w ∈ tables_1 := List.mem_append_right _ (List.mem_append_right _ (List.mem_append_right _ (List.mem_append_right _ (List.mem_append_right _ (List.mem_append_right _ (List.mem_append_right _ (List.mem_append_right _ (List.mem_append_right _ (List.mem_append_right _ (List.mem_append_left _ h))))))))))
theorem lw_t12 {w : Cond} (h : w ∈ tables_1_12) : w ∈ tables_1 := List.mem_append_right _ (List.mem_append_right _ (List.mem_append_right _ (List.mem_append_right _ (List.mem_append_right _ (List.mem_append_right _ (List.mem_append_right _ (List.mem_append_right _ (List.mem_append_right _ (List.mem_append_right _ (List.mem_append_right _ h))))))))))
theorem lw_p0 : lw_okq (⟨"java/lang/Throwable", "fillInStackTrace", "(I)Ljava/lang/Throwable;"⟩, 6) := ⟨⟨by decide +kernel, by decide +kernel⟩, lw_t2 (List.mem_of_getElem? (i := 4) rfl), lw_t2 (List.mem_of_getElem? (i := 2) rfl), lw_t2 (List.mem_of_getElem? (i := 3) rfl)⟩
theorem lw_p1 : lw_okq (⟨"BlockPapers", "back", "()I"⟩, 7) := ⟨⟨by decide +kernel, by decide +kernel⟩, lw_t1 (List.mem_of_getElem? (i := 48) rfl), lw_t2 (List.mem_of_getElem? (i := 40) rfl), lw_t2 (List.mem_of_getElem? (i := 41) rfl)⟩
theorem lw_p2 : lw_okq (⟨"BlockPapers", "grams", "()I"⟩, 7) := ⟨⟨by decide +kernel, by decide +kernel⟩, lw_t1 (List.mem_of_getElem? (i := 48) rfl), lw_t2 (List.mem_of_getElem? (i := 208) rfl), lw_t2 (List.mem_of_getElem? (i := 209) rfl)⟩
theorem lw_p3 : lw_okq (⟨"BlockPapers", "draft", "()LBlockPapers$Workshop;"⟩, 7) := ⟨⟨by decide +kernel, by decide +kernel⟩, lw_t1 (List.mem_of_getElem? (i := 48) rfl), lw_t3 (List.mem_of_getElem? (i := 2) rfl), lw_t3 (List.mem_of_getElem? (i := 3) rfl)⟩
theorem lw_p4 : lw_okq (⟨"java/util/ArrayDeque", "toArray", "(Ljava/lang/Class;)[Ljava/lang/Object;"⟩, 3) := ⟨⟨by decide +kernel, by decide +kernel⟩, lw_t1 (List.mem_of_getElem? (i := 110) rfl), lw_t3 (List.mem_of_getElem? (i := 30) rfl), lw_t3 (List.mem_of_getElem? (i := 31) rfl)⟩
theorem lw_p5 : lw_okq (⟨"java/util/ArrayList", "grow", "(I)[Ljava/lang/Object;"⟩, 3) := ⟨⟨by decide +kernel, by decide +kernel⟩, lw_t1 (List.mem_of_getElem? (i := 62) rfl), lw_t4 (List.mem_of_getElem? (i := 62) rfl), lw_t4 (List.mem_of_getElem? (i := 63) rfl)⟩
theorem lw_p6 : lw_okq (⟨"java/util/ArrayList", "add", "(Ljava/lang/Object;[Ljava/lang/Object;I)V"⟩, 3) := ⟨⟨by decide +kernel, by decide +kernel⟩, lw_t1 (List.mem_of_getElem? (i := 62) rfl), lw_t4 (List.mem_of_getElem? (i := 119) rfl), lw_t4 (List.mem_of_getElem? (i := 120) rfl)⟩
theorem lw_p7 : lw_okq (⟨"java/util/ArrayList", "grow", "()[Ljava/lang/Object;"⟩, 3) := ⟨⟨by decide +kernel, by decide +kernel⟩, lw_t1 (List.mem_of_getElem? (i := 62) rfl), lw_t4 (List.mem_of_getElem? (i := 123) rfl), lw_t4 (List.mem_of_getElem? (i := 124) rfl)⟩
theorem lw_p8 : lw_okq (⟨"BlockPapers", "change", "(LBlockPapers$Deed;)I"⟩, 7) := ⟨⟨by decide +kernel, by decide +kernel⟩, lw_t1 (List.mem_of_getElem? (i := 48) rfl), lw_t4 (List.mem_of_getElem? (i := 159) rfl), lw_t4 (List.mem_of_getElem? (i := 160) rfl)⟩
theorem lw_p9 : lw_okq (⟨"BlockPapers$Workshop", "unlike", "(LBlockPapers$Room;LBlockPapers$Roll;)I"⟩, 4) := ⟨⟨by decide +kernel, by decide +kernel⟩, lw_t1 (List.mem_of_getElem? (i := 56) rfl), lw_t6 (List.mem_of_getElem? (i := 58) rfl), lw_t6 (List.mem_of_getElem? (i := 59) rfl)⟩
theorem lw_p10 : lw_okq (⟨"BlockPapers$Workshop", "missing", "(LBlockPapers$Room;LBlockPapers$Roll;)I"⟩, 4) := ⟨⟨by decide +kernel, by decide +kernel⟩, lw_t1 (List.mem_of_getElem? (i := 56) rfl), lw_t6 (List.mem_of_getElem? (i := 69) rfl), lw_t6 (List.mem_of_getElem? (i := 70) rfl)⟩
theorem lw_p11 : lw_okq (⟨"BlockPapers$Workshop", "waste", "(LBlockPapers$Roll;II)I"⟩, 4) := ⟨⟨by decide +kernel, by decide +kernel⟩, lw_t1 (List.mem_of_getElem? (i := 56) rfl), lw_t6 (List.mem_of_getElem? (i := 99) rfl), lw_t6 (List.mem_of_getElem? (i := 100) rfl)⟩
theorem lw_p12 : lw_okq (⟨"BlockPapers$Workshop", "hang", "(LBlockPapers$Room;I)I"⟩, 4) := ⟨⟨by decide +kernel, by decide +kernel⟩, lw_t1 (List.mem_of_getElem? (i := 56) rfl), lw_t6 (List.mem_of_getElem? (i := 115) rfl), lw_t6 (List.mem_of_getElem? (i := 116) rfl)⟩
theorem lw_p13 : lw_okq (⟨"java/util/ArrayList", "fastRemove", "([Ljava/lang/Object;I)V"⟩, 3) := ⟨⟨by decide +kernel, by decide +kernel⟩, lw_t1 (List.mem_of_getElem? (i := 62) rfl), lw_t6 (List.mem_of_getElem? (i := 161) rfl), lw_t6 (List.mem_of_getElem? (i := 162) rfl)⟩
theorem lw_p14 : lw_okq (⟨"BlockPapers", "replace", "(LBlockPapers$Workshop;)V"⟩, 7) := ⟨⟨by decide +kernel, by decide +kernel⟩, lw_t1 (List.mem_of_getElem? (i := 48) rfl), lw_t6 (List.mem_of_getElem? (i := 211) rfl), lw_t6 (List.mem_of_getElem? (i := 212) rfl)⟩
theorem lw_p15 : lw_okq (⟨"java/util/ArrayDeque", "grow", "(I)V"⟩, 3) := ⟨⟨by decide +kernel, by decide +kernel⟩, lw_t1 (List.mem_of_getElem? (i := 110) rfl), lw_t6 (List.mem_of_getElem? (i := 239) rfl), lw_t7 (List.mem_of_getElem? (i := 0) rfl)⟩
def lw_privs_1 : List (MethodName × Nat) := [(⟨"java/lang/Throwable", "fillInStackTrace", "(I)Ljava/lang/Throwable;"⟩, 6), (⟨"BlockPapers", "back", "()I"⟩, 7), (⟨"BlockPapers", "grams", "()I"⟩, 7), (⟨"BlockPapers", "draft", "()LBlockPapers$Workshop;"⟩, 7), (⟨"java/util/ArrayDeque", "toArray", "(Ljava/lang/Class;)[Ljava/lang/Object;"⟩, 3), (⟨"java/util/ArrayList", "grow", "(I)[Ljava/lang/Object;"⟩, 3), (⟨"java/util/ArrayList", "add", "(Ljava/lang/Object;[Ljava/lang/Object;I)V"⟩, 3), (⟨"java/util/ArrayList", "grow", "()[Ljava/lang/Object;"⟩, 3), (⟨"BlockPapers", "change", "(LBlockPapers$Deed;)I"⟩, 7), (⟨"BlockPapers$Workshop", "unlike", "(LBlockPapers$Room;LBlockPapers$Roll;)I"⟩, 4), (⟨"BlockPapers$Workshop", "missing", "(LBlockPapers$Room;LBlockPapers$Roll;)I"⟩, 4), (⟨"BlockPapers$Workshop", "waste", "(LBlockPapers$Roll;II)I"⟩, 4), (⟨"BlockPapers$Workshop", "hang", "(LBlockPapers$Room;I)I"⟩, 4), (⟨"java/util/ArrayList", "fastRemove", "([Ljava/lang/Object;I)V"⟩, 3), (⟨"BlockPapers", "replace", "(LBlockPapers$Workshop;)V"⟩, 7), (⟨"java/util/ArrayDeque", "grow", "(I)V"⟩, 3)]
theorem lw_r1 : ∀ q ∈ lw_privs_1, lw_okq q := List.forall_mem_cons.mpr ⟨lw_p0, List.forall_mem_cons.mpr ⟨lw_p1, List.forall_mem_cons.mpr ⟨lw_p2, List.forall_mem_cons.mpr ⟨lw_p3, List.forall_mem_cons.mpr ⟨lw_p4, List.forall_mem_cons.mpr ⟨lw_p5, List.forall_mem_cons.mpr ⟨lw_p6, List.forall_mem_cons.mpr ⟨lw_p7, List.forall_mem_cons.mpr ⟨lw_p8, List.forall_mem_cons.mpr ⟨lw_p9, List.forall_mem_cons.mpr ⟨lw_p10, List.forall_mem_cons.mpr ⟨lw_p11, List.forall_mem_cons.mpr ⟨lw_p12, List.forall_mem_cons.mpr ⟨lw_p13, List.forall_mem_cons.mpr ⟨lw_p14, List.forall_mem_cons.mpr ⟨lw_p15, fun _ h => absurd h List.not_mem_nil⟩⟩⟩⟩⟩⟩⟩⟩⟩⟩⟩⟩⟩⟩⟩⟩
theorem lw_p16 : lw_okq (⟨"java/util/ArrayDeque", "newCapacity", "(II)I"⟩, 3) := ⟨⟨by decide +kernel, by decide +kernel⟩, lw_t1 (List.mem_of_getElem? (i := 110) rfl), lw_t7 (List.mem_of_getElem? (i := 4) rfl), lw_t7 (List.mem_of_getElem? (i := 5) rfl)⟩
theorem lw_p17 : lw_okq (⟨"BlockPapers", "printed", "(IZ)I"⟩, 7) := ⟨⟨by decide +kernel, by decide +kernel⟩, lw_t1 (List.mem_of_getElem? (i := 48) rfl), lw_t7 (List.mem_of_getElem? (i := 50) rfl), lw_t7 (List.mem_of_getElem? (i := 51) rfl)⟩
theorem lw_p18 : lw_okq (⟨"BlockPapers", "taken", "()Ljava/util/List;"⟩, 7) := ⟨⟨by decide +kernel, by decide +kernel⟩, lw_t1 (List.mem_of_getElem? (i := 48) rfl), lw_t8 (List.mem_of_getElem? (i := 204) rfl), lw_t8 (List.mem_of_getElem? (i := 205) rfl)⟩
theorem lw_p19 : lw_okq (⟨"BlockPapers$Parser", "command", "()LBlockPapers$Deed;"⟩, 2) := ⟨⟨by decide +kernel, by decide +kernel⟩, lw_t8 (List.mem_of_getElem? (i := 209) rfl), lw_t8 (List.mem_of_getElem? (i := 228) rfl), lw_t8 (List.mem_of_getElem? (i := 229) rfl)⟩
theorem lw_p20 : lw_okq (⟨"BlockPapers$Parser", "word", "()Ljava/lang/String;"⟩, 2) := ⟨⟨by decide +kernel, by decide +kernel⟩, lw_t8 (List.mem_of_getElem? (i := 209) rfl), lw_t8 (List.mem_of_getElem? (i := 232) rfl), lw_t8 (List.mem_of_getElem? (i := 233) rfl)⟩
theorem lw_p21 : lw_okq (⟨"BlockPapers$Parser", "isAt", "(CC)Z"⟩, 2) := ⟨⟨by decide +kernel, by decide +kernel⟩, lw_t8 (List.mem_of_getElem? (i := 209) rfl), lw_t9 (List.mem_of_getElem? (i := 40) rfl), lw_t9 (List.mem_of_getElem? (i := 41) rfl)⟩
theorem lw_p22 : lw_okq (⟨"BlockPapers$Parser", "take", "(CC)C"⟩, 2) := ⟨⟨by decide +kernel, by decide +kernel⟩, lw_t8 (List.mem_of_getElem? (i := 209) rfl), lw_t9 (List.mem_of_getElem? (i := 67) rfl), lw_t9 (List.mem_of_getElem? (i := 68) rfl)⟩
theorem lw_p23 : lw_okq (⟨"BlockPapers$Parser", "number", "(I)I"⟩, 2) := ⟨⟨by decide +kernel, by decide +kernel⟩, lw_t8 (List.mem_of_getElem? (i := 209) rfl), lw_t9 (List.mem_of_getElem? (i := 105) rfl), lw_t9 (List.mem_of_getElem? (i := 106) rfl)⟩
theorem lw_p24 : lw_okq (⟨"BlockPapersModel", "remembers", "()V"⟩, 24) := ⟨⟨by decide +kernel, by decide +kernel⟩, lw_t10 (List.mem_of_getElem? (i := 3) rfl), lw_t10 (List.mem_of_getElem? (i := 91) rfl), lw_t10 (List.mem_of_getElem? (i := 92) rfl)⟩
theorem lw_p25 : lw_okq (⟨"BlockPapersModel", "blocks", "(IZ)I"⟩, 24) := ⟨⟨by decide +kernel, by decide +kernel⟩, lw_t10 (List.mem_of_getElem? (i := 3) rfl), lw_t10 (List.mem_of_getElem? (i := 98) rfl), lw_t10 (List.mem_of_getElem? (i := 99) rfl)⟩
theorem lw_p26 : lw_okq (⟨"BlockPapersModel", "refused", "(II)I"⟩, 24) := ⟨⟨by decide +kernel, by decide +kernel⟩, lw_t10 (List.mem_of_getElem? (i := 3) rfl), lw_t10 (List.mem_of_getElem? (i := 102) rfl), lw_t10 (List.mem_of_getElem? (i := 103) rfl)⟩
theorem lw_p27 : lw_okq (⟨"BlockPapersModel", "done", "(I)I"⟩, 24) := ⟨⟨by decide +kernel, by decide +kernel⟩, lw_t10 (List.mem_of_getElem? (i := 3) rfl), lw_t10 (List.mem_of_getElem? (i := 106) rfl), lw_t10 (List.mem_of_getElem? (i := 107) rfl)⟩
theorem lw_p28 : lw_okq (⟨"BlockPapersModel", "ends", "(II)I"⟩, 24) := ⟨⟨by decide +kernel, by decide +kernel⟩, lw_t10 (List.mem_of_getElem? (i := 3) rfl), lw_t10 (List.mem_of_getElem? (i := 110) rfl), lw_t10 (List.mem_of_getElem? (i := 111) rfl)⟩
theorem lw_p29 : lw_okq (⟨"BlockPapersModel", "changed", "(I)I"⟩, 24) := ⟨⟨by decide +kernel, by decide +kernel⟩, lw_t10 (List.mem_of_getElem? (i := 3) rfl), lw_t10 (List.mem_of_getElem? (i := 114) rfl), lw_t10 (List.mem_of_getElem? (i := 115) rfl)⟩
theorem lw_p30 : lw_okq (⟨"BlockPapersModel", "fails", "(I)I"⟩, 24) := ⟨⟨by decide +kernel, by decide +kernel⟩, lw_t10 (List.mem_of_getElem? (i := 3) rfl), lw_t10 (List.mem_of_getElem? (i := 118) rfl), lw_t10 (List.mem_of_getElem? (i := 119) rfl)⟩
theorem lw_p31 : lw_okq (⟨"BlockPapersModel", "isBlock", "(I)Z"⟩, 24) := ⟨⟨by decide +kernel, by decide +kernel⟩, lw_t10 (List.mem_of_getElem? (i := 3) rfl), lw_t10 (List.mem_of_getElem? (i := 126) rfl), lw_t10 (List.mem_of_getElem? (i := 127) rfl)⟩
def lw_privs_2 : List (MethodName × Nat) := [(⟨"java/util/ArrayDeque", "newCapacity", "(II)I"⟩, 3), (⟨"BlockPapers", "printed", "(IZ)I"⟩, 7), (⟨"BlockPapers", "taken", "()Ljava/util/List;"⟩, 7), (⟨"BlockPapers$Parser", "command", "()LBlockPapers$Deed;"⟩, 2), (⟨"BlockPapers$Parser", "word", "()Ljava/lang/String;"⟩, 2), (⟨"BlockPapers$Parser", "isAt", "(CC)Z"⟩, 2), (⟨"BlockPapers$Parser", "take", "(CC)C"⟩, 2), (⟨"BlockPapers$Parser", "number", "(I)I"⟩, 2), (⟨"BlockPapersModel", "remembers", "()V"⟩, 24), (⟨"BlockPapersModel", "blocks", "(IZ)I"⟩, 24), (⟨"BlockPapersModel", "refused", "(II)I"⟩, 24), (⟨"BlockPapersModel", "done", "(I)I"⟩, 24), (⟨"BlockPapersModel", "ends", "(II)I"⟩, 24), (⟨"BlockPapersModel", "changed", "(I)I"⟩, 24), (⟨"BlockPapersModel", "fails", "(I)I"⟩, 24), (⟨"BlockPapersModel", "isBlock", "(I)Z"⟩, 24)]
theorem lw_r2 : ∀ q ∈ lw_privs_2, lw_okq q := List.forall_mem_cons.mpr ⟨lw_p16, List.forall_mem_cons.mpr ⟨lw_p17, List.forall_mem_cons.mpr ⟨lw_p18, List.forall_mem_cons.mpr ⟨lw_p19, List.forall_mem_cons.mpr ⟨lw_p20, List.forall_mem_cons.mpr ⟨lw_p21, List.forall_mem_cons.mpr ⟨lw_p22, List.forall_mem_cons.mpr ⟨lw_p23, List.forall_mem_cons.mpr ⟨lw_p24, List.forall_mem_cons.mpr ⟨lw_p25, List.forall_mem_cons.mpr ⟨lw_p26, List.forall_mem_cons.mpr ⟨lw_p27, List.forall_mem_cons.mpr ⟨lw_p28, List.forall_mem_cons.mpr ⟨lw_p29, List.forall_mem_cons.mpr ⟨lw_p30, List.forall_mem_cons.mpr ⟨lw_p31, fun _ h => absurd h List.not_mem_nil⟩⟩⟩⟩⟩⟩⟩⟩⟩⟩⟩⟩⟩⟩⟩⟩
theorem lw_p32 : lw_okq (⟨"BlockPapersModel", "blockRow", "(II)I"⟩, 24) := ⟨⟨by decide +kernel, by decide +kernel⟩, lw_t10 (List.mem_of_getElem? (i := 3) rfl), lw_t10 (List.mem_of_getElem? (i := 130) rfl), lw_t10 (List.mem_of_getElem? (i := 131) rfl)⟩
theorem lw_p33 : lw_okq (⟨"BlockPapersModel", "carves", "(I)I"⟩, 24) := ⟨⟨by decide +kernel, by decide +kernel⟩, lw_t10 (List.mem_of_getElem? (i := 3) rfl), lw_t10 (List.mem_of_getElem? (i := 138) rfl), lw_t10 (List.mem_of_getElem? (i := 139) rfl)⟩
theorem lw_p34 : lw_okq (⟨"BlockPapersModel", "inks", "(III)I"⟩, 24) := ⟨⟨by decide +kernel, by decide +kernel⟩, lw_t10 (List.mem_of_getElem? (i := 3) rfl), lw_t10 (List.mem_of_getElem? (i := 146) rfl), lw_t10 (List.mem_of_getElem? (i := 147) rfl)⟩
theorem lw_p35 : lw_okq (⟨"BlockPapersModel", "isInk", "(I)Z"⟩, 24) := ⟨⟨by decide +kernel, by decide +kernel⟩, lw_t10 (List.mem_of_getElem? (i := 3) rfl), lw_t10 (List.mem_of_getElem? (i := 154) rfl), lw_t10 (List.mem_of_getElem? (i := 155) rfl)⟩
theorem lw_p36 : lw_okq (⟨"BlockPapersModel", "inkRow", "(II)I"⟩, 24) := ⟨⟨by decide +kernel, by decide +kernel⟩, lw_t10 (List.mem_of_getElem? (i := 3) rfl), lw_t10 (List.mem_of_getElem? (i := 158) rfl), lw_t10 (List.mem_of_getElem? (i := 159) rfl)⟩
theorem lw_p37 : lw_okq (⟨"BlockPapersModel", "mixes", "(III)I"⟩, 24) := ⟨⟨by decide +kernel, by decide +kernel⟩, lw_t10 (List.mem_of_getElem? (i := 3) rfl), lw_t10 (List.mem_of_getElem? (i := 166) rfl), lw_t10 (List.mem_of_getElem? (i := 167) rfl)⟩
theorem lw_p38 : lw_okq (⟨"BlockPapersModel", "prints", "(III)I"⟩, 24) := ⟨⟨by decide +kernel, by decide +kernel⟩, lw_t10 (List.mem_of_getElem? (i := 3) rfl), lw_t10 (List.mem_of_getElem? (i := 174) rfl), lw_t10 (List.mem_of_getElem? (i := 175) rfl)⟩
theorem lw_p39 : lw_okq (⟨"BlockPapersModel", "isRoll", "(I)Z"⟩, 24) := ⟨⟨by decide +kernel, by decide +kernel⟩, lw_t10 (List.mem_of_getElem? (i := 3) rfl), lw_t10 (List.mem_of_getElem? (i := 182) rfl), lw_t10 (List.mem_of_getElem? (i := 183) rfl)⟩
theorem lw_p40 : lw_okq (⟨"BlockPapersModel", "rollRow", "(II)I"⟩, 24) := ⟨⟨by decide +kernel, by decide +kernel⟩, lw_t10 (List.mem_of_getElem? (i := 3) rfl), lw_t10 (List.mem_of_getElem? (i := 186) rfl), lw_t10 (List.mem_of_getElem? (i := 187) rfl)⟩
theorem lw_p41 : lw_okq (⟨"BlockPapersModel", "colourOf", "(I)I"⟩, 24) := ⟨⟨by decide +kernel, by decide +kernel⟩, lw_t10 (List.mem_of_getElem? (i := 3) rfl), lw_t10 (List.mem_of_getElem? (i := 190) rfl), lw_t10 (List.mem_of_getElem? (i := 191) rfl)⟩
theorem lw_p42 : lw_okq (⟨"BlockPapersModel", "leftOf", "(I)I"⟩, 24) := ⟨⟨by decide +kernel, by decide +kernel⟩, lw_t10 (List.mem_of_getElem? (i := 3) rfl), lw_t10 (List.mem_of_getElem? (i := 194) rfl), lw_t10 (List.mem_of_getElem? (i := 195) rfl)⟩
theorem lw_p43 : lw_okq (⟨"BlockPapersModel", "hangingOf", "(I)I"⟩, 24) := ⟨⟨by decide +kernel, by decide +kernel⟩, lw_t10 (List.mem_of_getElem? (i := 3) rfl), lw_t10 (List.mem_of_getElem? (i := 198) rfl), lw_t10 (List.mem_of_getElem? (i := 199) rfl)⟩
theorem lw_p44 : lw_okq (⟨"BlockPapersModel", "roomRow", "(II)I"⟩, 24) := ⟨⟨by decide +kernel, by decide +kernel⟩, lw_t10 (List.mem_of_getElem? (i := 3) rfl), lw_t10 (List.mem_of_getElem? (i := 202) rfl), lw_t10 (List.mem_of_getElem? (i := 203) rfl)⟩
theorem lw_p45 : lw_okq (⟨"BlockPapersModel", "givesBack", "(I)I"⟩, 24) := ⟨⟨by decide +kernel, by decide +kernel⟩, lw_t10 (List.mem_of_getElem? (i := 3) rfl), lw_t10 (List.mem_of_getElem? (i := 213) rfl), lw_t10 (List.mem_of_getElem? (i := 214) rfl)⟩
theorem lw_p46 : lw_okq (⟨"BlockPapersModel", "latestOf", "(I)I"⟩, 24) := ⟨⟨by decide +kernel, by decide +kernel⟩, lw_t10 (List.mem_of_getElem? (i := 3) rfl), lw_t10 (List.mem_of_getElem? (i := 217) rfl), lw_t10 (List.mem_of_getElem? (i := 218) rfl)⟩
theorem lw_p47 : lw_okq (⟨"BlockPapersModel", "apart", "(II)I"⟩, 24) := ⟨⟨by decide +kernel, by decide +kernel⟩, lw_t10 (List.mem_of_getElem? (i := 3) rfl), lw_t10 (List.mem_of_getElem? (i := 221) rfl), lw_t10 (List.mem_of_getElem? (i := 222) rfl)⟩
def lw_privs_3 : List (MethodName × Nat) := [(⟨"BlockPapersModel", "blockRow", "(II)I"⟩, 24), (⟨"BlockPapersModel", "carves", "(I)I"⟩, 24), (⟨"BlockPapersModel", "inks", "(III)I"⟩, 24), (⟨"BlockPapersModel", "isInk", "(I)Z"⟩, 24), (⟨"BlockPapersModel", "inkRow", "(II)I"⟩, 24), (⟨"BlockPapersModel", "mixes", "(III)I"⟩, 24), (⟨"BlockPapersModel", "prints", "(III)I"⟩, 24), (⟨"BlockPapersModel", "isRoll", "(I)Z"⟩, 24), (⟨"BlockPapersModel", "rollRow", "(II)I"⟩, 24), (⟨"BlockPapersModel", "colourOf", "(I)I"⟩, 24), (⟨"BlockPapersModel", "leftOf", "(I)I"⟩, 24), (⟨"BlockPapersModel", "hangingOf", "(I)I"⟩, 24), (⟨"BlockPapersModel", "roomRow", "(II)I"⟩, 24), (⟨"BlockPapersModel", "givesBack", "(I)I"⟩, 24), (⟨"BlockPapersModel", "latestOf", "(I)I"⟩, 24), (⟨"BlockPapersModel", "apart", "(II)I"⟩, 24)]
theorem lw_r3 : ∀ q ∈ lw_privs_3, lw_okq q := List.forall_mem_cons.mpr ⟨lw_p32, List.forall_mem_cons.mpr ⟨lw_p33, List.forall_mem_cons.mpr ⟨lw_p34, List.forall_mem_cons.mpr ⟨lw_p35, List.forall_mem_cons.mpr ⟨lw_p36, List.forall_mem_cons.mpr ⟨lw_p37, List.forall_mem_cons.mpr ⟨lw_p38, List.forall_mem_cons.mpr ⟨lw_p39, List.forall_mem_cons.mpr ⟨lw_p40, List.forall_mem_cons.mpr ⟨lw_p41, List.forall_mem_cons.mpr ⟨lw_p42, List.forall_mem_cons.mpr ⟨lw_p43, List.forall_mem_cons.mpr ⟨lw_p44, List.forall_mem_cons.mpr ⟨lw_p45, List.forall_mem_cons.mpr ⟨lw_p46, List.forall_mem_cons.mpr ⟨lw_p47, fun _ h => absurd h List.not_mem_nil⟩⟩⟩⟩⟩⟩⟩⟩⟩⟩⟩⟩⟩⟩⟩⟩
theorem lw_p48 : lw_okq (⟨"BlockPapersModel", "rooms", "(II)I"⟩, 24) := ⟨⟨by decide +kernel, by decide +kernel⟩, lw_t10 (List.mem_of_getElem? (i := 3) rfl), lw_t10 (List.mem_of_getElem? (i := 229) rfl), lw_t10 (List.mem_of_getElem? (i := 230) rfl)⟩
theorem lw_p49 : lw_okq (⟨"BlockPapersModel", "isRoom", "(I)Z"⟩, 24) := ⟨⟨by decide +kernel, by decide +kernel⟩, lw_t10 (List.mem_of_getElem? (i := 3) rfl), lw_t10 (List.mem_of_getElem? (i := 237) rfl), lw_t10 (List.mem_of_getElem? (i := 238) rfl)⟩
theorem lw_p50 : lw_okq (⟨"BlockPapersModel", "firstRoll", "(I)I"⟩, 24) := ⟨⟨by decide +kernel, by decide +kernel⟩, lw_t10 (List.mem_of_getElem? (i := 3) rfl), lw_t11 (List.mem_of_getElem? (i := 1) rfl), lw_t11 (List.mem_of_getElem? (i := 2) rfl)⟩
theorem lw_p51 : lw_okq (⟨"BlockPapersModel", "target", "(I)I"⟩, 24) := ⟨⟨by decide +kernel, by decide +kernel⟩, lw_t10 (List.mem_of_getElem? (i := 3) rfl), lw_t11 (List.mem_of_getElem? (i := 5) rfl), lw_t11 (List.mem_of_getElem? (i := 6) rfl)⟩
theorem lw_p52 : lw_okq (⟨"BlockPapersModel", "mustBegin", "(II)I"⟩, 24) := ⟨⟨by decide +kernel, by decide +kernel⟩, lw_t10 (List.mem_of_getElem? (i := 3) rfl), lw_t11 (List.mem_of_getElem? (i := 9) rfl), lw_t11 (List.mem_of_getElem? (i := 10) rfl)⟩
theorem lw_p53 : lw_okq (⟨"BlockPapersModel", "hangs", "(II)I"⟩, 24) := ⟨⟨by decide +kernel, by decide +kernel⟩, lw_t10 (List.mem_of_getElem? (i := 3) rfl), lw_t11 (List.mem_of_getElem? (i := 21) rfl), lw_t11 (List.mem_of_getElem? (i := 22) rfl)⟩
theorem lw_p54 : lw_okq (⟨"BlockPapersModel", "reasonFor", "(II)I"⟩, 24) := ⟨⟨by decide +kernel, by decide +kernel⟩, lw_t10 (List.mem_of_getElem? (i := 3) rfl), lw_t11 (List.mem_of_getElem? (i := 25) rfl), lw_t11 (List.mem_of_getElem? (i := 26) rfl)⟩
theorem lw_p55 : lw_okq (⟨"BlockPapersModel", "wasteFor", "(II)I"⟩, 24) := ⟨⟨by decide +kernel, by decide +kernel⟩, lw_t10 (List.mem_of_getElem? (i := 3) rfl), lw_t11 (List.mem_of_getElem? (i := 29) rfl), lw_t11 (List.mem_of_getElem? (i := 30) rfl)⟩
theorem lw_p56 : lw_okq (⟨"BlockPapersModel", "strips", "(I)I"⟩, 24) := ⟨⟨by decide +kernel, by decide +kernel⟩, lw_t10 (List.mem_of_getElem? (i := 3) rfl), lw_t11 (List.mem_of_getElem? (i := 41) rfl), lw_t11 (List.mem_of_getElem? (i := 42) rfl)⟩
theorem lw_p57 : lw_okq (⟨"BlockPapersModel", "best", "(I)I"⟩, 24) := ⟨⟨by decide +kernel, by decide +kernel⟩, lw_t10 (List.mem_of_getElem? (i := 3) rfl), lw_t11 (List.mem_of_getElem? (i := 53) rfl), lw_t11 (List.mem_of_getElem? (i := 54) rfl)⟩
theorem lw_p58 : lw_okq (⟨"BlockPapersModel", "finishes", "(I)I"⟩, 24) := ⟨⟨by decide +kernel, by decide +kernel⟩, lw_t10 (List.mem_of_getElem? (i := 3) rfl), lw_t11 (List.mem_of_getElem? (i := 61) rfl), lw_t11 (List.mem_of_getElem? (i := 62) rfl)⟩
theorem lw_p59 : lw_okq (⟨"BlockPapersModel", "putsNumber", "(I)V"⟩, 24) := ⟨⟨by decide +kernel, by decide +kernel⟩, lw_t10 (List.mem_of_getElem? (i := 3) rfl), lw_t11 (List.mem_of_getElem? (i := 78) rfl), lw_t11 (List.mem_of_getElem? (i := 79) rfl)⟩
theorem lw_p60 : lw_okq (⟨"BlockPapersModel", "puts", "(I)V"⟩, 24) := ⟨⟨by decide +kernel, by decide +kernel⟩, lw_t10 (List.mem_of_getElem? (i := 3) rfl), lw_t11 (List.mem_of_getElem? (i := 82) rfl), lw_t11 (List.mem_of_getElem? (i := 83) rfl)⟩
theorem lw_p61 : lw_okq (⟨"BlockPapersModel", "putsWord", "(Ljava/lang/String;)V"⟩, 24) := ⟨⟨by decide +kernel, by decide +kernel⟩, lw_t10 (List.mem_of_getElem? (i := 3) rfl), lw_t11 (List.mem_of_getElem? (i := 87) rfl), lw_t11 (List.mem_of_getElem? (i := 88) rfl)⟩
theorem lw_p62 : lw_okq (⟨"BlockPapersModel", "given", "(Z)I"⟩, 24) := ⟨⟨by decide +kernel, by decide +kernel⟩, lw_t10 (List.mem_of_getElem? (i := 3) rfl), lw_t11 (List.mem_of_getElem? (i := 106) rfl), lw_t11 (List.mem_of_getElem? (i := 107) rfl)⟩
theorem lw_p63 : lw_okq (⟨"BlockPapersModel", "hung", "(Z)I"⟩, 24) := ⟨⟨by decide +kernel, by decide +kernel⟩, lw_t10 (List.mem_of_getElem? (i := 3) rfl), lw_t11 (List.mem_of_getElem? (i := 110) rfl), lw_t11 (List.mem_of_getElem? (i := 111) rfl)⟩
def lw_privs_4 : List (MethodName × Nat) := [(⟨"BlockPapersModel", "rooms", "(II)I"⟩, 24), (⟨"BlockPapersModel", "isRoom", "(I)Z"⟩, 24), (⟨"BlockPapersModel", "firstRoll", "(I)I"⟩, 24), (⟨"BlockPapersModel", "target", "(I)I"⟩, 24), (⟨"BlockPapersModel", "mustBegin", "(II)I"⟩, 24), (⟨"BlockPapersModel", "hangs", "(II)I"⟩, 24), (⟨"BlockPapersModel", "reasonFor", "(II)I"⟩, 24), (⟨"BlockPapersModel", "wasteFor", "(II)I"⟩, 24), (⟨"BlockPapersModel", "strips", "(I)I"⟩, 24), (⟨"BlockPapersModel", "best", "(I)I"⟩, 24), (⟨"BlockPapersModel", "finishes", "(I)I"⟩, 24), (⟨"BlockPapersModel", "putsNumber", "(I)V"⟩, 24), (⟨"BlockPapersModel", "puts", "(I)V"⟩, 24), (⟨"BlockPapersModel", "putsWord", "(Ljava/lang/String;)V"⟩, 24), (⟨"BlockPapersModel", "given", "(Z)I"⟩, 24), (⟨"BlockPapersModel", "hung", "(Z)I"⟩, 24)]
theorem lw_r4 : ∀ q ∈ lw_privs_4, lw_okq q := List.forall_mem_cons.mpr ⟨lw_p48, List.forall_mem_cons.mpr ⟨lw_p49, List.forall_mem_cons.mpr ⟨lw_p50, List.forall_mem_cons.mpr ⟨lw_p51, List.forall_mem_cons.mpr ⟨lw_p52, List.forall_mem_cons.mpr ⟨lw_p53, List.forall_mem_cons.mpr ⟨lw_p54, List.forall_mem_cons.mpr ⟨lw_p55, List.forall_mem_cons.mpr ⟨lw_p56, List.forall_mem_cons.mpr ⟨lw_p57, List.forall_mem_cons.mpr ⟨lw_p58, List.forall_mem_cons.mpr ⟨lw_p59, List.forall_mem_cons.mpr ⟨lw_p60, List.forall_mem_cons.mpr ⟨lw_p61, List.forall_mem_cons.mpr ⟨lw_p62, List.forall_mem_cons.mpr ⟨lw_p63, fun _ h => absurd h List.not_mem_nil⟩⟩⟩⟩⟩⟩⟩⟩⟩⟩⟩⟩⟩⟩⟩⟩
theorem lw_p64 : lw_okq (⟨"BlockPapersModel", "fullRooms", "()I"⟩, 24) := ⟨⟨by decide +kernel, by decide +kernel⟩, lw_t10 (List.mem_of_getElem? (i := 3) rfl), lw_t11 (List.mem_of_getElem? (i := 114) rfl), lw_t11 (List.mem_of_getElem? (i := 115) rfl)⟩
theorem lw_p65 : lw_okq (⟨"BlockPapersModel", "lefts", "()I"⟩, 24) := ⟨⟨by decide +kernel, by decide +kernel⟩, lw_t10 (List.mem_of_getElem? (i := 3) rfl), lw_t11 (List.mem_of_getElem? (i := 118) rfl), lw_t11 (List.mem_of_getElem? (i := 119) rfl)⟩
theorem lw_p66 : lw_okq (⟨"BlockPapersModel", "grams", "()I"⟩, 24) := ⟨⟨by decide +kernel, by decide +kernel⟩, lw_t10 (List.mem_of_getElem? (i := 3) rfl), lw_t11 (List.mem_of_getElem? (i := 122) rfl), lw_t11 (List.mem_of_getElem? (i := 123) rfl)⟩
theorem lw_p67 : lw_okq (⟨"BlockPapersModel", "used", "()I"⟩, 24) := ⟨⟨by decide +kernel, by decide +kernel⟩, lw_t10 (List.mem_of_getElem? (i := 3) rfl), lw_t11 (List.mem_of_getElem? (i := 138) rfl), lw_t11 (List.mem_of_getElem? (i := 139) rfl)⟩
theorem lw_p68 : lw_okq (⟨"BlockPapersModel", "readsOne", "()V"⟩, 24) := ⟨⟨by decide +kernel, by decide +kernel⟩, lw_t10 (List.mem_of_getElem? (i := 3) rfl), lw_t11 (List.mem_of_getElem? (i := 150) rfl), lw_t11 (List.mem_of_getElem? (i := 151) rfl)⟩
theorem lw_p69 : lw_okq (⟨"BlockPapersModel", "here", "()I"⟩, 24) := ⟨⟨by decide +kernel, by decide +kernel⟩, lw_t10 (List.mem_of_getElem? (i := 3) rfl), lw_t11 (List.mem_of_getElem? (i := 154) rfl), lw_t11 (List.mem_of_getElem? (i := 155) rfl)⟩
theorem lw_p70 : lw_okq (⟨"BlockPapersModel", "command", "(ILjava/lang/String;II)V"⟩, 24) := ⟨⟨by decide +kernel, by decide +kernel⟩, lw_t10 (List.mem_of_getElem? (i := 3) rfl), lw_t11 (List.mem_of_getElem? (i := 159) rfl), lw_t11 (List.mem_of_getElem? (i := 160) rfl)⟩
theorem lw_p71 : lw_okq (⟨"BlockPapersModel", "must", "(I)V"⟩, 24) := ⟨⟨by decide +kernel, by decide +kernel⟩, lw_t10 (List.mem_of_getElem? (i := 3) rfl), lw_t11 (List.mem_of_getElem? (i := 163) rfl), lw_t11 (List.mem_of_getElem? (i := 164) rfl)⟩
theorem lw_p72 : lw_okq (⟨"BlockPapersModel", "digitsOf", "(II)V"⟩, 24) := ⟨⟨by decide +kernel, by decide +kernel⟩, lw_t10 (List.mem_of_getElem? (i := 3) rfl), lw_t11 (List.mem_of_getElem? (i := 167) rfl), lw_t11 (List.mem_of_getElem? (i := 168) rfl)⟩
theorem lw_p73 : lw_okq (⟨"BlockPapersModel", "does", "(I)I"⟩, 24) := ⟨⟨by decide +kernel, by decide +kernel⟩, lw_t10 (List.mem_of_getElem? (i := 3) rfl), lw_t11 (List.mem_of_getElem? (i := 177) rfl), lw_t11 (List.mem_of_getElem? (i := 178) rfl)⟩
def lw_privs_5 : List (MethodName × Nat) := [(⟨"BlockPapersModel", "fullRooms", "()I"⟩, 24), (⟨"BlockPapersModel", "lefts", "()I"⟩, 24), (⟨"BlockPapersModel", "grams", "()I"⟩, 24), (⟨"BlockPapersModel", "used", "()I"⟩, 24), (⟨"BlockPapersModel", "readsOne", "()V"⟩, 24), (⟨"BlockPapersModel", "here", "()I"⟩, 24), (⟨"BlockPapersModel", "command", "(ILjava/lang/String;II)V"⟩, 24), (⟨"BlockPapersModel", "must", "(I)V"⟩, 24), (⟨"BlockPapersModel", "digitsOf", "(II)V"⟩, 24), (⟨"BlockPapersModel", "does", "(I)I"⟩, 24)]
theorem lw_r5 : ∀ q ∈ lw_privs_5, lw_okq q := List.forall_mem_cons.mpr ⟨lw_p64, List.forall_mem_cons.mpr ⟨lw_p65, List.forall_mem_cons.mpr ⟨lw_p66, List.forall_mem_cons.mpr ⟨lw_p67, List.forall_mem_cons.mpr ⟨lw_p68, List.forall_mem_cons.mpr ⟨lw_p69, List.forall_mem_cons.mpr ⟨lw_p70, List.forall_mem_cons.mpr ⟨lw_p71, List.forall_mem_cons.mpr ⟨lw_p72, List.forall_mem_cons.mpr ⟨lw_p73, fun _ h => absurd h List.not_mem_nil⟩⟩⟩⟩⟩⟩⟩⟩⟩⟩
def lw_privs : List (MethodName × Nat) := lw_privs_1 ++ (lw_privs_2 ++ (lw_privs_3 ++ (lw_privs_4 ++ (lw_privs_5))))
def lw_tbl : List Cond := k2_sels lw_privs ++ tables_1
theorem lw_privs_ok : ∀ q ∈ lw_privs, lw_okq q := by
  show ∀ q ∈ lw_privs_1 ++ (lw_privs_2 ++ (lw_privs_3 ++ (lw_privs_4 ++ (lw_privs_5)))), lw_okq q
  exact List.forall_mem_append.mpr ⟨lw_r1, List.forall_mem_append.mpr ⟨lw_r2, List.forall_mem_append.mpr ⟨lw_r3, List.forall_mem_append.mpr ⟨lw_r4, lw_r5⟩⟩⟩⟩
-- ===== ONE list of words for every method: the tables' words that hold all through a run =====
def lw_all : List Cond := lw_tbl.filter goodWord
/-- a word of the tables by its place: claim/WORDS.tsv -/
theorem lw_w {w : Cond} (i : Nat) (h : lw_tbl[i]? = some w) (g : goodWord w = true) : w ∈ lw_all := List.mem_filter.mpr ⟨List.mem_of_getElem? h, g⟩
theorem lw_all_tbl {w : Cond} (h : w ∈ lw_all) : w ∈ lw_tbl := (List.mem_filter.mp h).1
theorem lw_self : GoodIn lw_all lw_all := fun w h => ⟨h, good_of_word (List.mem_filter.mp h).2⟩
/-- a class's field words, by their places -/
theorem lw_in (ws : List Cond) (ps : List Nat) (hp : ws = ps.filterMap (fun i => lw_tbl[i]?)) (hg : ws.all goodWord = true) : ∀ w ∈ ws, w ∈ lw_all := by
  intro w h
  have h1 := List.all_eq_true.mp hg w h
  rw [hp] at h
  obtain ⟨i, -, hi⟩ := List.mem_filterMap.mp h
  exact lw_w i hi h1
/-- the words of a contract for the method y with code b, L locals, answer r -/
abbrev ws_ (y : MethodName) (b : ByteArray) (L : Nat) (r : Option FieldType) : List Cond := Cond.code y b L r :: lw_all
theorem lw_meth {y : MethodName} {b : ByteArray} {L : Nat} {r : Option FieldType} (h : Cond.code y b L r ∈ lw_all) : GoodIn lw_all (ws_ y b L r) := by
  intro w hw
  rcases List.mem_cons.mp hw with e | e
  · rw [e]
    exact lw_self _ h
  · exact lw_self _ e
theorem lw_app {a c : List Cond} (ha : ∀ w ∈ a, w ∈ lw_all) (hc : GoodIn lw_all c) : GoodIn lw_all (a ++ c) := by
  intro w hw
  rcases List.mem_append.mp hw with e | e
  · exact lw_self w (ha w e)
  · exact hc w e
/-- what a call through an object asks: cwV n hts (lw_V ..) -/
theorem lw_V {own : String} {idx : Nat} {C : String} {y : MethodName} {b : ByteArray} {L : Nat} {r : Option FieldType} (h1 : Cond.methodLink own idx y ∈ lw_all) (h2 : Cond.instanceMethod y ∈ lw_all) (h3 : Cond.selects C y y ∈ lw_all) (h4 : Cond.initialized C ∈ lw_all) (h5 : Cond.code y b L r ∈ lw_all) : GoodIn lw_all (wsV own idx C y (ws_ y b L r)) := by
  refine lw_app ?_ (lw_meth h5)
  intro w hw
  simp only [List.mem_cons, List.not_mem_nil, or_false] at hw
  rcases hw with e | e | e | e
  · rw [e]; exact h1
  · rw [e]; exact h2
  · rw [e]; exact h3
  · rw [e]; exact h4
/-- what a static call asks: va_cwS n hts (lw_S ..) -/
theorem lw_S {own : String} {idx : Nat} {y : MethodName} {b : ByteArray} {L : Nat} {r : Option FieldType} (h1 : Cond.methodLink own idx y ∈ lw_all) (h2 : Cond.static y ∈ lw_all) (h3 : Cond.initialized y.cls ∈ lw_all) (h4 : Cond.code y b L r ∈ lw_all) : GoodIn lw_all (va_wsS own idx y (ws_ y b L r)) := by
  refine lw_app ?_ (lw_meth h4)
  intro w hw
  simp only [List.mem_cons, List.not_mem_nil, or_false] at hw
  rcases hw with e | e | e
  · rw [e]; exact h1
  · rw [e]; exact h2
  · rw [e]; exact h3
/-- the words of a contract for a method WITH HANDLERS (hh: its table) -/
abbrev wsW_ (y : MethodName) (b : ByteArray) (L : Nat) (r : Option FieldType) (hh : List (Nat × Nat × Nat × Nat)) : List Cond := Cond.codeWith y b L r hh :: lw_all
theorem lw_methW {y : MethodName} {b : ByteArray} {L : Nat} {r : Option FieldType} {hh : List (Nat × Nat × Nat × Nat)} (h : Cond.codeWith y b L r hh ∈ lw_all) : GoodIn lw_all (wsW_ y b L r hh) := by
  intro w hw
  rcases List.mem_cons.mp hw with e | e
  · rw [e]
    exact lw_self _ h
  · exact lw_self _ e
/-- any list of words by their places (lw_in), good -/
theorem lw_good {ws : List Cond} (h : ∀ w ∈ ws, w ∈ lw_all) : GoodIn lw_all ws := fun w hw => lw_self w (h w hw)
/-- what a call of a method with handlers asks: vx_cwVW n hts (lw_VW ..), vx_cwSW n hts (lw_SW ..) -/
theorem lw_VW {own : String} {idx : Nat} {C : String} {y : MethodName} {b : ByteArray} {L : Nat} {r : Option FieldType} {hh : List (Nat × Nat × Nat × Nat)} (h1 : Cond.methodLink own idx y ∈ lw_all) (h2 : Cond.instanceMethod y ∈ lw_all) (h3 : Cond.selects C y y ∈ lw_all) (h4 : Cond.initialized C ∈ lw_all) (h5 : Cond.codeWith y b L r hh ∈ lw_all) : GoodIn lw_all (wsV own idx C y (wsW_ y b L r hh)) := by
  refine lw_app ?_ (lw_methW h5)
  intro w hw
  simp only [List.mem_cons, List.not_mem_nil, or_false] at hw
  rcases hw with e | e | e | e
  · rw [e]; exact h1
  · rw [e]; exact h2
  · rw [e]; exact h3
  · rw [e]; exact h4
theorem lw_SW {own : String} {idx : Nat} {y : MethodName} {b : ByteArray} {L : Nat} {r : Option FieldType} {hh : List (Nat × Nat × Nat × Nat)} (h1 : Cond.methodLink own idx y ∈ lw_all) (h2 : Cond.static y ∈ lw_all) (h3 : Cond.initialized y.cls ∈ lw_all) (h4 : Cond.codeWith y b L r hh ∈ lw_all) : GoodIn lw_all (va_wsS own idx y (wsW_ y b L r hh)) := by
  refine lw_app ?_ (lw_methW h4)
  intro w hw
  simp only [List.mem_cons, List.not_mem_nil, or_false] at hw
  rcases hw with e | e | e
  · rw [e]; exact h1
  · rw [e]; exact h2
  · rw [e]; exact h3
/-- a word by its place in its run of the tables -/
theorem lw_at {r : List Cond} (hr : ∀ w ∈ r, w ∈ lw_tbl) {w : Cond} (i : Nat) (h : r[i]? = some w) : w ∈ lw_tbl := hr w (List.mem_of_getElem? h)
theorem lw_g {w : Cond} (h : w ∈ lw_tbl) (g : goodWord w = true) : w ∈ lw_all := List.mem_filter.mpr ⟨h, g⟩
theorem lw_ms : ∀ w ∈ k2_sels lw_privs, w ∈ lw_tbl := fun w h => show w ∈ k2_sels lw_privs ++ tables_1 from List.mem_append_left _ h
theorem lw_m1 : ∀ w ∈ tables_1_1, w ∈ lw_tbl := fun w h => show w ∈ k2_sels lw_privs ++ tables_1 from List.mem_append_right (k2_sels lw_privs) (show w ∈ tables_1 from List.mem_append_left _ h)
theorem lw_m2 : ∀ w ∈ tables_1_2, w ∈ lw_tbl := fun w h => show w ∈ k2_sels lw_privs ++ tables_1 from List.mem_append_right (k2_sels lw_privs) (show w ∈ tables_1 from List.mem_append_right _ (List.mem_append_left _ h))
theorem lw_m3 : ∀ w ∈ tables_1_3, w ∈ lw_tbl := fun w h => show w ∈ k2_sels lw_privs ++ tables_1 from List.mem_append_right (k2_sels lw_privs) (show w ∈ tables_1 from List.mem_append_right _ (List.mem_append_right _ (List.mem_append_left _ h)))
theorem lw_m4 : ∀ w ∈ tables_1_4, w ∈ lw_tbl := fun w h => show w ∈ k2_sels lw_privs ++ tables_1 from List.mem_append_right (k2_sels lw_privs) (show w ∈ tables_1 from List.mem_append_right _ (List.mem_append_right _ (List.mem_append_right _ (List.mem_append_left _ h))))
theorem lw_m5 : ∀ w ∈ tables_1_5, w ∈ lw_tbl := fun w h => show w ∈ k2_sels lw_privs ++ tables_1 from List.mem_append_right (k2_sels lw_privs) (show w ∈ tables_1 from List.mem_append_right _ (List.mem_append_right _ (List.mem_append_right _ (List.mem_append_right _ (List.mem_append_left _ h)))))
theorem lw_m6 : ∀ w ∈ tables_1_6, w ∈ lw_tbl := fun w h => show w ∈ k2_sels lw_privs ++ tables_1 from List.mem_append_right (k2_sels lw_privs) (show w ∈ tables_1 from List.mem_append_right _ (List.mem_append_right _ (List.mem_append_right _ (List.mem_append_right _ (List.mem_append_right _ (List.mem_append_left _ h))))))
theorem lw_m7 : ∀ w ∈ tables_1_7, w ∈ lw_tbl := fun w h => show w ∈ k2_sels lw_privs ++ tables_1 from List.mem_append_right (k2_sels lw_privs) (show w ∈ tables_1 from List.mem_append_right _ (List.mem_append_right _ (List.mem_append_right _ (List.mem_append_right _ (List.mem_append_right _ (List.mem_append_right _ (List.mem_append_left _ h)))))))
theorem lw_m8 : ∀ w ∈ tables_1_8, w ∈ lw_tbl := fun w h => show w ∈ k2_sels lw_privs ++ tables_1 from List.mem_append_right (k2_sels lw_privs) (show w ∈ tables_1 from List.mem_append_right _ (List.mem_append_right _ (List.mem_append_right _ (List.mem_append_right _ (List.mem_append_right _ (List.mem_append_right _ (List.mem_append_right _ (List.mem_append_left _ h))))))))
theorem lw_m9 : ∀ w ∈ tables_1_9, w ∈ lw_tbl := fun w h => show w ∈ k2_sels lw_privs ++ tables_1 from List.mem_append_right (k2_sels lw_privs) (show w ∈ tables_1 from List.mem_append_right _ (List.mem_append_right _ (List.mem_append_right _ (List.mem_append_right _ (List.mem_append_right _ (List.mem_append_right _ (List.mem_append_right _ (List.mem_append_right _ (List.mem_append_left _ h)))))))))
theorem lw_m10 : ∀ w ∈ tables_1_10, w ∈ lw_tbl := fun w h => show w ∈ k2_sels lw_privs ++ tables_1 from List.mem_append_right (k2_sels lw_privs) (show w ∈ tables_1 from List.mem_append_right _ (List.mem_append_right _ (List.mem_append_right _ (List.mem_append_right _ (List.mem_append_right _ (List.mem_append_right _ (List.mem_append_right _ (List.mem_append_right _ (List.mem_append_right _ (List.mem_append_left _ h))))))))))
theorem lw_m11 : ∀ w ∈ tables_1_11, w ∈ lw_tbl := fun w h => show w ∈ k2_sels lw_privs ++ tables_1 from List.mem_append_right (k2_sels lw_privs) (show w ∈ tables_1 from List.mem_append_right _ (List.mem_append_right _ (List.mem_append_right _ (List.mem_append_right _ (List.mem_append_right _ (List.mem_append_right _ (List.mem_append_right _ (List.mem_append_right _ (List.mem_append_right _ (List.mem_append_right _ (List.mem_append_left _ h)))))))))))
theorem lw_m12 : ∀ w ∈ tables_1_12, w ∈ lw_tbl := fun w h => show w ∈ k2_sels lw_privs ++ tables_1 from List.mem_append_right (k2_sels lw_privs) (show w ∈ tables_1 from List.mem_append_right _ (List.mem_append_right _ (List.mem_append_right _ (List.mem_append_right _ (List.mem_append_right _ (List.mem_append_right _ (List.mem_append_right _ (List.mem_append_right _ (List.mem_append_right _ (List.mem_append_right _ (List.mem_append_right _ h)))))))))))
theorem qs0 : (Cond.selects "java/lang/Throwable" ⟨"java/lang/Throwable", "fillInStackTrace", "(I)Ljava/lang/Throwable;"⟩ ⟨"java/lang/Throwable", "fillInStackTrace", "(I)Ljava/lang/Throwable;"⟩) ∈ lw_all := lw_g (lw_at lw_ms 0 rfl) rfl
theorem qs1 : (Cond.selects "BlockPapers" ⟨"BlockPapers", "back", "()I"⟩ ⟨"BlockPapers", "back", "()I"⟩) ∈ lw_all := lw_g (lw_at lw_ms 1 rfl) rfl
theorem qs2 : (Cond.selects "BlockPapers" ⟨"BlockPapers", "grams", "()I"⟩ ⟨"BlockPapers", "grams", "()I"⟩) ∈ lw_all := lw_g (lw_at lw_ms 2 rfl) rfl
theorem qs3 : (Cond.selects "BlockPapers" ⟨"BlockPapers", "draft", "()LBlockPapers$Workshop;"⟩ ⟨"BlockPapers", "draft", "()LBlockPapers$Workshop;"⟩) ∈ lw_all := lw_g (lw_at lw_ms 3 rfl) rfl
theorem qs4 : (Cond.selects "java/util/ArrayDeque" ⟨"java/util/ArrayDeque", "toArray", "(Ljava/lang/Class;)[Ljava/lang/Object;"⟩ ⟨"java/util/ArrayDeque", "toArray", "(Ljava/lang/Class;)[Ljava/lang/Object;"⟩) ∈ lw_all := lw_g (lw_at lw_ms 4 rfl) rfl
theorem qs5 : (Cond.selects "java/util/ArrayList" ⟨"java/util/ArrayList", "grow", "(I)[Ljava/lang/Object;"⟩ ⟨"java/util/ArrayList", "grow", "(I)[Ljava/lang/Object;"⟩) ∈ lw_all := lw_g (lw_at lw_ms 5 rfl) rfl
theorem qs6 : (Cond.selects "java/util/ArrayList" ⟨"java/util/ArrayList", "add", "(Ljava/lang/Object;[Ljava/lang/Object;I)V"⟩ ⟨"java/util/ArrayList", "add", "(Ljava/lang/Object;[Ljava/lang/Object;I)V"⟩) ∈ lw_all := lw_g (lw_at lw_ms 6 rfl) rfl
theorem qs7 : (Cond.selects "java/util/ArrayList" ⟨"java/util/ArrayList", "grow", "()[Ljava/lang/Object;"⟩ ⟨"java/util/ArrayList", "grow", "()[Ljava/lang/Object;"⟩) ∈ lw_all := lw_g (lw_at lw_ms 7 rfl) rfl
theorem qs8 : (Cond.selects "BlockPapers" ⟨"BlockPapers", "change", "(LBlockPapers$Deed;)I"⟩ ⟨"BlockPapers", "change", "(LBlockPapers$Deed;)I"⟩) ∈ lw_all := lw_g (lw_at lw_ms 8 rfl) rfl
theorem qs9 : (Cond.selects "BlockPapers$Workshop" ⟨"BlockPapers$Workshop", "unlike", "(LBlockPapers$Room;LBlockPapers$Roll;)I"⟩ ⟨"BlockPapers$Workshop", "unlike", "(LBlockPapers$Room;LBlockPapers$Roll;)I"⟩) ∈ lw_all := lw_g (lw_at lw_ms 9 rfl) rfl
theorem qs10 : (Cond.selects "BlockPapers$Workshop" ⟨"BlockPapers$Workshop", "missing", "(LBlockPapers$Room;LBlockPapers$Roll;)I"⟩ ⟨"BlockPapers$Workshop", "missing", "(LBlockPapers$Room;LBlockPapers$Roll;)I"⟩) ∈ lw_all := lw_g (lw_at lw_ms 10 rfl) rfl
theorem qs11 : (Cond.selects "BlockPapers$Workshop" ⟨"BlockPapers$Workshop", "waste", "(LBlockPapers$Roll;II)I"⟩ ⟨"BlockPapers$Workshop", "waste", "(LBlockPapers$Roll;II)I"⟩) ∈ lw_all := lw_g (lw_at lw_ms 11 rfl) rfl
theorem qs12 : (Cond.selects "BlockPapers$Workshop" ⟨"BlockPapers$Workshop", "hang", "(LBlockPapers$Room;I)I"⟩ ⟨"BlockPapers$Workshop", "hang", "(LBlockPapers$Room;I)I"⟩) ∈ lw_all := lw_g (lw_at lw_ms 12 rfl) rfl
theorem qs13 : (Cond.selects "java/util/ArrayList" ⟨"java/util/ArrayList", "fastRemove", "([Ljava/lang/Object;I)V"⟩ ⟨"java/util/ArrayList", "fastRemove", "([Ljava/lang/Object;I)V"⟩) ∈ lw_all := lw_g (lw_at lw_ms 13 rfl) rfl
theorem qs14 : (Cond.selects "BlockPapers" ⟨"BlockPapers", "replace", "(LBlockPapers$Workshop;)V"⟩ ⟨"BlockPapers", "replace", "(LBlockPapers$Workshop;)V"⟩) ∈ lw_all := lw_g (lw_at lw_ms 14 rfl) rfl
theorem qs15 : (Cond.selects "java/util/ArrayDeque" ⟨"java/util/ArrayDeque", "grow", "(I)V"⟩ ⟨"java/util/ArrayDeque", "grow", "(I)V"⟩) ∈ lw_all := lw_g (lw_at lw_ms 15 rfl) rfl
theorem qs16 : (Cond.selects "java/util/ArrayDeque" ⟨"java/util/ArrayDeque", "newCapacity", "(II)I"⟩ ⟨"java/util/ArrayDeque", "newCapacity", "(II)I"⟩) ∈ lw_all := lw_g (lw_at lw_ms 16 rfl) rfl
theorem qs17 : (Cond.selects "BlockPapers" ⟨"BlockPapers", "printed", "(IZ)I"⟩ ⟨"BlockPapers", "printed", "(IZ)I"⟩) ∈ lw_all := lw_g (lw_at lw_ms 17 rfl) rfl
theorem qs18 : (Cond.selects "BlockPapers" ⟨"BlockPapers", "taken", "()Ljava/util/List;"⟩ ⟨"BlockPapers", "taken", "()Ljava/util/List;"⟩) ∈ lw_all := lw_g (lw_at lw_ms 18 rfl) rfl
theorem qs19 : (Cond.selects "BlockPapers$Parser" ⟨"BlockPapers$Parser", "command", "()LBlockPapers$Deed;"⟩ ⟨"BlockPapers$Parser", "command", "()LBlockPapers$Deed;"⟩) ∈ lw_all := lw_g (lw_at lw_ms 19 rfl) rfl
theorem qs20 : (Cond.selects "BlockPapers$Parser" ⟨"BlockPapers$Parser", "word", "()Ljava/lang/String;"⟩ ⟨"BlockPapers$Parser", "word", "()Ljava/lang/String;"⟩) ∈ lw_all := lw_g (lw_at lw_ms 20 rfl) rfl
theorem qs21 : (Cond.selects "BlockPapers$Parser" ⟨"BlockPapers$Parser", "isAt", "(CC)Z"⟩ ⟨"BlockPapers$Parser", "isAt", "(CC)Z"⟩) ∈ lw_all := lw_g (lw_at lw_ms 21 rfl) rfl
theorem qs22 : (Cond.selects "BlockPapers$Parser" ⟨"BlockPapers$Parser", "take", "(CC)C"⟩ ⟨"BlockPapers$Parser", "take", "(CC)C"⟩) ∈ lw_all := lw_g (lw_at lw_ms 22 rfl) rfl
theorem qs23 : (Cond.selects "BlockPapers$Parser" ⟨"BlockPapers$Parser", "number", "(I)I"⟩ ⟨"BlockPapers$Parser", "number", "(I)I"⟩) ∈ lw_all := lw_g (lw_at lw_ms 23 rfl) rfl
theorem qs24 : (Cond.selects "BlockPapersModel" ⟨"BlockPapersModel", "remembers", "()V"⟩ ⟨"BlockPapersModel", "remembers", "()V"⟩) ∈ lw_all := lw_g (lw_at lw_ms 24 rfl) rfl
theorem qs25 : (Cond.selects "BlockPapersModel" ⟨"BlockPapersModel", "blocks", "(IZ)I"⟩ ⟨"BlockPapersModel", "blocks", "(IZ)I"⟩) ∈ lw_all := lw_g (lw_at lw_ms 25 rfl) rfl
theorem qs26 : (Cond.selects "BlockPapersModel" ⟨"BlockPapersModel", "refused", "(II)I"⟩ ⟨"BlockPapersModel", "refused", "(II)I"⟩) ∈ lw_all := lw_g (lw_at lw_ms 26 rfl) rfl
theorem qs27 : (Cond.selects "BlockPapersModel" ⟨"BlockPapersModel", "done", "(I)I"⟩ ⟨"BlockPapersModel", "done", "(I)I"⟩) ∈ lw_all := lw_g (lw_at lw_ms 27 rfl) rfl
theorem qs28 : (Cond.selects "BlockPapersModel" ⟨"BlockPapersModel", "ends", "(II)I"⟩ ⟨"BlockPapersModel", "ends", "(II)I"⟩) ∈ lw_all := lw_g (lw_at lw_ms 28 rfl) rfl
theorem qs29 : (Cond.selects "BlockPapersModel" ⟨"BlockPapersModel", "changed", "(I)I"⟩ ⟨"BlockPapersModel", "changed", "(I)I"⟩) ∈ lw_all := lw_g (lw_at lw_ms 29 rfl) rfl
theorem qs30 : (Cond.selects "BlockPapersModel" ⟨"BlockPapersModel", "fails", "(I)I"⟩ ⟨"BlockPapersModel", "fails", "(I)I"⟩) ∈ lw_all := lw_g (lw_at lw_ms 30 rfl) rfl
theorem qs31 : (Cond.selects "BlockPapersModel" ⟨"BlockPapersModel", "isBlock", "(I)Z"⟩ ⟨"BlockPapersModel", "isBlock", "(I)Z"⟩) ∈ lw_all := lw_g (lw_at lw_ms 31 rfl) rfl
theorem qs32 : (Cond.selects "BlockPapersModel" ⟨"BlockPapersModel", "blockRow", "(II)I"⟩ ⟨"BlockPapersModel", "blockRow", "(II)I"⟩) ∈ lw_all := lw_g (lw_at lw_ms 32 rfl) rfl
theorem qs33 : (Cond.selects "BlockPapersModel" ⟨"BlockPapersModel", "carves", "(I)I"⟩ ⟨"BlockPapersModel", "carves", "(I)I"⟩) ∈ lw_all := lw_g (lw_at lw_ms 33 rfl) rfl
theorem qs34 : (Cond.selects "BlockPapersModel" ⟨"BlockPapersModel", "inks", "(III)I"⟩ ⟨"BlockPapersModel", "inks", "(III)I"⟩) ∈ lw_all := lw_g (lw_at lw_ms 34 rfl) rfl
theorem qs35 : (Cond.selects "BlockPapersModel" ⟨"BlockPapersModel", "isInk", "(I)Z"⟩ ⟨"BlockPapersModel", "isInk", "(I)Z"⟩) ∈ lw_all := lw_g (lw_at lw_ms 35 rfl) rfl
theorem qs36 : (Cond.selects "BlockPapersModel" ⟨"BlockPapersModel", "inkRow", "(II)I"⟩ ⟨"BlockPapersModel", "inkRow", "(II)I"⟩) ∈ lw_all := lw_g (lw_at lw_ms 36 rfl) rfl
theorem qs37 : (Cond.selects "BlockPapersModel" ⟨"BlockPapersModel", "mixes", "(III)I"⟩ ⟨"BlockPapersModel", "mixes", "(III)I"⟩) ∈ lw_all := lw_g (lw_at lw_ms 37 rfl) rfl
theorem qs38 : (Cond.selects "BlockPapersModel" ⟨"BlockPapersModel", "prints", "(III)I"⟩ ⟨"BlockPapersModel", "prints", "(III)I"⟩) ∈ lw_all := lw_g (lw_at lw_ms 38 rfl) rfl
theorem qs39 : (Cond.selects "BlockPapersModel" ⟨"BlockPapersModel", "isRoll", "(I)Z"⟩ ⟨"BlockPapersModel", "isRoll", "(I)Z"⟩) ∈ lw_all := lw_g (lw_at lw_ms 39 rfl) rfl
theorem qs40 : (Cond.selects "BlockPapersModel" ⟨"BlockPapersModel", "rollRow", "(II)I"⟩ ⟨"BlockPapersModel", "rollRow", "(II)I"⟩) ∈ lw_all := lw_g (lw_at lw_ms 40 rfl) rfl
theorem qs41 : (Cond.selects "BlockPapersModel" ⟨"BlockPapersModel", "colourOf", "(I)I"⟩ ⟨"BlockPapersModel", "colourOf", "(I)I"⟩) ∈ lw_all := lw_g (lw_at lw_ms 41 rfl) rfl
theorem qs42 : (Cond.selects "BlockPapersModel" ⟨"BlockPapersModel", "leftOf", "(I)I"⟩ ⟨"BlockPapersModel", "leftOf", "(I)I"⟩) ∈ lw_all := lw_g (lw_at lw_ms 42 rfl) rfl
theorem qs43 : (Cond.selects "BlockPapersModel" ⟨"BlockPapersModel", "hangingOf", "(I)I"⟩ ⟨"BlockPapersModel", "hangingOf", "(I)I"⟩) ∈ lw_all := lw_g (lw_at lw_ms 43 rfl) rfl
theorem qs44 : (Cond.selects "BlockPapersModel" ⟨"BlockPapersModel", "roomRow", "(II)I"⟩ ⟨"BlockPapersModel", "roomRow", "(II)I"⟩) ∈ lw_all := lw_g (lw_at lw_ms 44 rfl) rfl
theorem qs45 : (Cond.selects "BlockPapersModel" ⟨"BlockPapersModel", "givesBack", "(I)I"⟩ ⟨"BlockPapersModel", "givesBack", "(I)I"⟩) ∈ lw_all := lw_g (lw_at lw_ms 45 rfl) rfl
theorem qs46 : (Cond.selects "BlockPapersModel" ⟨"BlockPapersModel", "latestOf", "(I)I"⟩ ⟨"BlockPapersModel", "latestOf", "(I)I"⟩) ∈ lw_all := lw_g (lw_at lw_ms 46 rfl) rfl
theorem qs47 : (Cond.selects "BlockPapersModel" ⟨"BlockPapersModel", "apart", "(II)I"⟩ ⟨"BlockPapersModel", "apart", "(II)I"⟩) ∈ lw_all := lw_g (lw_at lw_ms 47 rfl) rfl
theorem qs48 : (Cond.selects "BlockPapersModel" ⟨"BlockPapersModel", "rooms", "(II)I"⟩ ⟨"BlockPapersModel", "rooms", "(II)I"⟩) ∈ lw_all := lw_g (lw_at lw_ms 48 rfl) rfl
theorem qs49 : (Cond.selects "BlockPapersModel" ⟨"BlockPapersModel", "isRoom", "(I)Z"⟩ ⟨"BlockPapersModel", "isRoom", "(I)Z"⟩) ∈ lw_all := lw_g (lw_at lw_ms 49 rfl) rfl
theorem qs50 : (Cond.selects "BlockPapersModel" ⟨"BlockPapersModel", "firstRoll", "(I)I"⟩ ⟨"BlockPapersModel", "firstRoll", "(I)I"⟩) ∈ lw_all := lw_g (lw_at lw_ms 50 rfl) rfl
theorem qs51 : (Cond.selects "BlockPapersModel" ⟨"BlockPapersModel", "target", "(I)I"⟩ ⟨"BlockPapersModel", "target", "(I)I"⟩) ∈ lw_all := lw_g (lw_at lw_ms 51 rfl) rfl
theorem qs52 : (Cond.selects "BlockPapersModel" ⟨"BlockPapersModel", "mustBegin", "(II)I"⟩ ⟨"BlockPapersModel", "mustBegin", "(II)I"⟩) ∈ lw_all := lw_g (lw_at lw_ms 52 rfl) rfl
theorem qs53 : (Cond.selects "BlockPapersModel" ⟨"BlockPapersModel", "hangs", "(II)I"⟩ ⟨"BlockPapersModel", "hangs", "(II)I"⟩) ∈ lw_all := lw_g (lw_at lw_ms 53 rfl) rfl
theorem qs54 : (Cond.selects "BlockPapersModel" ⟨"BlockPapersModel", "reasonFor", "(II)I"⟩ ⟨"BlockPapersModel", "reasonFor", "(II)I"⟩) ∈ lw_all := lw_g (lw_at lw_ms 54 rfl) rfl
theorem qs55 : (Cond.selects "BlockPapersModel" ⟨"BlockPapersModel", "wasteFor", "(II)I"⟩ ⟨"BlockPapersModel", "wasteFor", "(II)I"⟩) ∈ lw_all := lw_g (lw_at lw_ms 55 rfl) rfl
theorem qs56 : (Cond.selects "BlockPapersModel" ⟨"BlockPapersModel", "strips", "(I)I"⟩ ⟨"BlockPapersModel", "strips", "(I)I"⟩) ∈ lw_all := lw_g (lw_at lw_ms 56 rfl) rfl
theorem qs57 : (Cond.selects "BlockPapersModel" ⟨"BlockPapersModel", "best", "(I)I"⟩ ⟨"BlockPapersModel", "best", "(I)I"⟩) ∈ lw_all := lw_g (lw_at lw_ms 57 rfl) rfl
theorem qs58 : (Cond.selects "BlockPapersModel" ⟨"BlockPapersModel", "finishes", "(I)I"⟩ ⟨"BlockPapersModel", "finishes", "(I)I"⟩) ∈ lw_all := lw_g (lw_at lw_ms 58 rfl) rfl
theorem qs59 : (Cond.selects "BlockPapersModel" ⟨"BlockPapersModel", "putsNumber", "(I)V"⟩ ⟨"BlockPapersModel", "putsNumber", "(I)V"⟩) ∈ lw_all := lw_g (lw_at lw_ms 59 rfl) rfl
theorem qs60 : (Cond.selects "BlockPapersModel" ⟨"BlockPapersModel", "puts", "(I)V"⟩ ⟨"BlockPapersModel", "puts", "(I)V"⟩) ∈ lw_all := lw_g (lw_at lw_ms 60 rfl) rfl
theorem qs61 : (Cond.selects "BlockPapersModel" ⟨"BlockPapersModel", "putsWord", "(Ljava/lang/String;)V"⟩ ⟨"BlockPapersModel", "putsWord", "(Ljava/lang/String;)V"⟩) ∈ lw_all := lw_g (lw_at lw_ms 61 rfl) rfl
theorem qs62 : (Cond.selects "BlockPapersModel" ⟨"BlockPapersModel", "given", "(Z)I"⟩ ⟨"BlockPapersModel", "given", "(Z)I"⟩) ∈ lw_all := lw_g (lw_at lw_ms 62 rfl) rfl
theorem qs63 : (Cond.selects "BlockPapersModel" ⟨"BlockPapersModel", "hung", "(Z)I"⟩ ⟨"BlockPapersModel", "hung", "(Z)I"⟩) ∈ lw_all := lw_g (lw_at lw_ms 63 rfl) rfl
theorem qs64 : (Cond.selects "BlockPapersModel" ⟨"BlockPapersModel", "fullRooms", "()I"⟩ ⟨"BlockPapersModel", "fullRooms", "()I"⟩) ∈ lw_all := lw_g (lw_at lw_ms 64 rfl) rfl
theorem qs65 : (Cond.selects "BlockPapersModel" ⟨"BlockPapersModel", "lefts", "()I"⟩ ⟨"BlockPapersModel", "lefts", "()I"⟩) ∈ lw_all := lw_g (lw_at lw_ms 65 rfl) rfl
theorem qs66 : (Cond.selects "BlockPapersModel" ⟨"BlockPapersModel", "grams", "()I"⟩ ⟨"BlockPapersModel", "grams", "()I"⟩) ∈ lw_all := lw_g (lw_at lw_ms 66 rfl) rfl
theorem qs67 : (Cond.selects "BlockPapersModel" ⟨"BlockPapersModel", "used", "()I"⟩ ⟨"BlockPapersModel", "used", "()I"⟩) ∈ lw_all := lw_g (lw_at lw_ms 67 rfl) rfl
theorem qs68 : (Cond.selects "BlockPapersModel" ⟨"BlockPapersModel", "readsOne", "()V"⟩ ⟨"BlockPapersModel", "readsOne", "()V"⟩) ∈ lw_all := lw_g (lw_at lw_ms 68 rfl) rfl
theorem qs69 : (Cond.selects "BlockPapersModel" ⟨"BlockPapersModel", "here", "()I"⟩ ⟨"BlockPapersModel", "here", "()I"⟩) ∈ lw_all := lw_g (lw_at lw_ms 69 rfl) rfl
theorem qs70 : (Cond.selects "BlockPapersModel" ⟨"BlockPapersModel", "command", "(ILjava/lang/String;II)V"⟩ ⟨"BlockPapersModel", "command", "(ILjava/lang/String;II)V"⟩) ∈ lw_all := lw_g (lw_at lw_ms 70 rfl) rfl
theorem qs71 : (Cond.selects "BlockPapersModel" ⟨"BlockPapersModel", "must", "(I)V"⟩ ⟨"BlockPapersModel", "must", "(I)V"⟩) ∈ lw_all := lw_g (lw_at lw_ms 71 rfl) rfl
theorem qs72 : (Cond.selects "BlockPapersModel" ⟨"BlockPapersModel", "digitsOf", "(II)V"⟩ ⟨"BlockPapersModel", "digitsOf", "(II)V"⟩) ∈ lw_all := lw_g (lw_at lw_ms 72 rfl) rfl
theorem qs73 : (Cond.selects "BlockPapersModel" ⟨"BlockPapersModel", "does", "(I)I"⟩ ⟨"BlockPapersModel", "does", "(I)I"⟩) ∈ lw_all := lw_g (lw_at lw_ms 73 rfl) rfl
