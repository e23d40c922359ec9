-- ===== PART A: goes FIRST, ahead of the names: the tables' words, and 'selects' of the private methods out of them =====
/-- a private method of a class that the tables say can be made, by its rows of tables_1 -/
def lw_okq (q : MethodName × Nat) : Prop := (q.1.cls ≠ "java/lang/invoke/MethodHandle" ∧ q.1.cls ≠ "java/lang/invoke/VarHandle") ∧ Cond.instantiable q.1.cls q.2 ∈ tables_1 ∧ Cond.privateMethod q.1 ∈ tables_1 ∧ Cond.instanceMethod q.1 ∈ tables_1
set_option maxRecDepth 100000
theorem lw_t1 {w : Cond} (h : w ∈ tables_1_1) : w ∈ tables_1 := List.mem_append_left _ h
theorem lw_t2 {w : Cond} (h : w ∈ tables_1_2) : w ∈ tables_1 := List.mem_append_right _ (List.mem_append_left _ h)
theorem lw_t3 {w : Cond} (h : w ∈ tables_1_3) : w ∈ tables_1 := List.mem_append_right _ (List.mem_append_right _ (List.mem_append_left _ h))
theorem lw_t4 {w : Cond} (h : w ∈ tables_1_4) : w ∈ tables_1 := List.mem_append_right _ (List.mem_append_right _ (List.mem_append_right _ (List.mem_append_left _ h)))
theorem lw_t5 {w : Cond} (h : w ∈ tables_1_5) : w ∈ tables_1 := List.mem_append_right _ (List.mem_append_right _ (List.mem_append_right _ (List.mem_append_right _ (List.mem_append_left _ h))))
theorem lw_t6 {w : Cond} (h : w ∈ tables_1_6) : w ∈ tables_1 := List.mem_append_right _ (List.mem_append_right _ (List.mem_append_right _ (List.mem_append_right _ (List.mem_append_right _ (List.mem_append_left _ h)))))
theorem lw_t7 {w : Cond} (h : w ∈ tables_1_7) : w ∈ tables_1 := List.mem_append_right _ (List.mem_append_right _ (List.mem_append_right _ (List.mem_append_right _ (List.mem_append_right _ (List.mem_append_right _ (List.mem_append_left _ h))))))
theorem lw_t8 {w : Cond} (h : w ∈ tables_1_8) : w ∈ tables_1 := List.mem_append_right _ (List.mem_append_right _ (List.mem_append_right _ (List.mem_append_right _ (List.mem_append_right _ (List.mem_append_right _ (List.mem_append_right _ (List.mem_append_left _ h)))))))
theorem lw_t9 {w : Cond} (h : w ∈ tables_1_9) : w ∈ tables_1 := List.mem_append_right _ (List.mem_append_right _ (List.mem_append_right _ (List.mem_append_right _ (List.mem_append_right _ (List.mem_append_right _ (List.mem_append_right _ (List.mem_append_right _ (List.mem_append_left _ h))))))))
theorem lw_t10 {w : Cond} (h : w ∈ tables_1_10) : w ∈ tables_1 := List.mem_append_right _ (List.mem_append_right _ (List.mem_append_right _ (List.mem_append_right _ (List.mem_append_right _ (List.mem_append_right _ (List.mem_append_right _ (List.mem_append_right _ (List.mem_append_right _ h))))))))
theorem lw_p0 : lw_okq (⟨"java/util/ArrayList", "add", "(Ljava/lang/Object;[Ljava/lang/Object;I)V"⟩, 3) := ⟨⟨by decide +kernel, by decide +kernel⟩, lw_t1 (List.mem_of_getElem? (i := 49) rfl), lw_t1 (List.mem_of_getElem? (i := 108) rfl), lw_t1 (List.mem_of_getElem? (i := 109) rfl)⟩
theorem lw_p1 : lw_okq (⟨"java/util/ArrayList", "grow", "()[Ljava/lang/Object;"⟩, 3) := ⟨⟨by decide +kernel, by decide +kernel⟩, lw_t1 (List.mem_of_getElem? (i := 49) rfl), lw_t1 (List.mem_of_getElem? (i := 112) rfl), lw_t1 (List.mem_of_getElem? (i := 113) rfl)⟩
theorem lw_p2 : lw_okq (⟨"java/util/ArrayList", "grow", "(I)[Ljava/lang/Object;"⟩, 3) := ⟨⟨by decide +kernel, by decide +kernel⟩, lw_t1 (List.mem_of_getElem? (i := 49) rfl), lw_t1 (List.mem_of_getElem? (i := 116) rfl), lw_t1 (List.mem_of_getElem? (i := 117) rfl)⟩
theorem lw_p3 : lw_okq (⟨"Weaveword", "isStaleAt", "(I)Z"⟩, 10) := ⟨⟨by decide +kernel, by decide +kernel⟩, lw_t1 (List.mem_of_getElem? (i := 41) rfl), lw_t1 (List.mem_of_getElem? (i := 237) rfl), lw_t1 (List.mem_of_getElem? (i := 238) rfl)⟩
theorem lw_p4 : lw_okq (⟨"Weaveword", "linksOf", "(I)I"⟩, 10) := ⟨⟨by decide +kernel, by decide +kernel⟩, lw_t1 (List.mem_of_getElem? (i := 41) rfl), lw_t2 (List.mem_of_getElem? (i := 5) rfl), lw_t2 (List.mem_of_getElem? (i := 6) rfl)⟩
theorem lw_p5 : lw_okq (⟨"java/lang/Throwable", "fillInStackTrace", "(I)Ljava/lang/Throwable;"⟩, 6) := ⟨⟨by decide +kernel, by decide +kernel⟩, lw_t2 (List.mem_of_getElem? (i := 59) rfl), lw_t2 (List.mem_of_getElem? (i := 57) rfl), lw_t2 (List.mem_of_getElem? (i := 58) rfl)⟩
theorem lw_p6 : lw_okq (⟨"Weaveword", "mayAct", "(I)V"⟩, 10) := ⟨⟨by decide +kernel, by decide +kernel⟩, lw_t1 (List.mem_of_getElem? (i := 41) rfl), lw_t3 (List.mem_of_getElem? (i := 217) rfl), lw_t3 (List.mem_of_getElem? (i := 218) rfl)⟩
theorem lw_p7 : lw_okq (⟨"Weaveword$Text", "canBe", "(III)Z"⟩, 1) := ⟨⟨by decide +kernel, by decide +kernel⟩, lw_t4 (List.mem_of_getElem? (i := 1) rfl), lw_t4 (List.mem_of_getElem? (i := 23) rfl), lw_t4 (List.mem_of_getElem? (i := 24) rfl)⟩
theorem lw_p8 : lw_okq (⟨"Weaveword", "makes", "(ILWeaveword$Text;)I"⟩, 10) := ⟨⟨by decide +kernel, by decide +kernel⟩, lw_t1 (List.mem_of_getElem? (i := 41) rfl), lw_t4 (List.mem_of_getElem? (i := 44) rfl), lw_t4 (List.mem_of_getElem? (i := 45) rfl)⟩
theorem lw_p9 : lw_okq (⟨"Weaveword", "makes", "(ILWeaveword$Text;I)I"⟩, 10) := ⟨⟨by decide +kernel, by decide +kernel⟩, lw_t1 (List.mem_of_getElem? (i := 41) rfl), lw_t4 (List.mem_of_getElem? (i := 48) rfl), lw_t4 (List.mem_of_getElem? (i := 49) rfl)⟩
theorem lw_p10 : lw_okq (⟨"java/util/ArrayList", "rangeCheckForAdd", "(I)V"⟩, 3) := ⟨⟨by decide +kernel, by decide +kernel⟩, lw_t1 (List.mem_of_getElem? (i := 49) rfl), lw_t4 (List.mem_of_getElem? (i := 86) rfl), lw_t4 (List.mem_of_getElem? (i := 87) rfl)⟩
theorem lw_p11 : lw_okq (⟨"java/util/ArrayList", "outOfBoundsMsg", "(I)Ljava/lang/String;"⟩, 3) := ⟨⟨by decide +kernel, by decide +kernel⟩, lw_t1 (List.mem_of_getElem? (i := 49) rfl), lw_t4 (List.mem_of_getElem? (i := 91) rfl), lw_t4 (List.mem_of_getElem? (i := 92) rfl)⟩
theorem lw_p12 : lw_okq (⟨"Weaveword", "changed", "(I)V"⟩, 10) := ⟨⟨by decide +kernel, by decide +kernel⟩, lw_t1 (List.mem_of_getElem? (i := 41) rfl), lw_t4 (List.mem_of_getElem? (i := 105) rfl), lw_t4 (List.mem_of_getElem? (i := 106) rfl)⟩
theorem lw_p13 : lw_okq (⟨"Weaveword", "marks", "(ZLWeaveword$Stored;)V"⟩, 10) := ⟨⟨by decide +kernel, by decide +kernel⟩, lw_t1 (List.mem_of_getElem? (i := 41) rfl), lw_t4 (List.mem_of_getElem? (i := 109) rfl), lw_t4 (List.mem_of_getElem? (i := 110) rfl)⟩
theorem lw_p14 : lw_okq (⟨"Weaveword", "at", "(I)LWeaveword$Page;"⟩, 10) := ⟨⟨by decide +kernel, by decide +kernel⟩, lw_t1 (List.mem_of_getElem? (i := 41) rfl), lw_t4 (List.mem_of_getElem? (i := 120) rfl), lw_t4 (List.mem_of_getElem? (i := 121) rfl)⟩
theorem lw_p15 : lw_okq (⟨"Weaveword", "edits", "(ILWeaveword$Text;)I"⟩, 10) := ⟨⟨by decide +kernel, by decide +kernel⟩, lw_t1 (List.mem_of_getElem? (i := 41) rfl), lw_t4 (List.mem_of_getElem? (i := 220) rfl), lw_t4 (List.mem_of_getElem? (i := 221) rfl)⟩
def lw_privs_1 : List (MethodName × Nat) := [(⟨"java/util/ArrayList", "add", "(Ljava/lang/Object;[Ljava/lang/Object;I)V"⟩, 3), (⟨"java/util/ArrayList", "grow", "()[Ljava/lang/Object;"⟩, 3), (⟨"java/util/ArrayList", "grow", "(I)[Ljava/lang/Object;"⟩, 3), (⟨"Weaveword", "isStaleAt", "(I)Z"⟩, 10), (⟨"Weaveword", "linksOf", "(I)I"⟩, 10), (⟨"java/lang/Throwable", "fillInStackTrace", "(I)Ljava/lang/Throwable;"⟩, 6), (⟨"Weaveword", "mayAct", "(I)V"⟩, 10), (⟨"Weaveword$Text", "canBe", "(III)Z"⟩, 1), (⟨"Weaveword", "makes", "(ILWeaveword$Text;)I"⟩, 10), (⟨"Weaveword", "makes", "(ILWeaveword$Text;I)I"⟩, 10), (⟨"java/util/ArrayList", "rangeCheckForAdd", "(I)V"⟩, 3), (⟨"java/util/ArrayList", "outOfBoundsMsg", "(I)Ljava/lang/String;"⟩, 3), (⟨"Weaveword", "changed", "(I)V"⟩, 10), (⟨"Weaveword", "marks", "(ZLWeaveword$Stored;)V"⟩, 10), (⟨"Weaveword", "at", "(I)LWeaveword$Page;"⟩, 10), (⟨"Weaveword", "edits", "(ILWeaveword$Text;)I"⟩, 10)]
theorem lw_r1 : ∀ q ∈ lw_privs_1, lw_okq q := List.forall_mem_cons.mpr ⟨lw_p0, List.forall_mem_cons.mpr ⟨lw_p1, List.forall_mem_cons.mpr ⟨lw_p2, List.forall_mem_cons.mpr ⟨lw_p3, List.forall_mem_cons.mpr ⟨lw_p4, List.forall_mem_cons.mpr ⟨lw_p5, List.forall_mem_cons.mpr ⟨lw_p6, List.forall_mem_cons.mpr ⟨lw_p7, List.forall_mem_cons.mpr ⟨lw_p8, List.forall_mem_cons.mpr ⟨lw_p9, List.forall_mem_cons.mpr ⟨lw_p10, List.forall_mem_cons.mpr ⟨lw_p11, List.forall_mem_cons.mpr ⟨lw_p12, List.forall_mem_cons.mpr ⟨lw_p13, List.forall_mem_cons.mpr ⟨lw_p14, List.forall_mem_cons.mpr ⟨lw_p15, fun _ h => absurd h List.not_mem_nil⟩⟩⟩⟩⟩⟩⟩⟩⟩⟩⟩⟩⟩⟩⟩⟩
theorem lw_p16 : lw_okq (⟨"Weaveword", "brings", "(II)V"⟩, 10) := ⟨⟨by decide +kernel, by decide +kernel⟩, lw_t1 (List.mem_of_getElem? (i := 41) rfl), lw_t5 (List.mem_of_getElem? (i := 11) rfl), lw_t5 (List.mem_of_getElem? (i := 12) rfl)⟩
theorem lw_p17 : lw_okq (⟨"Weaveword", "stores", "(ILWeaveword$Stored;)V"⟩, 10) := ⟨⟨by decide +kernel, by decide +kernel⟩, lw_t1 (List.mem_of_getElem? (i := 41) rfl), lw_t5 (List.mem_of_getElem? (i := 15) rfl), lw_t5 (List.mem_of_getElem? (i := 16) rfl)⟩
theorem lw_p18 : lw_okq (⟨"Weaveword", "changedCategories", "(I)V"⟩, 10) := ⟨⟨by decide +kernel, by decide +kernel⟩, lw_t1 (List.mem_of_getElem? (i := 41) rfl), lw_t5 (List.mem_of_getElem? (i := 22) rfl), lw_t5 (List.mem_of_getElem? (i := 23) rfl)⟩
theorem lw_p19 : lw_okq (⟨"Weaveword", "pagesOf", "(I)[Z"⟩, 10) := ⟨⟨by decide +kernel, by decide +kernel⟩, lw_t1 (List.mem_of_getElem? (i := 41) rfl), lw_t5 (List.mem_of_getElem? (i := 35) rfl), lw_t5 (List.mem_of_getElem? (i := 36) rfl)⟩
theorem lw_p20 : lw_okq (⟨"Weaveword", "moduleAt", "(I)LWeaveword$Module;"⟩, 10) := ⟨⟨by decide +kernel, by decide +kernel⟩, lw_t1 (List.mem_of_getElem? (i := 41) rfl), lw_t5 (List.mem_of_getElem? (i := 107) rfl), lw_t5 (List.mem_of_getElem? (i := 108) rfl)⟩
theorem lw_p21 : lw_okq (⟨"Weaveword", "changedModule", "(I)V"⟩, 10) := ⟨⟨by decide +kernel, by decide +kernel⟩, lw_t1 (List.mem_of_getElem? (i := 41) rfl), lw_t5 (List.mem_of_getElem? (i := 115) rfl), lw_t5 (List.mem_of_getElem? (i := 116) rfl)⟩
theorem lw_p22 : lw_okq (⟨"Weaveword", "rendered", "(I)LWeaveword$Rendering;"⟩, 10) := ⟨⟨by decide +kernel, by decide +kernel⟩, lw_t1 (List.mem_of_getElem? (i := 41) rfl), lw_t5 (List.mem_of_getElem? (i := 141) rfl), lw_t5 (List.mem_of_getElem? (i := 142) rfl)⟩
theorem lw_p23 : lw_okq (⟨"Weaveword$Rendering", "linksTo", "(IILWeaveword$Row;)V"⟩, 10) := ⟨⟨by decide +kernel, by decide +kernel⟩, lw_t5 (List.mem_of_getElem? (i := 145) rfl), lw_t5 (List.mem_of_getElem? (i := 214) rfl), lw_t5 (List.mem_of_getElem? (i := 215) rfl)⟩
theorem lw_p24 : lw_okq (⟨"Weaveword$Rendering", "calls", "(LWeaveword$Frame;IILWeaveword$Row;)V"⟩, 10) := ⟨⟨by decide +kernel, by decide +kernel⟩, lw_t5 (List.mem_of_getElem? (i := 145) rfl), lw_t5 (List.mem_of_getElem? (i := 218) rfl), lw_t5 (List.mem_of_getElem? (i := 219) rfl)⟩
theorem lw_p25 : lw_okq (⟨"Weaveword$Rendering", "leadsTo", "(I)I"⟩, 10) := ⟨⟨by decide +kernel, by decide +kernel⟩, lw_t5 (List.mem_of_getElem? (i := 145) rfl), lw_t5 (List.mem_of_getElem? (i := 222) rfl), lw_t5 (List.mem_of_getElem? (i := 223) rfl)⟩
theorem lw_p26 : lw_okq (⟨"Weaveword$Rendering", "textOf", "(I)LWeaveword$Text;"⟩, 10) := ⟨⟨by decide +kernel, by decide +kernel⟩, lw_t5 (List.mem_of_getElem? (i := 145) rfl), lw_t5 (List.mem_of_getElem? (i := 226) rfl), lw_t5 (List.mem_of_getElem? (i := 227) rfl)⟩
theorem lw_p27 : lw_okq (⟨"Weaveword$Rendering", "partsOf", "(LWeaveword$Frame;II)LWeaveword$Parts;"⟩, 10) := ⟨⟨by decide +kernel, by decide +kernel⟩, lw_t5 (List.mem_of_getElem? (i := 145) rfl), lw_t6 (List.mem_of_getElem? (i := 7) rfl), lw_t6 (List.mem_of_getElem? (i := 8) rfl)⟩
theorem lw_p28 : lw_okq (⟨"Weaveword$Rendering", "puts", "(LWeaveword$Frame;IILWeaveword$Row;)V"⟩, 10) := ⟨⟨by decide +kernel, by decide +kernel⟩, lw_t5 (List.mem_of_getElem? (i := 145) rfl), lw_t6 (List.mem_of_getElem? (i := 55) rfl), lw_t6 (List.mem_of_getElem? (i := 56) rfl)⟩
theorem lw_p29 : lw_okq (⟨"Weaveword$Rendering", "does", "(ILWeaveword$Parts;LWeaveword$Row;)V"⟩, 10) := ⟨⟨by decide +kernel, by decide +kernel⟩, lw_t5 (List.mem_of_getElem? (i := 145) rfl), lw_t6 (List.mem_of_getElem? (i := 71) rfl), lw_t6 (List.mem_of_getElem? (i := 72) rfl)⟩
theorem lw_p30 : lw_okq (⟨"Weaveword$Rendering", "sum", "(LWeaveword$Parts;)I"⟩, 10) := ⟨⟨by decide +kernel, by decide +kernel⟩, lw_t5 (List.mem_of_getElem? (i := 145) rfl), lw_t6 (List.mem_of_getElem? (i := 93) rfl), lw_t6 (List.mem_of_getElem? (i := 94) rfl)⟩
theorem lw_p31 : lw_okq (⟨"Weaveword$Rendering", "exists", "(I)Z"⟩, 10) := ⟨⟨by decide +kernel, by decide +kernel⟩, lw_t5 (List.mem_of_getElem? (i := 145) rfl), lw_t6 (List.mem_of_getElem? (i := 111) rfl), lw_t6 (List.mem_of_getElem? (i := 112) rfl)⟩
def lw_privs_2 : List (MethodName × Nat) := [(⟨"Weaveword", "brings", "(II)V"⟩, 10), (⟨"Weaveword", "stores", "(ILWeaveword$Stored;)V"⟩, 10), (⟨"Weaveword", "changedCategories", "(I)V"⟩, 10), (⟨"Weaveword", "pagesOf", "(I)[Z"⟩, 10), (⟨"Weaveword", "moduleAt", "(I)LWeaveword$Module;"⟩, 10), (⟨"Weaveword", "changedModule", "(I)V"⟩, 10), (⟨"Weaveword", "rendered", "(I)LWeaveword$Rendering;"⟩, 10), (⟨"Weaveword$Rendering", "linksTo", "(IILWeaveword$Row;)V"⟩, 10), (⟨"Weaveword$Rendering", "calls", "(LWeaveword$Frame;IILWeaveword$Row;)V"⟩, 10), (⟨"Weaveword$Rendering", "leadsTo", "(I)I"⟩, 10), (⟨"Weaveword$Rendering", "textOf", "(I)LWeaveword$Text;"⟩, 10), (⟨"Weaveword$Rendering", "partsOf", "(LWeaveword$Frame;II)LWeaveword$Parts;"⟩, 10), (⟨"Weaveword$Rendering", "puts", "(LWeaveword$Frame;IILWeaveword$Row;)V"⟩, 10), (⟨"Weaveword$Rendering", "does", "(ILWeaveword$Parts;LWeaveword$Row;)V"⟩, 10), (⟨"Weaveword$Rendering", "sum", "(LWeaveword$Parts;)I"⟩, 10), (⟨"Weaveword$Rendering", "exists", "(I)Z"⟩, 10)]
theorem lw_r2 : ∀ q ∈ lw_privs_2, lw_okq q := List.forall_mem_cons.mpr ⟨lw_p16, List.forall_mem_cons.mpr ⟨lw_p17, List.forall_mem_cons.mpr ⟨lw_p18, List.forall_mem_cons.mpr ⟨lw_p19, List.forall_mem_cons.mpr ⟨lw_p20, List.forall_mem_cons.mpr ⟨lw_p21, List.forall_mem_cons.mpr ⟨lw_p22, List.forall_mem_cons.mpr ⟨lw_p23, List.forall_mem_cons.mpr ⟨lw_p24, List.forall_mem_cons.mpr ⟨lw_p25, List.forall_mem_cons.mpr ⟨lw_p26, List.forall_mem_cons.mpr ⟨lw_p27, List.forall_mem_cons.mpr ⟨lw_p28, List.forall_mem_cons.mpr ⟨lw_p29, List.forall_mem_cons.mpr ⟨lw_p30, List.forall_mem_cons.mpr ⟨lw_p31, fun _ h => absurd h List.not_mem_nil⟩⟩⟩⟩⟩⟩⟩⟩⟩⟩⟩⟩⟩⟩⟩⟩
theorem lw_p32 : lw_okq (⟨"Weaveword$Rendering", "membersOf", "(I)I"⟩, 10) := ⟨⟨by decide +kernel, by decide +kernel⟩, lw_t5 (List.mem_of_getElem? (i := 145) rfl), lw_t6 (List.mem_of_getElem? (i := 115) rfl), lw_t6 (List.mem_of_getElem? (i := 116) rfl)⟩
theorem lw_p33 : lw_okq (⟨"Weaveword$Rendering", "lists", "(ILWeaveword$Row;)V"⟩, 10) := ⟨⟨by decide +kernel, by decide +kernel⟩, lw_t5 (List.mem_of_getElem? (i := 145) rfl), lw_t6 (List.mem_of_getElem? (i := 130) rfl), lw_t6 (List.mem_of_getElem? (i := 131) rfl)⟩
theorem lw_p34 : lw_okq (⟨"Weaveword$Rendering", "given", "(LWeaveword$Parts;)I"⟩, 10) := ⟨⟨by decide +kernel, by decide +kernel⟩, lw_t5 (List.mem_of_getElem? (i := 145) rfl), lw_t6 (List.mem_of_getElem? (i := 134) rfl), lw_t6 (List.mem_of_getElem? (i := 135) rfl)⟩
theorem lw_p35 : lw_okq (⟨"WeavewordModel", "nextStale", "()I"⟩, 79) := ⟨⟨by decide +kernel, by decide +kernel⟩, lw_t7 (List.mem_of_getElem? (i := 74) rfl), lw_t8 (List.mem_of_getElem? (i := 90) rfl), lw_t8 (List.mem_of_getElem? (i := 91) rfl)⟩
theorem lw_p36 : lw_okq (⟨"WeavewordModel", "isOld", "(I)Z"⟩, 79) := ⟨⟨by decide +kernel, by decide +kernel⟩, lw_t7 (List.mem_of_getElem? (i := 74) rfl), lw_t8 (List.mem_of_getElem? (i := 94) rfl), lw_t8 (List.mem_of_getElem? (i := 95) rfl)⟩
theorem lw_p37 : lw_okq (⟨"WeavewordModel", "render", "(I)V"⟩, 79) := ⟨⟨by decide +kernel, by decide +kernel⟩, lw_t7 (List.mem_of_getElem? (i := 74) rfl), lw_t8 (List.mem_of_getElem? (i := 98) rfl), lw_t8 (List.mem_of_getElem? (i := 99) rfl)⟩
theorem lw_p38 : lw_okq (⟨"WeavewordModel", "presentAt", "(I)I"⟩, 79) := ⟨⟨by decide +kernel, by decide +kernel⟩, lw_t7 (List.mem_of_getElem? (i := 74) rfl), lw_t8 (List.mem_of_getElem? (i := 102) rfl), lw_t8 (List.mem_of_getElem? (i := 103) rfl)⟩
theorem lw_p39 : lw_okq (⟨"WeavewordModel", "presentOf", "(I)I"⟩, 79) := ⟨⟨by decide +kernel, by decide +kernel⟩, lw_t7 (List.mem_of_getElem? (i := 74) rfl), lw_t8 (List.mem_of_getElem? (i := 106) rfl), lw_t8 (List.mem_of_getElem? (i := 107) rfl)⟩
theorem lw_p40 : lw_okq (⟨"WeavewordModel", "isAhead", "(II)Z"⟩, 79) := ⟨⟨by decide +kernel, by decide +kernel⟩, lw_t7 (List.mem_of_getElem? (i := 74) rfl), lw_t8 (List.mem_of_getElem? (i := 110) rfl), lw_t8 (List.mem_of_getElem? (i := 111) rfl)⟩
theorem lw_p41 : lw_okq (⟨"WeavewordModel", "expand", "(II)V"⟩, 79) := ⟨⟨by decide +kernel, by decide +kernel⟩, lw_t7 (List.mem_of_getElem? (i := 74) rfl), lw_t8 (List.mem_of_getElem? (i := 114) rfl), lw_t8 (List.mem_of_getElem? (i := 115) rfl)⟩
theorem lw_p42 : lw_okq (⟨"WeavewordModel", "newRow", "()I"⟩, 79) := ⟨⟨by decide +kernel, by decide +kernel⟩, lw_t7 (List.mem_of_getElem? (i := 74) rfl), lw_t8 (List.mem_of_getElem? (i := 118) rfl), lw_t8 (List.mem_of_getElem? (i := 119) rfl)⟩
theorem lw_p43 : lw_okq (⟨"WeavewordModel", "newFrame", "(IIII)I"⟩, 79) := ⟨⟨by decide +kernel, by decide +kernel⟩, lw_t7 (List.mem_of_getElem? (i := 74) rfl), lw_t8 (List.mem_of_getElem? (i := 122) rfl), lw_t8 (List.mem_of_getElem? (i := 123) rfl)⟩
theorem lw_p44 : lw_okq (⟨"WeavewordModel", "task", "(IIIII)V"⟩, 79) := ⟨⟨by decide +kernel, by decide +kernel⟩, lw_t7 (List.mem_of_getElem? (i := 74) rfl), lw_t8 (List.mem_of_getElem? (i := 126) rfl), lw_t8 (List.mem_of_getElem? (i := 127) rfl)⟩
theorem lw_p45 : lw_okq (⟨"WeavewordModel", "appendRow", "(II)V"⟩, 79) := ⟨⟨by decide +kernel, by decide +kernel⟩, lw_t7 (List.mem_of_getElem? (i := 74) rfl), lw_t8 (List.mem_of_getElem? (i := 130) rfl), lw_t8 (List.mem_of_getElem? (i := 131) rfl)⟩
theorem lw_p46 : lw_okq (⟨"WeavewordModel", "append", "(II)V"⟩, 79) := ⟨⟨by decide +kernel, by decide +kernel⟩, lw_t7 (List.mem_of_getElem? (i := 74) rfl), lw_t8 (List.mem_of_getElem? (i := 134) rfl), lw_t8 (List.mem_of_getElem? (i := 135) rfl)⟩
theorem lw_p47 : lw_okq (⟨"WeavewordModel", "give", "(I)V"⟩, 79) := ⟨⟨by decide +kernel, by decide +kernel⟩, lw_t7 (List.mem_of_getElem? (i := 74) rfl), lw_t8 (List.mem_of_getElem? (i := 138) rfl), lw_t8 (List.mem_of_getElem? (i := 139) rfl)⟩
def lw_privs_3 : List (MethodName × Nat) := [(⟨"Weaveword$Rendering", "membersOf", "(I)I"⟩, 10), (⟨"Weaveword$Rendering", "lists", "(ILWeaveword$Row;)V"⟩, 10), (⟨"Weaveword$Rendering", "given", "(LWeaveword$Parts;)I"⟩, 10), (⟨"WeavewordModel", "nextStale", "()I"⟩, 79), (⟨"WeavewordModel", "isOld", "(I)Z"⟩, 79), (⟨"WeavewordModel", "render", "(I)V"⟩, 79), (⟨"WeavewordModel", "presentAt", "(I)I"⟩, 79), (⟨"WeavewordModel", "presentOf", "(I)I"⟩, 79), (⟨"WeavewordModel", "isAhead", "(II)Z"⟩, 79), (⟨"WeavewordModel", "expand", "(II)V"⟩, 79), (⟨"WeavewordModel", "newRow", "()I"⟩, 79), (⟨"WeavewordModel", "newFrame", "(IIII)I"⟩, 79), (⟨"WeavewordModel", "task", "(IIIII)V"⟩, 79), (⟨"WeavewordModel", "appendRow", "(II)V"⟩, 79), (⟨"WeavewordModel", "append", "(II)V"⟩, 79), (⟨"WeavewordModel", "give", "(I)V"⟩, 79)]
theorem lw_r3 : ∀ q ∈ lw_privs_3, lw_okq q := List.forall_mem_cons.mpr ⟨lw_p32, List.forall_mem_cons.mpr ⟨lw_p33, List.forall_mem_cons.mpr ⟨lw_p34, List.forall_mem_cons.mpr ⟨lw_p35, List.forall_mem_cons.mpr ⟨lw_p36, List.forall_mem_cons.mpr ⟨lw_p37, List.forall_mem_cons.mpr ⟨lw_p38, List.forall_mem_cons.mpr ⟨lw_p39, List.forall_mem_cons.mpr ⟨lw_p40, List.forall_mem_cons.mpr ⟨lw_p41, List.forall_mem_cons.mpr ⟨lw_p42, List.forall_mem_cons.mpr ⟨lw_p43, List.forall_mem_cons.mpr ⟨lw_p44, List.forall_mem_cons.mpr ⟨lw_p45, List.forall_mem_cons.mpr ⟨lw_p46, List.forall_mem_cons.mpr ⟨lw_p47, fun _ h => absurd h List.not_mem_nil⟩⟩⟩⟩⟩⟩⟩⟩⟩⟩⟩⟩⟩⟩⟩⟩
theorem lw_p48 : lw_okq (⟨"WeavewordModel", "partOf", "(II)I"⟩, 79) := ⟨⟨by decide +kernel, by decide +kernel⟩, lw_t7 (List.mem_of_getElem? (i := 74) rfl), lw_t8 (List.mem_of_getElem? (i := 142) rfl), lw_t8 (List.mem_of_getElem? (i := 143) rfl)⟩
theorem lw_p49 : lw_okq (⟨"WeavewordModel", "hasOther", "(I)Z"⟩, 79) := ⟨⟨by decide +kernel, by decide +kernel⟩, lw_t7 (List.mem_of_getElem? (i := 74) rfl), lw_t8 (List.mem_of_getElem? (i := 146) rfl), lw_t8 (List.mem_of_getElem? (i := 147) rfl)⟩
theorem lw_p50 : lw_okq (⟨"WeavewordModel", "areSame", "(II)Z"⟩, 79) := ⟨⟨by decide +kernel, by decide +kernel⟩, lw_t7 (List.mem_of_getElem? (i := 74) rfl), lw_t8 (List.mem_of_getElem? (i := 150) rfl), lw_t8 (List.mem_of_getElem? (i := 151) rfl)⟩
theorem lw_p51 : lw_okq (⟨"WeavewordModel", "sumOf", "(I)I"⟩, 79) := ⟨⟨by decide +kernel, by decide +kernel⟩, lw_t7 (List.mem_of_getElem? (i := 74) rfl), lw_t8 (List.mem_of_getElem? (i := 154) rfl), lw_t8 (List.mem_of_getElem? (i := 155) rfl)⟩
theorem lw_p52 : lw_okq (⟨"WeavewordModel", "numberOf", "(I)I"⟩, 79) := ⟨⟨by decide +kernel, by decide +kernel⟩, lw_t7 (List.mem_of_getElem? (i := 74) rfl), lw_t8 (List.mem_of_getElem? (i := 158) rfl), lw_t8 (List.mem_of_getElem? (i := 159) rfl)⟩
theorem lw_p53 : lw_okq (⟨"WeavewordModel", "giveByNumber", "(II)V"⟩, 79) := ⟨⟨by decide +kernel, by decide +kernel⟩, lw_t7 (List.mem_of_getElem? (i := 74) rfl), lw_t8 (List.mem_of_getElem? (i := 162) rfl), lw_t8 (List.mem_of_getElem? (i := 163) rfl)⟩
theorem lw_p54 : lw_okq (⟨"WeavewordModel", "seenAt", "(I)I"⟩, 79) := ⟨⟨by decide +kernel, by decide +kernel⟩, lw_t7 (List.mem_of_getElem? (i := 74) rfl), lw_t8 (List.mem_of_getElem? (i := 169) rfl), lw_t8 (List.mem_of_getElem? (i := 170) rfl)⟩
theorem lw_p55 : lw_okq (⟨"WeavewordModel", "approvedUpTo", "(II)I"⟩, 79) := ⟨⟨by decide +kernel, by decide +kernel⟩, lw_t7 (List.mem_of_getElem? (i := 74) rfl), lw_t8 (List.mem_of_getElem? (i := 173) rfl), lw_t8 (List.mem_of_getElem? (i := 174) rfl)⟩
theorem lw_p56 : lw_okq (⟨"WeavewordModel", "membersOf", "(I)I"⟩, 79) := ⟨⟨by decide +kernel, by decide +kernel⟩, lw_t7 (List.mem_of_getElem? (i := 74) rfl), lw_t8 (List.mem_of_getElem? (i := 177) rfl), lw_t8 (List.mem_of_getElem? (i := 178) rfl)⟩
theorem lw_p57 : lw_okq (⟨"WeavewordModel", "listMembers", "(II)V"⟩, 79) := ⟨⟨by decide +kernel, by decide +kernel⟩, lw_t7 (List.mem_of_getElem? (i := 74) rfl), lw_t8 (List.mem_of_getElem? (i := 184) rfl), lw_t8 (List.mem_of_getElem? (i := 185) rfl)⟩
theorem lw_p58 : lw_okq (⟨"WeavewordModel", "moduleResult", "(II)I"⟩, 79) := ⟨⟨by decide +kernel, by decide +kernel⟩, lw_t7 (List.mem_of_getElem? (i := 74) rfl), lw_t8 (List.mem_of_getElem? (i := 188) rfl), lw_t8 (List.mem_of_getElem? (i := 189) rfl)⟩
theorem lw_p59 : lw_okq (⟨"WeavewordModel", "takesTwo", "(I)Z"⟩, 79) := ⟨⟨by decide +kernel, by decide +kernel⟩, lw_t7 (List.mem_of_getElem? (i := 74) rfl), lw_t8 (List.mem_of_getElem? (i := 192) rfl), lw_t8 (List.mem_of_getElem? (i := 193) rfl)⟩
theorem lw_p60 : lw_okq (⟨"WeavewordModel", "codeAt", "(II)I"⟩, 79) := ⟨⟨by decide +kernel, by decide +kernel⟩, lw_t7 (List.mem_of_getElem? (i := 74) rfl), lw_t8 (List.mem_of_getElem? (i := 196) rfl), lw_t8 (List.mem_of_getElem? (i := 197) rfl)⟩
theorem lw_p61 : lw_okq (⟨"WeavewordModel", "closeOf", "(II)I"⟩, 79) := ⟨⟨by decide +kernel, by decide +kernel⟩, lw_t7 (List.mem_of_getElem? (i := 74) rfl), lw_t8 (List.mem_of_getElem? (i := 203) rfl), lw_t8 (List.mem_of_getElem? (i := 204) rfl)⟩
theorem lw_p62 : lw_okq (⟨"WeavewordModel", "expandToken", "(III)V"⟩, 79) := ⟨⟨by decide +kernel, by decide +kernel⟩, lw_t7 (List.mem_of_getElem? (i := 74) rfl), lw_t8 (List.mem_of_getElem? (i := 207) rfl), lw_t8 (List.mem_of_getElem? (i := 208) rfl)⟩
theorem lw_p63 : lw_okq (⟨"WeavewordModel", "expandCall", "(IIII)V"⟩, 79) := ⟨⟨by decide +kernel, by decide +kernel⟩, lw_t7 (List.mem_of_getElem? (i := 74) rfl), lw_t8 (List.mem_of_getElem? (i := 211) rfl), lw_t8 (List.mem_of_getElem? (i := 212) rfl)⟩
def lw_privs_4 : List (MethodName × Nat) := [(⟨"WeavewordModel", "partOf", "(II)I"⟩, 79), (⟨"WeavewordModel", "hasOther", "(I)Z"⟩, 79), (⟨"WeavewordModel", "areSame", "(II)Z"⟩, 79), (⟨"WeavewordModel", "sumOf", "(I)I"⟩, 79), (⟨"WeavewordModel", "numberOf", "(I)I"⟩, 79), (⟨"WeavewordModel", "giveByNumber", "(II)V"⟩, 79), (⟨"WeavewordModel", "seenAt", "(I)I"⟩, 79), (⟨"WeavewordModel", "approvedUpTo", "(II)I"⟩, 79), (⟨"WeavewordModel", "membersOf", "(I)I"⟩, 79), (⟨"WeavewordModel", "listMembers", "(II)V"⟩, 79), (⟨"WeavewordModel", "moduleResult", "(II)I"⟩, 79), (⟨"WeavewordModel", "takesTwo", "(I)Z"⟩, 79), (⟨"WeavewordModel", "codeAt", "(II)I"⟩, 79), (⟨"WeavewordModel", "closeOf", "(II)I"⟩, 79), (⟨"WeavewordModel", "expandToken", "(III)V"⟩, 79), (⟨"WeavewordModel", "expandCall", "(IIII)V"⟩, 79)]
theorem lw_r4 : ∀ q ∈ lw_privs_4, lw_okq q := List.forall_mem_cons.mpr ⟨lw_p48, List.forall_mem_cons.mpr ⟨lw_p49, List.forall_mem_cons.mpr ⟨lw_p50, List.forall_mem_cons.mpr ⟨lw_p51, List.forall_mem_cons.mpr ⟨lw_p52, List.forall_mem_cons.mpr ⟨lw_p53, List.forall_mem_cons.mpr ⟨lw_p54, List.forall_mem_cons.mpr ⟨lw_p55, List.forall_mem_cons.mpr ⟨lw_p56, List.forall_mem_cons.mpr ⟨lw_p57, List.forall_mem_cons.mpr ⟨lw_p58, List.forall_mem_cons.mpr ⟨lw_p59, List.forall_mem_cons.mpr ⟨lw_p60, List.forall_mem_cons.mpr ⟨lw_p61, List.forall_mem_cons.mpr ⟨lw_p62, List.forall_mem_cons.mpr ⟨lw_p63, fun _ h => absurd h List.not_mem_nil⟩⟩⟩⟩⟩⟩⟩⟩⟩⟩⟩⟩⟩⟩⟩⟩
theorem lw_p64 : lw_okq (⟨"WeavewordModel", "wayOf", "(I)I"⟩, 79) := ⟨⟨by decide +kernel, by decide +kernel⟩, lw_t7 (List.mem_of_getElem? (i := 74) rfl), lw_t8 (List.mem_of_getElem? (i := 215) rfl), lw_t8 (List.mem_of_getElem? (i := 216) rfl)⟩
theorem lw_p65 : lw_okq (⟨"WeavewordModel", "redirectOf", "(I)I"⟩, 79) := ⟨⟨by decide +kernel, by decide +kernel⟩, lw_t7 (List.mem_of_getElem? (i := 74) rfl), lw_t8 (List.mem_of_getElem? (i := 219) rfl), lw_t8 (List.mem_of_getElem? (i := 220) rfl)⟩
theorem lw_p66 : lw_okq (⟨"WeavewordModel", "isCalledFrom", "(II)Z"⟩, 79) := ⟨⟨by decide +kernel, by decide +kernel⟩, lw_t7 (List.mem_of_getElem? (i := 74) rfl), lw_t8 (List.mem_of_getElem? (i := 223) rfl), lw_t8 (List.mem_of_getElem? (i := 224) rfl)⟩
theorem lw_p67 : lw_okq (⟨"WeavewordModel", "layArguments", "(IIII)V"⟩, 79) := ⟨⟨by decide +kernel, by decide +kernel⟩, lw_t7 (List.mem_of_getElem? (i := 74) rfl), lw_t8 (List.mem_of_getElem? (i := 227) rfl), lw_t8 (List.mem_of_getElem? (i := 228) rfl)⟩
theorem lw_p68 : lw_okq (⟨"WeavewordModel", "markFrom", "(III)I"⟩, 79) := ⟨⟨by decide +kernel, by decide +kernel⟩, lw_t7 (List.mem_of_getElem? (i := 74) rfl), lw_t8 (List.mem_of_getElem? (i := 231) rfl), lw_t8 (List.mem_of_getElem? (i := 232) rfl)⟩
theorem lw_p69 : lw_okq (⟨"WeavewordModel", "expandParam", "(IIII)V"⟩, 79) := ⟨⟨by decide +kernel, by decide +kernel⟩, lw_t7 (List.mem_of_getElem? (i := 74) rfl), lw_t8 (List.mem_of_getElem? (i := 235) rfl), lw_t8 (List.mem_of_getElem? (i := 236) rfl)⟩
theorem lw_p70 : lw_okq (⟨"WeavewordModel", "expandFunction", "(IIII)V"⟩, 79) := ⟨⟨by decide +kernel, by decide +kernel⟩, lw_t7 (List.mem_of_getElem? (i := 74) rfl), lw_t8 (List.mem_of_getElem? (i := 239) rfl), lw_t9 (List.mem_of_getElem? (i := 0) rfl)⟩
theorem lw_p71 : lw_okq (⟨"WeavewordModel", "setCategories", "(II)V"⟩, 79) := ⟨⟨by decide +kernel, by decide +kernel⟩, lw_t7 (List.mem_of_getElem? (i := 74) rfl), lw_t9 (List.mem_of_getElem? (i := 3) rfl), lw_t9 (List.mem_of_getElem? (i := 4) rfl)⟩
theorem lw_p72 : lw_okq (⟨"WeavewordModel", "hasPage", "(I)Z"⟩, 79) := ⟨⟨by decide +kernel, by decide +kernel⟩, lw_t7 (List.mem_of_getElem? (i := 74) rfl), lw_t9 (List.mem_of_getElem? (i := 11) rfl), lw_t9 (List.mem_of_getElem? (i := 12) rfl)⟩
theorem lw_p73 : lw_okq (⟨"WeavewordModel", "mayAt", "(I)Z"⟩, 79) := ⟨⟨by decide +kernel, by decide +kernel⟩, lw_t7 (List.mem_of_getElem? (i := 74) rfl), lw_t9 (List.mem_of_getElem? (i := 34) rfl), lw_t9 (List.mem_of_getElem? (i := 35) rfl)⟩
theorem lw_p74 : lw_okq (⟨"WeavewordModel", "isText", "([III)Z"⟩, 79) := ⟨⟨by decide +kernel, by decide +kernel⟩, lw_t7 (List.mem_of_getElem? (i := 74) rfl), lw_t9 (List.mem_of_getElem? (i := 42) rfl), lw_t9 (List.mem_of_getElem? (i := 43) rfl)⟩
theorem lw_p75 : lw_okq (⟨"WeavewordModel", "newPage", "(I)I"⟩, 79) := ⟨⟨by decide +kernel, by decide +kernel⟩, lw_t7 (List.mem_of_getElem? (i := 74) rfl), lw_t9 (List.mem_of_getElem? (i := 46) rfl), lw_t9 (List.mem_of_getElem? (i := 47) rfl)⟩
theorem lw_p76 : lw_okq (⟨"WeavewordModel", "fromDraft", "(II)I"⟩, 79) := ⟨⟨by decide +kernel, by decide +kernel⟩, lw_t7 (List.mem_of_getElem? (i := 74) rfl), lw_t9 (List.mem_of_getElem? (i := 50) rfl), lw_t9 (List.mem_of_getElem? (i := 51) rfl)⟩
theorem lw_p77 : lw_okq (⟨"WeavewordModel", "newVersion", "(II[III)I"⟩, 79) := ⟨⟨by decide +kernel, by decide +kernel⟩, lw_t7 (List.mem_of_getElem? (i := 74) rfl), lw_t9 (List.mem_of_getElem? (i := 54) rfl), lw_t9 (List.mem_of_getElem? (i := 55) rfl)⟩
theorem lw_p78 : lw_okq (⟨"WeavewordModel", "settleTitles", "()V"⟩, 79) := ⟨⟨by decide +kernel, by decide +kernel⟩, lw_t7 (List.mem_of_getElem? (i := 74) rfl), lw_t9 (List.mem_of_getElem? (i := 58) rfl), lw_t9 (List.mem_of_getElem? (i := 59) rfl)⟩
theorem lw_p79 : lw_okq (⟨"WeavewordModel", "isVersionAt", "(II)Z"⟩, 79) := ⟨⟨by decide +kernel, by decide +kernel⟩, lw_t7 (List.mem_of_getElem? (i := 74) rfl), lw_t9 (List.mem_of_getElem? (i := 66) rfl), lw_t9 (List.mem_of_getElem? (i := 67) rfl)⟩
def lw_privs_5 : List (MethodName × Nat) := [(⟨"WeavewordModel", "wayOf", "(I)I"⟩, 79), (⟨"WeavewordModel", "redirectOf", "(I)I"⟩, 79), (⟨"WeavewordModel", "isCalledFrom", "(II)Z"⟩, 79), (⟨"WeavewordModel", "layArguments", "(IIII)V"⟩, 79), (⟨"WeavewordModel", "markFrom", "(III)I"⟩, 79), (⟨"WeavewordModel", "expandParam", "(IIII)V"⟩, 79), (⟨"WeavewordModel", "expandFunction", "(IIII)V"⟩, 79), (⟨"WeavewordModel", "setCategories", "(II)V"⟩, 79), (⟨"WeavewordModel", "hasPage", "(I)Z"⟩, 79), (⟨"WeavewordModel", "mayAt", "(I)Z"⟩, 79), (⟨"WeavewordModel", "isText", "([III)Z"⟩, 79), (⟨"WeavewordModel", "newPage", "(I)I"⟩, 79), (⟨"WeavewordModel", "fromDraft", "(II)I"⟩, 79), (⟨"WeavewordModel", "newVersion", "(II[III)I"⟩, 79), (⟨"WeavewordModel", "settleTitles", "()V"⟩, 79), (⟨"WeavewordModel", "isVersionAt", "(II)Z"⟩, 79)]
theorem lw_r5 : ∀ q ∈ lw_privs_5, lw_okq q := List.forall_mem_cons.mpr ⟨lw_p64, List.forall_mem_cons.mpr ⟨lw_p65, List.forall_mem_cons.mpr ⟨lw_p66, List.forall_mem_cons.mpr ⟨lw_p67, List.forall_mem_cons.mpr ⟨lw_p68, List.forall_mem_cons.mpr ⟨lw_p69, List.forall_mem_cons.mpr ⟨lw_p70, List.forall_mem_cons.mpr ⟨lw_p71, List.forall_mem_cons.mpr ⟨lw_p72, List.forall_mem_cons.mpr ⟨lw_p73, List.forall_mem_cons.mpr ⟨lw_p74, List.forall_mem_cons.mpr ⟨lw_p75, List.forall_mem_cons.mpr ⟨lw_p76, List.forall_mem_cons.mpr ⟨lw_p77, List.forall_mem_cons.mpr ⟨lw_p78, List.forall_mem_cons.mpr ⟨lw_p79, fun _ h => absurd h List.not_mem_nil⟩⟩⟩⟩⟩⟩⟩⟩⟩⟩⟩⟩⟩⟩⟩⟩
theorem lw_p80 : lw_okq (⟨"WeavewordModel", "sectionsOf", "(I)I"⟩, 79) := ⟨⟨by decide +kernel, by decide +kernel⟩, lw_t7 (List.mem_of_getElem? (i := 74) rfl), lw_t9 (List.mem_of_getElem? (i := 70) rfl), lw_t9 (List.mem_of_getElem? (i := 71) rfl)⟩
theorem lw_p81 : lw_okq (⟨"WeavewordModel", "layMeant", "(II)V"⟩, 79) := ⟨⟨by decide +kernel, by decide +kernel⟩, lw_t7 (List.mem_of_getElem? (i := 74) rfl), lw_t9 (List.mem_of_getElem? (i := 77) rfl), lw_t9 (List.mem_of_getElem? (i := 78) rfl)⟩
theorem lw_p82 : lw_okq (⟨"WeavewordModel", "putResult", "([III)V"⟩, 79) := ⟨⟨by decide +kernel, by decide +kernel⟩, lw_t7 (List.mem_of_getElem? (i := 74) rfl), lw_t9 (List.mem_of_getElem? (i := 81) rfl), lw_t9 (List.mem_of_getElem? (i := 82) rfl)⟩
theorem lw_p83 : lw_okq (⟨"WeavewordModel", "merges", "(II)Z"⟩, 79) := ⟨⟨by decide +kernel, by decide +kernel⟩, lw_t7 (List.mem_of_getElem? (i := 74) rfl), lw_t9 (List.mem_of_getElem? (i := 88) rfl), lw_t9 (List.mem_of_getElem? (i := 89) rfl)⟩
theorem lw_p84 : lw_okq (⟨"WeavewordModel", "putSection", "([IIII)V"⟩, 79) := ⟨⟨by decide +kernel, by decide +kernel⟩, lw_t7 (List.mem_of_getElem? (i := 74) rfl), lw_t9 (List.mem_of_getElem? (i := 95) rfl), lw_t9 (List.mem_of_getElem? (i := 96) rfl)⟩
theorem lw_p85 : lw_okq (⟨"WeavewordModel", "isNew", "(I)Z"⟩, 79) := ⟨⟨by decide +kernel, by decide +kernel⟩, lw_t7 (List.mem_of_getElem? (i := 74) rfl), lw_t9 (List.mem_of_getElem? (i := 99) rfl), lw_t9 (List.mem_of_getElem? (i := 100) rfl)⟩
theorem lw_p86 : lw_okq (⟨"WeavewordModel", "newVersionNow", "(I[III)I"⟩, 79) := ⟨⟨by decide +kernel, by decide +kernel⟩, lw_t7 (List.mem_of_getElem? (i := 74) rfl), lw_t9 (List.mem_of_getElem? (i := 103) rfl), lw_t9 (List.mem_of_getElem? (i := 104) rfl)⟩
theorem lw_p87 : lw_okq (⟨"WeavewordModel", "aheadOf", "(I)I"⟩, 79) := ⟨⟨by decide +kernel, by decide +kernel⟩, lw_t7 (List.mem_of_getElem? (i := 74) rfl), lw_t9 (List.mem_of_getElem? (i := 111) rfl), lw_t9 (List.mem_of_getElem? (i := 112) rfl)⟩
theorem lw_p88 : lw_okq (⟨"WeavewordModel", "versionIn", "(II)I"⟩, 79) := ⟨⟨by decide +kernel, by decide +kernel⟩, lw_t7 (List.mem_of_getElem? (i := 74) rfl), lw_t9 (List.mem_of_getElem? (i := 115) rfl), lw_t9 (List.mem_of_getElem? (i := 116) rfl)⟩
theorem lw_p89 : lw_okq (⟨"WeavewordModel", "undoes", "(III)Z"⟩, 79) := ⟨⟨by decide +kernel, by decide +kernel⟩, lw_t7 (List.mem_of_getElem? (i := 74) rfl), lw_t9 (List.mem_of_getElem? (i := 119) rfl), lw_t9 (List.mem_of_getElem? (i := 120) rfl)⟩
theorem lw_p90 : lw_okq (⟨"WeavewordModel", "dropRendering", "(I)V"⟩, 79) := ⟨⟨by decide +kernel, by decide +kernel⟩, lw_t7 (List.mem_of_getElem? (i := 74) rfl), lw_t9 (List.mem_of_getElem? (i := 131) rfl), lw_t9 (List.mem_of_getElem? (i := 132) rfl)⟩
theorem lw_p91 : lw_okq (⟨"WeavewordModel", "turns", "(IIII)Z"⟩, 79) := ⟨⟨by decide +kernel, by decide +kernel⟩, lw_t7 (List.mem_of_getElem? (i := 74) rfl), lw_t9 (List.mem_of_getElem? (i := 139) rfl), lw_t9 (List.mem_of_getElem? (i := 140) rfl)⟩
theorem lw_p92 : lw_okq (⟨"WeavewordModel", "asksFor", "(I)Z"⟩, 79) := ⟨⟨by decide +kernel, by decide +kernel⟩, lw_t7 (List.mem_of_getElem? (i := 74) rfl), lw_t9 (List.mem_of_getElem? (i := 174) rfl), lw_t9 (List.mem_of_getElem? (i := 175) rfl)⟩
theorem lw_p93 : lw_okq (⟨"WeavewordModel", "versionsOf", "(I)I"⟩, 79) := ⟨⟨by decide +kernel, by decide +kernel⟩, lw_t7 (List.mem_of_getElem? (i := 74) rfl), lw_t9 (List.mem_of_getElem? (i := 178) rfl), lw_t9 (List.mem_of_getElem? (i := 179) rfl)⟩
theorem lw_p94 : lw_okq (⟨"WeavewordModel", "hasIndex", "(II)Z"⟩, 79) := ⟨⟨by decide +kernel, by decide +kernel⟩, lw_t7 (List.mem_of_getElem? (i := 74) rfl), lw_t9 (List.mem_of_getElem? (i := 190) rfl), lw_t9 (List.mem_of_getElem? (i := 191) rfl)⟩
theorem lw_p95 : lw_okq (⟨"WeavewordModel", "leadsTo", "(I)I"⟩, 79) := ⟨⟨by decide +kernel, by decide +kernel⟩, lw_t7 (List.mem_of_getElem? (i := 74) rfl), lw_t9 (List.mem_of_getElem? (i := 198) rfl), lw_t9 (List.mem_of_getElem? (i := 199) rfl)⟩
def lw_privs_6 : List (MethodName × Nat) := [(⟨"WeavewordModel", "sectionsOf", "(I)I"⟩, 79), (⟨"WeavewordModel", "layMeant", "(II)V"⟩, 79), (⟨"WeavewordModel", "putResult", "([III)V"⟩, 79), (⟨"WeavewordModel", "merges", "(II)Z"⟩, 79), (⟨"WeavewordModel", "putSection", "([IIII)V"⟩, 79), (⟨"WeavewordModel", "isNew", "(I)Z"⟩, 79), (⟨"WeavewordModel", "newVersionNow", "(I[III)I"⟩, 79), (⟨"WeavewordModel", "aheadOf", "(I)I"⟩, 79), (⟨"WeavewordModel", "versionIn", "(II)I"⟩, 79), (⟨"WeavewordModel", "undoes", "(III)Z"⟩, 79), (⟨"WeavewordModel", "dropRendering", "(I)V"⟩, 79), (⟨"WeavewordModel", "turns", "(IIII)Z"⟩, 79), (⟨"WeavewordModel", "asksFor", "(I)Z"⟩, 79), (⟨"WeavewordModel", "versionsOf", "(I)I"⟩, 79), (⟨"WeavewordModel", "hasIndex", "(II)Z"⟩, 79), (⟨"WeavewordModel", "leadsTo", "(I)I"⟩, 79)]
theorem lw_r6 : ∀ q ∈ lw_privs_6, lw_okq q := List.forall_mem_cons.mpr ⟨lw_p80, List.forall_mem_cons.mpr ⟨lw_p81, List.forall_mem_cons.mpr ⟨lw_p82, List.forall_mem_cons.mpr ⟨lw_p83, List.forall_mem_cons.mpr ⟨lw_p84, List.forall_mem_cons.mpr ⟨lw_p85, List.forall_mem_cons.mpr ⟨lw_p86, List.forall_mem_cons.mpr ⟨lw_p87, List.forall_mem_cons.mpr ⟨lw_p88, List.forall_mem_cons.mpr ⟨lw_p89, List.forall_mem_cons.mpr ⟨lw_p90, List.forall_mem_cons.mpr ⟨lw_p91, List.forall_mem_cons.mpr ⟨lw_p92, List.forall_mem_cons.mpr ⟨lw_p93, List.forall_mem_cons.mpr ⟨lw_p94, List.forall_mem_cons.mpr ⟨lw_p95, fun _ h => absurd h List.not_mem_nil⟩⟩⟩⟩⟩⟩⟩⟩⟩⟩⟩⟩⟩⟩⟩⟩
theorem lw_p96 : lw_okq (⟨"WeavewordModel", "isLinked", "(I)Z"⟩, 79) := ⟨⟨by decide +kernel, by decide +kernel⟩, lw_t7 (List.mem_of_getElem? (i := 74) rfl), lw_t9 (List.mem_of_getElem? (i := 234) rfl), lw_t9 (List.mem_of_getElem? (i := 235) rfl)⟩
theorem lw_p97 : lw_okq (⟨"WeavewordModel", "asksIn", "(II)Z"⟩, 79) := ⟨⟨by decide +kernel, by decide +kernel⟩, lw_t7 (List.mem_of_getElem? (i := 74) rfl), lw_t10 (List.mem_of_getElem? (i := 2) rfl), lw_t10 (List.mem_of_getElem? (i := 3) rfl)⟩
theorem lw_p98 : lw_okq (⟨"WeavewordModel", "translated", "(II)I"⟩, 79) := ⟨⟨by decide +kernel, by decide +kernel⟩, lw_t7 (List.mem_of_getElem? (i := 74) rfl), lw_t10 (List.mem_of_getElem? (i := 6) rfl), lw_t10 (List.mem_of_getElem? (i := 7) rfl)⟩
def lw_privs_7 : List (MethodName × Nat) := [(⟨"WeavewordModel", "isLinked", "(I)Z"⟩, 79), (⟨"WeavewordModel", "asksIn", "(II)Z"⟩, 79), (⟨"WeavewordModel", "translated", "(II)I"⟩, 79)]
theorem lw_r7 : ∀ q ∈ lw_privs_7, lw_okq q := List.forall_mem_cons.mpr ⟨lw_p96, List.forall_mem_cons.mpr ⟨lw_p97, List.forall_mem_cons.mpr ⟨lw_p98, fun _ h => absurd h List.not_mem_nil⟩⟩⟩
def lw_privs : List (MethodName × Nat) := lw_privs_1 ++ (lw_privs_2 ++ (lw_privs_3 ++ (lw_privs_4 ++ (lw_privs_5 ++ (lw_privs_6 ++ (lw_privs_7))))))
def lw_tbl : List Cond := k2_sels lw_privs ++ tables_1
theorem lw_privs_ok : ∀ q ∈ lw_privs, lw_okq q := by
  show ∀ q ∈ lw_privs_1 ++ (lw_privs_2 ++ (lw_privs_3 ++ (lw_privs_4 ++ (lw_privs_5 ++ (lw_privs_6 ++ (lw_privs_7)))))), lw_okq q
  exact List.forall_mem_append.mpr ⟨lw_r1, List.forall_mem_append.mpr ⟨lw_r2, List.forall_mem_append.mpr ⟨lw_r3, List.forall_mem_append.mpr ⟨lw_r4, List.forall_mem_append.mpr ⟨lw_r5, List.forall_mem_append.mpr ⟨lw_r6, lw_r7⟩⟩⟩⟩⟩⟩
-- ===== ONE list of words for every method: the tables' words that hold all through a run =====
def lw_all : List Cond := lw_tbl.filter goodWord
/-- a word of the tables by its place: claim/WORDS.tsv -/
theorem lw_w {w : Cond} (i : Nat) (h : lw_tbl[i]? = some w) (g : goodWord w = true) : w ∈ lw_all := List.mem_filter.mpr ⟨List.mem_of_getElem? h, g⟩
theorem lw_all_tbl {w : Cond} (h : w ∈ lw_all) : w ∈ lw_tbl := (List.mem_filter.mp h).1
theorem lw_self : GoodIn lw_all lw_all := fun w h => ⟨h, good_of_word (List.mem_filter.mp h).2⟩
/-- a class's field words, by their places -/
theorem lw_in (ws : List Cond) (ps : List Nat) (hp : ws = ps.filterMap (fun i => lw_tbl[i]?)) (hg : ws.all goodWord = true) : ∀ w ∈ ws, w ∈ lw_all := by
  intro w h
  have h1 := List.all_eq_true.mp hg w h
  rw [hp] at h
  obtain ⟨i, -, hi⟩ := List.mem_filterMap.mp h
  exact lw_w i hi h1
/-- the words of a contract for the method y with code b, L locals, answer r -/
abbrev ws_ (y : MethodName) (b : ByteArray) (L : Nat) (r : Option FieldType) : List Cond := Cond.code y b L r :: lw_all
theorem lw_meth {y : MethodName} {b : ByteArray} {L : Nat} {r : Option FieldType} (h : Cond.code y b L r ∈ lw_all) : GoodIn lw_all (ws_ y b L r) := by
  intro w hw
  rcases List.mem_cons.mp hw with e | e
  · rw [e]
    exact lw_self _ h
  · exact lw_self _ e
theorem lw_app {a c : List Cond} (ha : ∀ w ∈ a, w ∈ lw_all) (hc : GoodIn lw_all c) : GoodIn lw_all (a ++ c) := by
  intro w hw
  rcases List.mem_append.mp hw with e | e
  · exact lw_self w (ha w e)
  · exact hc w e
/-- what a call through an object asks: cwV n hts (lw_V ..) -/
theorem lw_V {own : String} {idx : Nat} {C : String} {y : MethodName} {b : ByteArray} {L : Nat} {r : Option FieldType} (h1 : Cond.methodLink own idx y ∈ lw_all) (h2 : Cond.instanceMethod y ∈ lw_all) (h3 : Cond.selects C y y ∈ lw_all) (h4 : Cond.initialized C ∈ lw_all) (h5 : Cond.code y b L r ∈ lw_all) : GoodIn lw_all (wsV own idx C y (ws_ y b L r)) := by
  refine lw_app ?_ (lw_meth h5)
  intro w hw
  simp only [List.mem_cons, List.not_mem_nil, or_false] at hw
  rcases hw with e | e | e | e
  · rw [e]; exact h1
  · rw [e]; exact h2
  · rw [e]; exact h3
  · rw [e]; exact h4
/-- what a static call asks: va_cwS n hts (lw_S ..) -/
theorem lw_S {own : String} {idx : Nat} {y : MethodName} {b : ByteArray} {L : Nat} {r : Option FieldType} (h1 : Cond.methodLink own idx y ∈ lw_all) (h2 : Cond.static y ∈ lw_all) (h3 : Cond.initialized y.cls ∈ lw_all) (h4 : Cond.code y b L r ∈ lw_all) : GoodIn lw_all (va_wsS own idx y (ws_ y b L r)) := by
  refine lw_app ?_ (lw_meth h4)
  intro w hw
  simp only [List.mem_cons, List.not_mem_nil, or_false] at hw
  rcases hw with e | e | e
  · rw [e]; exact h1
  · rw [e]; exact h2
  · rw [e]; exact h3
/-- the words of a contract for a method WITH HANDLERS (hh: its table) -/
abbrev wsW_ (y : MethodName) (b : ByteArray) (L : Nat) (r : Option FieldType) (hh : List (Nat × Nat × Nat × Nat)) : List Cond := Cond.codeWith y b L r hh :: lw_all
theorem lw_methW {y : MethodName} {b : ByteArray} {L : Nat} {r : Option FieldType} {hh : List (Nat × Nat × Nat × Nat)} (h : Cond.codeWith y b L r hh ∈ lw_all) : GoodIn lw_all (wsW_ y b L r hh) := by
  intro w hw
  rcases List.mem_cons.mp hw with e | e
  · rw [e]
    exact lw_self _ h
  · exact lw_self _ e
/-- any list of words by their places (lw_in), good -/
theorem lw_good {ws : List Cond} (h : ∀ w ∈ ws, w ∈ lw_all) : GoodIn lw_all ws := fun w hw => lw_self w (h w hw)
/-- what a call of a method with handlers asks: vx_cwVW n hts (lw_VW ..), vx_cwSW n hts (lw_SW ..) -/
theorem lw_VW {own : String} {idx : Nat} {C : String} {y : MethodName} {b : ByteArray} {L : Nat} {r : Option FieldType} {hh : List (Nat × Nat × Nat × Nat)} (h1 : Cond.methodLink own idx y ∈ lw_all) (h2 : Cond.instanceMethod y ∈ lw_all) (h3 : Cond.selects C y y ∈ lw_all) (h4 : Cond.initialized C ∈ lw_all) (h5 : Cond.codeWith y b L r hh ∈ lw_all) : GoodIn lw_all (wsV own idx C y (wsW_ y b L r hh)) := by
  refine lw_app ?_ (lw_methW h5)
  intro w hw
  simp only [List.mem_cons, List.not_mem_nil, or_false] at hw
  rcases hw with e | e | e | e
  · rw [e]; exact h1
  · rw [e]; exact h2
  · rw [e]; exact h3
  · rw [e]; exact h4
theorem lw_SW {own : String} {idx : Nat} {y : MethodName} {b : ByteArray} {L : Nat} {r : Option FieldType} {hh : List (Nat × Nat × Nat × Nat)} (h1 : Cond.methodLink own idx y ∈ lw_all) (h2 : Cond.static y ∈ lw_all) (h3 : Cond.initialized y.cls ∈ lw_all) (h4 : Cond.codeWith y b L r hh ∈ lw_all) : GoodIn lw_all (va_wsS own idx y (wsW_ y b L r hh)) := by
  refine lw_app ?_ (lw_methW h4)
  intro w hw
  simp only [List.mem_cons, List.not_mem_nil, or_false] at hw
  rcases hw with e | e | e
  · rw [e]; exact h1
  · rw [e]; exact h2
  · rw [e]; exact h3
/-- a word by its place in its run of the tables -/
theorem lw_at {r : List Cond} (hr : ∀ w ∈ r, w ∈ lw_tbl) {w : Cond} (i : Nat) (h : r[i]? = some w) : w ∈ lw_tbl := hr w (List.mem_of_getElem? h)
theorem lw_g {w : Cond} (h : w ∈ lw_tbl) (g : goodWord w = true) : w ∈ lw_all := List.mem_filter.mpr ⟨h, g⟩
theorem lw_ms : ∀ w ∈ k2_sels lw_privs, w ∈ lw_tbl := fun w h => show w ∈ k2_sels lw_privs ++ tables_1 from List.mem_append_left _ h
theorem lw_m1 : ∀ w ∈ tables_1_1, w ∈ lw_tbl := fun w h => show w ∈ k2_sels lw_privs ++ tables_1 from List.mem_append_right (k2_sels lw_privs) (show w ∈ tables_1 from List.mem_append_left _ h)
theorem lw_m2 : ∀ w ∈ tables_1_2, w ∈ lw_tbl := fun w h => show w ∈ k2_sels lw_privs ++ tables_1 from List.mem_append_right (k2_sels lw_privs) (show w ∈ tables_1 from List.mem_append_right _ (List.mem_append_left _ h))
theorem lw_m3 : ∀ w ∈ tables_1_3, w ∈ lw_tbl := fun w h => show w ∈ k2_sels lw_privs ++ tables_1 from List.mem_append_right (k2_sels lw_privs) (show w ∈ tables_1 from List.mem_append_right _ (List.mem_append_right _ (List.mem_append_left _ h)))
theorem lw_m4 : ∀ w ∈ tables_1_4, w ∈ lw_tbl := fun w h => show w ∈ k2_sels lw_privs ++ tables_1 from List.mem_append_right (k2_sels lw_privs) (show w ∈ tables_1 from List.mem_append_right _ (List.mem_append_right _ (List.mem_append_right _ (List.mem_append_left _ h))))
theorem lw_m5 : ∀ w ∈ tables_1_5, w ∈ lw_tbl := fun w h => show w ∈ k2_sels lw_privs ++ tables_1 from List.mem_append_right (k2_sels lw_privs) (show w ∈ tables_1 from List.mem_append_right _ (List.mem_append_right _ (List.mem_append_right _ (List.mem_append_right _ (List.mem_append_left _ h)))))
theorem lw_m6 : ∀ w ∈ tables_1_6, w ∈ lw_tbl := fun w h => show w ∈ k2_sels lw_privs ++ tables_1 from List.mem_append_right (k2_sels lw_privs) (show w ∈ tables_1 from List.mem_append_right _ (List.mem_append_right _ (List.mem_append_right _ (List.mem_append_right _ (List.mem_append_right _ (List.mem_append_left _ h))))))
theorem lw_m7 : ∀ w ∈ tables_1_7, w ∈ lw_tbl := fun w h => show w ∈ k2_sels lw_privs ++ tables_1 from List.mem_append_right (k2_sels lw_privs) (show w ∈ tables_1 from List.mem_append_right _ (List.mem_append_right _ (List.mem_append_right _ (List.mem_append_right _ (List.mem_append_right _ (List.mem_append_right _ (List.mem_append_left _ h)))))))
theorem lw_m8 : ∀ w ∈ tables_1_8, w ∈ lw_tbl := fun w h => show w ∈ k2_sels lw_privs ++ tables_1 from List.mem_append_right (k2_sels lw_privs) (show w ∈ tables_1 from List.mem_append_right _ (List.mem_append_right _ (List.mem_append_right _ (List.mem_append_right _ (List.mem_append_right _ (List.mem_append_right _ (List.mem_append_right _ (List.mem_append_left _ h))))))))
theorem lw_m9 : ∀ w ∈ tables_1_9, w ∈ lw_tbl := fun w h => show w ∈ k2_sels lw_privs ++ tables_1 from List.mem_append_right (k2_sels lw_privs) (show w ∈ tables_1 from List.mem_append_right _ (List.mem_append_right _ (List.mem_append_right _ (List.mem_append_right _ (List.mem_append_right _ (List.mem_append_right _ (List.mem_append_right _ (List.mem_append_right _ (List.mem_append_left _ h)))))))))
theorem lw_m10 : ∀ w ∈ tables_1_10, w ∈ lw_tbl := fun w h => show w ∈ k2_sels lw_privs ++ tables_1 from List.mem_append_right (k2_sels lw_privs) (show w ∈ tables_1 from List.mem_append_right _ (List.mem_append_right _ (List.mem_append_right _ (List.mem_append_right _ (List.mem_append_right _ (List.mem_append_right _ (List.mem_append_right _ (List.mem_append_right _ (List.mem_append_right _ h)))))))))
theorem qs0 : (Cond.selects "java/util/ArrayList" ⟨"java/util/ArrayList", "add", "(Ljava/lang/Object;[Ljava/lang/Object;I)V"⟩ ⟨"java/util/ArrayList", "add", "(Ljava/lang/Object;[Ljava/lang/Object;I)V"⟩) ∈ lw_all := lw_g (lw_at lw_ms 0 rfl) rfl
theorem qs1 : (Cond.selects "java/util/ArrayList" ⟨"java/util/ArrayList", "grow", "()[Ljava/lang/Object;"⟩ ⟨"java/util/ArrayList", "grow", "()[Ljava/lang/Object;"⟩) ∈ lw_all := lw_g (lw_at lw_ms 1 rfl) rfl
theorem qs2 : (Cond.selects "java/util/ArrayList" ⟨"java/util/ArrayList", "grow", "(I)[Ljava/lang/Object;"⟩ ⟨"java/util/ArrayList", "grow", "(I)[Ljava/lang/Object;"⟩) ∈ lw_all := lw_g (lw_at lw_ms 2 rfl) rfl
theorem qs3 : (Cond.selects "Weaveword" ⟨"Weaveword", "isStaleAt", "(I)Z"⟩ ⟨"Weaveword", "isStaleAt", "(I)Z"⟩) ∈ lw_all := lw_g (lw_at lw_ms 3 rfl) rfl
theorem qs4 : (Cond.selects "Weaveword" ⟨"Weaveword", "linksOf", "(I)I"⟩ ⟨"Weaveword", "linksOf", "(I)I"⟩) ∈ lw_all := lw_g (lw_at lw_ms 4 rfl) rfl
theorem qs5 : (Cond.selects "java/lang/Throwable" ⟨"java/lang/Throwable", "fillInStackTrace", "(I)Ljava/lang/Throwable;"⟩ ⟨"java/lang/Throwable", "fillInStackTrace", "(I)Ljava/lang/Throwable;"⟩) ∈ lw_all := lw_g (lw_at lw_ms 5 rfl) rfl
theorem qs6 : (Cond.selects "Weaveword" ⟨"Weaveword", "mayAct", "(I)V"⟩ ⟨"Weaveword", "mayAct", "(I)V"⟩) ∈ lw_all := lw_g (lw_at lw_ms 6 rfl) rfl
theorem qs7 : (Cond.selects "Weaveword$Text" ⟨"Weaveword$Text", "canBe", "(III)Z"⟩ ⟨"Weaveword$Text", "canBe", "(III)Z"⟩) ∈ lw_all := lw_g (lw_at lw_ms 7 rfl) rfl
theorem qs8 : (Cond.selects "Weaveword" ⟨"Weaveword", "makes", "(ILWeaveword$Text;)I"⟩ ⟨"Weaveword", "makes", "(ILWeaveword$Text;)I"⟩) ∈ lw_all := lw_g (lw_at lw_ms 8 rfl) rfl
theorem qs9 : (Cond.selects "Weaveword" ⟨"Weaveword", "makes", "(ILWeaveword$Text;I)I"⟩ ⟨"Weaveword", "makes", "(ILWeaveword$Text;I)I"⟩) ∈ lw_all := lw_g (lw_at lw_ms 9 rfl) rfl
theorem qs10 : (Cond.selects "java/util/ArrayList" ⟨"java/util/ArrayList", "rangeCheckForAdd", "(I)V"⟩ ⟨"java/util/ArrayList", "rangeCheckForAdd", "(I)V"⟩) ∈ lw_all := lw_g (lw_at lw_ms 10 rfl) rfl
theorem qs11 : (Cond.selects "java/util/ArrayList" ⟨"java/util/ArrayList", "outOfBoundsMsg", "(I)Ljava/lang/String;"⟩ ⟨"java/util/ArrayList", "outOfBoundsMsg", "(I)Ljava/lang/String;"⟩) ∈ lw_all := lw_g (lw_at lw_ms 11 rfl) rfl
theorem qs12 : (Cond.selects "Weaveword" ⟨"Weaveword", "changed", "(I)V"⟩ ⟨"Weaveword", "changed", "(I)V"⟩) ∈ lw_all := lw_g (lw_at lw_ms 12 rfl) rfl
theorem qs13 : (Cond.selects "Weaveword" ⟨"Weaveword", "marks", "(ZLWeaveword$Stored;)V"⟩ ⟨"Weaveword", "marks", "(ZLWeaveword$Stored;)V"⟩) ∈ lw_all := lw_g (lw_at lw_ms 13 rfl) rfl
theorem qs14 : (Cond.selects "Weaveword" ⟨"Weaveword", "at", "(I)LWeaveword$Page;"⟩ ⟨"Weaveword", "at", "(I)LWeaveword$Page;"⟩) ∈ lw_all := lw_g (lw_at lw_ms 14 rfl) rfl
theorem qs15 : (Cond.selects "Weaveword" ⟨"Weaveword", "edits", "(ILWeaveword$Text;)I"⟩ ⟨"Weaveword", "edits", "(ILWeaveword$Text;)I"⟩) ∈ lw_all := lw_g (lw_at lw_ms 15 rfl) rfl
theorem qs16 : (Cond.selects "Weaveword" ⟨"Weaveword", "brings", "(II)V"⟩ ⟨"Weaveword", "brings", "(II)V"⟩) ∈ lw_all := lw_g (lw_at lw_ms 16 rfl) rfl
theorem qs17 : (Cond.selects "Weaveword" ⟨"Weaveword", "stores", "(ILWeaveword$Stored;)V"⟩ ⟨"Weaveword", "stores", "(ILWeaveword$Stored;)V"⟩) ∈ lw_all := lw_g (lw_at lw_ms 17 rfl) rfl
theorem qs18 : (Cond.selects "Weaveword" ⟨"Weaveword", "changedCategories", "(I)V"⟩ ⟨"Weaveword", "changedCategories", "(I)V"⟩) ∈ lw_all := lw_g (lw_at lw_ms 18 rfl) rfl
theorem qs19 : (Cond.selects "Weaveword" ⟨"Weaveword", "pagesOf", "(I)[Z"⟩ ⟨"Weaveword", "pagesOf", "(I)[Z"⟩) ∈ lw_all := lw_g (lw_at lw_ms 19 rfl) rfl
theorem qs20 : (Cond.selects "Weaveword" ⟨"Weaveword", "moduleAt", "(I)LWeaveword$Module;"⟩ ⟨"Weaveword", "moduleAt", "(I)LWeaveword$Module;"⟩) ∈ lw_all := lw_g (lw_at lw_ms 20 rfl) rfl
theorem qs21 : (Cond.selects "Weaveword" ⟨"Weaveword", "changedModule", "(I)V"⟩ ⟨"Weaveword", "changedModule", "(I)V"⟩) ∈ lw_all := lw_g (lw_at lw_ms 21 rfl) rfl
theorem qs22 : (Cond.selects "Weaveword" ⟨"Weaveword", "rendered", "(I)LWeaveword$Rendering;"⟩ ⟨"Weaveword", "rendered", "(I)LWeaveword$Rendering;"⟩) ∈ lw_all := lw_g (lw_at lw_ms 22 rfl) rfl
theorem qs23 : (Cond.selects "Weaveword$Rendering" ⟨"Weaveword$Rendering", "linksTo", "(IILWeaveword$Row;)V"⟩ ⟨"Weaveword$Rendering", "linksTo", "(IILWeaveword$Row;)V"⟩) ∈ lw_all := lw_g (lw_at lw_ms 23 rfl) rfl
theorem qs24 : (Cond.selects "Weaveword$Rendering" ⟨"Weaveword$Rendering", "calls", "(LWeaveword$Frame;IILWeaveword$Row;)V"⟩ ⟨"Weaveword$Rendering", "calls", "(LWeaveword$Frame;IILWeaveword$Row;)V"⟩) ∈ lw_all := lw_g (lw_at lw_ms 24 rfl) rfl
theorem qs25 : (Cond.selects "Weaveword$Rendering" ⟨"Weaveword$Rendering", "leadsTo", "(I)I"⟩ ⟨"Weaveword$Rendering", "leadsTo", "(I)I"⟩) ∈ lw_all := lw_g (lw_at lw_ms 25 rfl) rfl
theorem qs26 : (Cond.selects "Weaveword$Rendering" ⟨"Weaveword$Rendering", "textOf", "(I)LWeaveword$Text;"⟩ ⟨"Weaveword$Rendering", "textOf", "(I)LWeaveword$Text;"⟩) ∈ lw_all := lw_g (lw_at lw_ms 26 rfl) rfl
theorem qs27 : (Cond.selects "Weaveword$Rendering" ⟨"Weaveword$Rendering", "partsOf", "(LWeaveword$Frame;II)LWeaveword$Parts;"⟩ ⟨"Weaveword$Rendering", "partsOf", "(LWeaveword$Frame;II)LWeaveword$Parts;"⟩) ∈ lw_all := lw_g (lw_at lw_ms 27 rfl) rfl
theorem qs28 : (Cond.selects "Weaveword$Rendering" ⟨"Weaveword$Rendering", "puts", "(LWeaveword$Frame;IILWeaveword$Row;)V"⟩ ⟨"Weaveword$Rendering", "puts", "(LWeaveword$Frame;IILWeaveword$Row;)V"⟩) ∈ lw_all := lw_g (lw_at lw_ms 28 rfl) rfl
theorem qs29 : (Cond.selects "Weaveword$Rendering" ⟨"Weaveword$Rendering", "does", "(ILWeaveword$Parts;LWeaveword$Row;)V"⟩ ⟨"Weaveword$Rendering", "does", "(ILWeaveword$Parts;LWeaveword$Row;)V"⟩) ∈ lw_all := lw_g (lw_at lw_ms 29 rfl) rfl
theorem qs30 : (Cond.selects "Weaveword$Rendering" ⟨"Weaveword$Rendering", "sum", "(LWeaveword$Parts;)I"⟩ ⟨"Weaveword$Rendering", "sum", "(LWeaveword$Parts;)I"⟩) ∈ lw_all := lw_g (lw_at lw_ms 30 rfl) rfl
theorem qs31 : (Cond.selects "Weaveword$Rendering" ⟨"Weaveword$Rendering", "exists", "(I)Z"⟩ ⟨"Weaveword$Rendering", "exists", "(I)Z"⟩) ∈ lw_all := lw_g (lw_at lw_ms 31 rfl) rfl
theorem qs32 : (Cond.selects "Weaveword$Rendering" ⟨"Weaveword$Rendering", "membersOf", "(I)I"⟩ ⟨"Weaveword$Rendering", "membersOf", "(I)I"⟩) ∈ lw_all := lw_g (lw_at lw_ms 32 rfl) rfl
theorem qs33 : (Cond.selects "Weaveword$Rendering" ⟨"Weaveword$Rendering", "lists", "(ILWeaveword$Row;)V"⟩ ⟨"Weaveword$Rendering", "lists", "(ILWeaveword$Row;)V"⟩) ∈ lw_all := lw_g (lw_at lw_ms 33 rfl) rfl
theorem qs34 : (Cond.selects "Weaveword$Rendering" ⟨"Weaveword$Rendering", "given", "(LWeaveword$Parts;)I"⟩ ⟨"Weaveword$Rendering", "given", "(LWeaveword$Parts;)I"⟩) ∈ lw_all := lw_g (lw_at lw_ms 34 rfl) rfl
theorem qs35 : (Cond.selects "WeavewordModel" ⟨"WeavewordModel", "nextStale", "()I"⟩ ⟨"WeavewordModel", "nextStale", "()I"⟩) ∈ lw_all := lw_g (lw_at lw_ms 35 rfl) rfl
theorem qs36 : (Cond.selects "WeavewordModel" ⟨"WeavewordModel", "isOld", "(I)Z"⟩ ⟨"WeavewordModel", "isOld", "(I)Z"⟩) ∈ lw_all := lw_g (lw_at lw_ms 36 rfl) rfl
theorem qs37 : (Cond.selects "WeavewordModel" ⟨"WeavewordModel", "render", "(I)V"⟩ ⟨"WeavewordModel", "render", "(I)V"⟩) ∈ lw_all := lw_g (lw_at lw_ms 37 rfl) rfl
theorem qs38 : (Cond.selects "WeavewordModel" ⟨"WeavewordModel", "presentAt", "(I)I"⟩ ⟨"WeavewordModel", "presentAt", "(I)I"⟩) ∈ lw_all := lw_g (lw_at lw_ms 38 rfl) rfl
theorem qs39 : (Cond.selects "WeavewordModel" ⟨"WeavewordModel", "presentOf", "(I)I"⟩ ⟨"WeavewordModel", "presentOf", "(I)I"⟩) ∈ lw_all := lw_g (lw_at lw_ms 39 rfl) rfl
theorem qs40 : (Cond.selects "WeavewordModel" ⟨"WeavewordModel", "isAhead", "(II)Z"⟩ ⟨"WeavewordModel", "isAhead", "(II)Z"⟩) ∈ lw_all := lw_g (lw_at lw_ms 40 rfl) rfl
theorem qs41 : (Cond.selects "WeavewordModel" ⟨"WeavewordModel", "expand", "(II)V"⟩ ⟨"WeavewordModel", "expand", "(II)V"⟩) ∈ lw_all := lw_g (lw_at lw_ms 41 rfl) rfl
theorem qs42 : (Cond.selects "WeavewordModel" ⟨"WeavewordModel", "newRow", "()I"⟩ ⟨"WeavewordModel", "newRow", "()I"⟩) ∈ lw_all := lw_g (lw_at lw_ms 42 rfl) rfl
theorem qs43 : (Cond.selects "WeavewordModel" ⟨"WeavewordModel", "newFrame", "(IIII)I"⟩ ⟨"WeavewordModel", "newFrame", "(IIII)I"⟩) ∈ lw_all := lw_g (lw_at lw_ms 43 rfl) rfl
theorem qs44 : (Cond.selects "WeavewordModel" ⟨"WeavewordModel", "task", "(IIIII)V"⟩ ⟨"WeavewordModel", "task", "(IIIII)V"⟩) ∈ lw_all := lw_g (lw_at lw_ms 44 rfl) rfl
theorem qs45 : (Cond.selects "WeavewordModel" ⟨"WeavewordModel", "appendRow", "(II)V"⟩ ⟨"WeavewordModel", "appendRow", "(II)V"⟩) ∈ lw_all := lw_g (lw_at lw_ms 45 rfl) rfl
theorem qs46 : (Cond.selects "WeavewordModel" ⟨"WeavewordModel", "append", "(II)V"⟩ ⟨"WeavewordModel", "append", "(II)V"⟩) ∈ lw_all := lw_g (lw_at lw_ms 46 rfl) rfl
theorem qs47 : (Cond.selects "WeavewordModel" ⟨"WeavewordModel", "give", "(I)V"⟩ ⟨"WeavewordModel", "give", "(I)V"⟩) ∈ lw_all := lw_g (lw_at lw_ms 47 rfl) rfl
theorem qs48 : (Cond.selects "WeavewordModel" ⟨"WeavewordModel", "partOf", "(II)I"⟩ ⟨"WeavewordModel", "partOf", "(II)I"⟩) ∈ lw_all := lw_g (lw_at lw_ms 48 rfl) rfl
theorem qs49 : (Cond.selects "WeavewordModel" ⟨"WeavewordModel", "hasOther", "(I)Z"⟩ ⟨"WeavewordModel", "hasOther", "(I)Z"⟩) ∈ lw_all := lw_g (lw_at lw_ms 49 rfl) rfl
theorem qs50 : (Cond.selects "WeavewordModel" ⟨"WeavewordModel", "areSame", "(II)Z"⟩ ⟨"WeavewordModel", "areSame", "(II)Z"⟩) ∈ lw_all := lw_g (lw_at lw_ms 50 rfl) rfl
theorem qs51 : (Cond.selects "WeavewordModel" ⟨"WeavewordModel", "sumOf", "(I)I"⟩ ⟨"WeavewordModel", "sumOf", "(I)I"⟩) ∈ lw_all := lw_g (lw_at lw_ms 51 rfl) rfl
theorem qs52 : (Cond.selects "WeavewordModel" ⟨"WeavewordModel", "numberOf", "(I)I"⟩ ⟨"WeavewordModel", "numberOf", "(I)I"⟩) ∈ lw_all := lw_g (lw_at lw_ms 52 rfl) rfl
theorem qs53 : (Cond.selects "WeavewordModel" ⟨"WeavewordModel", "giveByNumber", "(II)V"⟩ ⟨"WeavewordModel", "giveByNumber", "(II)V"⟩) ∈ lw_all := lw_g (lw_at lw_ms 53 rfl) rfl
theorem qs54 : (Cond.selects "WeavewordModel" ⟨"WeavewordModel", "seenAt", "(I)I"⟩ ⟨"WeavewordModel", "seenAt", "(I)I"⟩) ∈ lw_all := lw_g (lw_at lw_ms 54 rfl) rfl
theorem qs55 : (Cond.selects "WeavewordModel" ⟨"WeavewordModel", "approvedUpTo", "(II)I"⟩ ⟨"WeavewordModel", "approvedUpTo", "(II)I"⟩) ∈ lw_all := lw_g (lw_at lw_ms 55 rfl) rfl
theorem qs56 : (Cond.selects "WeavewordModel" ⟨"WeavewordModel", "membersOf", "(I)I"⟩ ⟨"WeavewordModel", "membersOf", "(I)I"⟩) ∈ lw_all := lw_g (lw_at lw_ms 56 rfl) rfl
theorem qs57 : (Cond.selects "WeavewordModel" ⟨"WeavewordModel", "listMembers", "(II)V"⟩ ⟨"WeavewordModel", "listMembers", "(II)V"⟩) ∈ lw_all := lw_g (lw_at lw_ms 57 rfl) rfl
theorem qs58 : (Cond.selects "WeavewordModel" ⟨"WeavewordModel", "moduleResult", "(II)I"⟩ ⟨"WeavewordModel", "moduleResult", "(II)I"⟩) ∈ lw_all := lw_g (lw_at lw_ms 58 rfl) rfl
theorem qs59 : (Cond.selects "WeavewordModel" ⟨"WeavewordModel", "takesTwo", "(I)Z"⟩ ⟨"WeavewordModel", "takesTwo", "(I)Z"⟩) ∈ lw_all := lw_g (lw_at lw_ms 59 rfl) rfl
theorem qs60 : (Cond.selects "WeavewordModel" ⟨"WeavewordModel", "codeAt", "(II)I"⟩ ⟨"WeavewordModel", "codeAt", "(II)I"⟩) ∈ lw_all := lw_g (lw_at lw_ms 60 rfl) rfl
theorem qs61 : (Cond.selects "WeavewordModel" ⟨"WeavewordModel", "closeOf", "(II)I"⟩ ⟨"WeavewordModel", "closeOf", "(II)I"⟩) ∈ lw_all := lw_g (lw_at lw_ms 61 rfl) rfl
theorem qs62 : (Cond.selects "WeavewordModel" ⟨"WeavewordModel", "expandToken", "(III)V"⟩ ⟨"WeavewordModel", "expandToken", "(III)V"⟩) ∈ lw_all := lw_g (lw_at lw_ms 62 rfl) rfl
theorem qs63 : (Cond.selects "WeavewordModel" ⟨"WeavewordModel", "expandCall", "(IIII)V"⟩ ⟨"WeavewordModel", "expandCall", "(IIII)V"⟩) ∈ lw_all := lw_g (lw_at lw_ms 63 rfl) rfl
theorem qs64 : (Cond.selects "WeavewordModel" ⟨"WeavewordModel", "wayOf", "(I)I"⟩ ⟨"WeavewordModel", "wayOf", "(I)I"⟩) ∈ lw_all := lw_g (lw_at lw_ms 64 rfl) rfl
theorem qs65 : (Cond.selects "WeavewordModel" ⟨"WeavewordModel", "redirectOf", "(I)I"⟩ ⟨"WeavewordModel", "redirectOf", "(I)I"⟩) ∈ lw_all := lw_g (lw_at lw_ms 65 rfl) rfl
theorem qs66 : (Cond.selects "WeavewordModel" ⟨"WeavewordModel", "isCalledFrom", "(II)Z"⟩ ⟨"WeavewordModel", "isCalledFrom", "(II)Z"⟩) ∈ lw_all := lw_g (lw_at lw_ms 66 rfl) rfl
theorem qs67 : (Cond.selects "WeavewordModel" ⟨"WeavewordModel", "layArguments", "(IIII)V"⟩ ⟨"WeavewordModel", "layArguments", "(IIII)V"⟩) ∈ lw_all := lw_g (lw_at lw_ms 67 rfl) rfl
theorem qs68 : (Cond.selects "WeavewordModel" ⟨"WeavewordModel", "markFrom", "(III)I"⟩ ⟨"WeavewordModel", "markFrom", "(III)I"⟩) ∈ lw_all := lw_g (lw_at lw_ms 68 rfl) rfl
theorem qs69 : (Cond.selects "WeavewordModel" ⟨"WeavewordModel", "expandParam", "(IIII)V"⟩ ⟨"WeavewordModel", "expandParam", "(IIII)V"⟩) ∈ lw_all := lw_g (lw_at lw_ms 69 rfl) rfl
theorem qs70 : (Cond.selects "WeavewordModel" ⟨"WeavewordModel", "expandFunction", "(IIII)V"⟩ ⟨"WeavewordModel", "expandFunction", "(IIII)V"⟩) ∈ lw_all := lw_g (lw_at lw_ms 70 rfl) rfl
theorem qs71 : (Cond.selects "WeavewordModel" ⟨"WeavewordModel", "setCategories", "(II)V"⟩ ⟨"WeavewordModel", "setCategories", "(II)V"⟩) ∈ lw_all := lw_g (lw_at lw_ms 71 rfl) rfl
theorem qs72 : (Cond.selects "WeavewordModel" ⟨"WeavewordModel", "hasPage", "(I)Z"⟩ ⟨"WeavewordModel", "hasPage", "(I)Z"⟩) ∈ lw_all := lw_g (lw_at lw_ms 72 rfl) rfl
theorem qs73 : (Cond.selects "WeavewordModel" ⟨"WeavewordModel", "mayAt", "(I)Z"⟩ ⟨"WeavewordModel", "mayAt", "(I)Z"⟩) ∈ lw_all := lw_g (lw_at lw_ms 73 rfl) rfl
theorem qs74 : (Cond.selects "WeavewordModel" ⟨"WeavewordModel", "isText", "([III)Z"⟩ ⟨"WeavewordModel", "isText", "([III)Z"⟩) ∈ lw_all := lw_g (lw_at lw_ms 74 rfl) rfl
theorem qs75 : (Cond.selects "WeavewordModel" ⟨"WeavewordModel", "newPage", "(I)I"⟩ ⟨"WeavewordModel", "newPage", "(I)I"⟩) ∈ lw_all := lw_g (lw_at lw_ms 75 rfl) rfl
theorem qs76 : (Cond.selects "WeavewordModel" ⟨"WeavewordModel", "fromDraft", "(II)I"⟩ ⟨"WeavewordModel", "fromDraft", "(II)I"⟩) ∈ lw_all := lw_g (lw_at lw_ms 76 rfl) rfl
theorem qs77 : (Cond.selects "WeavewordModel" ⟨"WeavewordModel", "newVersion", "(II[III)I"⟩ ⟨"WeavewordModel", "newVersion", "(II[III)I"⟩) ∈ lw_all := lw_g (lw_at lw_ms 77 rfl) rfl
theorem qs78 : (Cond.selects "WeavewordModel" ⟨"WeavewordModel", "settleTitles", "()V"⟩ ⟨"WeavewordModel", "settleTitles", "()V"⟩) ∈ lw_all := lw_g (lw_at lw_ms 78 rfl) rfl
theorem qs79 : (Cond.selects "WeavewordModel" ⟨"WeavewordModel", "isVersionAt", "(II)Z"⟩ ⟨"WeavewordModel", "isVersionAt", "(II)Z"⟩) ∈ lw_all := lw_g (lw_at lw_ms 79 rfl) rfl
theorem qs80 : (Cond.selects "WeavewordModel" ⟨"WeavewordModel", "sectionsOf", "(I)I"⟩ ⟨"WeavewordModel", "sectionsOf", "(I)I"⟩) ∈ lw_all := lw_g (lw_at lw_ms 80 rfl) rfl
theorem qs81 : (Cond.selects "WeavewordModel" ⟨"WeavewordModel", "layMeant", "(II)V"⟩ ⟨"WeavewordModel", "layMeant", "(II)V"⟩) ∈ lw_all := lw_g (lw_at lw_ms 81 rfl) rfl
theorem qs82 : (Cond.selects "WeavewordModel" ⟨"WeavewordModel", "putResult", "([III)V"⟩ ⟨"WeavewordModel", "putResult", "([III)V"⟩) ∈ lw_all := lw_g (lw_at lw_ms 82 rfl) rfl
theorem qs83 : (Cond.selects "WeavewordModel" ⟨"WeavewordModel", "merges", "(II)Z"⟩ ⟨"WeavewordModel", "merges", "(II)Z"⟩) ∈ lw_all := lw_g (lw_at lw_ms 83 rfl) rfl
theorem qs84 : (Cond.selects "WeavewordModel" ⟨"WeavewordModel", "putSection", "([IIII)V"⟩ ⟨"WeavewordModel", "putSection", "([IIII)V"⟩) ∈ lw_all := lw_g (lw_at lw_ms 84 rfl) rfl
theorem qs85 : (Cond.selects "WeavewordModel" ⟨"WeavewordModel", "isNew", "(I)Z"⟩ ⟨"WeavewordModel", "isNew", "(I)Z"⟩) ∈ lw_all := lw_g (lw_at lw_ms 85 rfl) rfl
theorem qs86 : (Cond.selects "WeavewordModel" ⟨"WeavewordModel", "newVersionNow", "(I[III)I"⟩ ⟨"WeavewordModel", "newVersionNow", "(I[III)I"⟩) ∈ lw_all := lw_g (lw_at lw_ms 86 rfl) rfl
theorem qs87 : (Cond.selects "WeavewordModel" ⟨"WeavewordModel", "aheadOf", "(I)I"⟩ ⟨"WeavewordModel", "aheadOf", "(I)I"⟩) ∈ lw_all := lw_g (lw_at lw_ms 87 rfl) rfl
theorem qs88 : (Cond.selects "WeavewordModel" ⟨"WeavewordModel", "versionIn", "(II)I"⟩ ⟨"WeavewordModel", "versionIn", "(II)I"⟩) ∈ lw_all := lw_g (lw_at lw_ms 88 rfl) rfl
theorem qs89 : (Cond.selects "WeavewordModel" ⟨"WeavewordModel", "undoes", "(III)Z"⟩ ⟨"WeavewordModel", "undoes", "(III)Z"⟩) ∈ lw_all := lw_g (lw_at lw_ms 89 rfl) rfl
theorem qs90 : (Cond.selects "WeavewordModel" ⟨"WeavewordModel", "dropRendering", "(I)V"⟩ ⟨"WeavewordModel", "dropRendering", "(I)V"⟩) ∈ lw_all := lw_g (lw_at lw_ms 90 rfl) rfl
theorem qs91 : (Cond.selects "WeavewordModel" ⟨"WeavewordModel", "turns", "(IIII)Z"⟩ ⟨"WeavewordModel", "turns", "(IIII)Z"⟩) ∈ lw_all := lw_g (lw_at lw_ms 91 rfl) rfl
theorem qs92 : (Cond.selects "WeavewordModel" ⟨"WeavewordModel", "asksFor", "(I)Z"⟩ ⟨"WeavewordModel", "asksFor", "(I)Z"⟩) ∈ lw_all := lw_g (lw_at lw_ms 92 rfl) rfl
theorem qs93 : (Cond.selects "WeavewordModel" ⟨"WeavewordModel", "versionsOf", "(I)I"⟩ ⟨"WeavewordModel", "versionsOf", "(I)I"⟩) ∈ lw_all := lw_g (lw_at lw_ms 93 rfl) rfl
theorem qs94 : (Cond.selects "WeavewordModel" ⟨"WeavewordModel", "hasIndex", "(II)Z"⟩ ⟨"WeavewordModel", "hasIndex", "(II)Z"⟩) ∈ lw_all := lw_g (lw_at lw_ms 94 rfl) rfl
theorem qs95 : (Cond.selects "WeavewordModel" ⟨"WeavewordModel", "leadsTo", "(I)I"⟩ ⟨"WeavewordModel", "leadsTo", "(I)I"⟩) ∈ lw_all := lw_g (lw_at lw_ms 95 rfl) rfl
theorem qs96 : (Cond.selects "WeavewordModel" ⟨"WeavewordModel", "isLinked", "(I)Z"⟩ ⟨"WeavewordModel", "isLinked", "(I)Z"⟩) ∈ lw_all := lw_g (lw_at lw_ms 96 rfl) rfl
theorem qs97 : (Cond.selects "WeavewordModel" ⟨"WeavewordModel", "asksIn", "(II)Z"⟩ ⟨"WeavewordModel", "asksIn", "(II)Z"⟩) ∈ lw_all := lw_g (lw_at lw_ms 97 rfl) rfl
theorem qs98 : (Cond.selects "WeavewordModel" ⟨"WeavewordModel", "translated", "(II)I"⟩ ⟨"WeavewordModel", "translated", "(II)I"⟩) ∈ lw_all := lw_g (lw_at lw_ms 98 rfl) rfl
